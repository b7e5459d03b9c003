/-! WordBenchLaw -/
set_option maxRecDepth 100000
def RX0 : String := "WordBenchLaw"
abbrev cX0_word : ByteArray := method_3_code
def yX0_word : MethodName := ⟨RX0, "word", "(LWordBench;II[J)I"⟩
def dkwX0_word_0 : List UInt8 := [45, 3, 42, 27, 28, 182, 0, 7, 80, 167, 0, 11, 58, 4, 4, 172, 58, 4, 5, 172, 3, 172]
abbrev dktX0_word_0 : List UInt8 := dkwX0_word_0 ++ []
theorem dksX0_word_0 : cX0_word.data.toList.drop 0 = dktX0_word_0 := by decide +kernel
theorem dX0_word_0 : decode cX0_word 0 = .ok (.aload_n 3, 1) := dk_45 (dk_at dksX0_word_0 0 rfl rfl)
theorem dX0_word_1 : decode cX0_word 1 = .ok (.iconst 0, 1) := dk_3 (dk_at dksX0_word_0 1 rfl rfl)
theorem dX0_word_2 : decode cX0_word 2 = .ok (.aload_n 0, 1) := dk_42 (dk_at dksX0_word_0 2 rfl rfl)
theorem dX0_word_3 : decode cX0_word 3 = .ok (.iload_n 1, 1) := dk_27 (dk_at dksX0_word_0 3 rfl rfl)
theorem dX0_word_4 : decode cX0_word 4 = .ok (.iload_n 2, 1) := dk_28 (dk_at dksX0_word_0 4 rfl rfl)
theorem dX0_word_5 : decode cX0_word 5 = .ok (.invokevirtual 7, 3) := dk_182 0 7 (dk_at dksX0_word_0 5 rfl rfl)
theorem dX0_word_8 : decode cX0_word 8 = .ok (.lastore, 1) := dk_80 (dk_at dksX0_word_0 8 rfl rfl)
theorem dX0_word_9 : decode cX0_word 9 = .ok (.goto 11, 3) := dk_167 0 11 (dk_at dksX0_word_0 9 rfl rfl)
theorem dX0_word_12 : decode cX0_word 12 = .ok (.astore 4, 2) := dk_58 4 (dk_at dksX0_word_0 12 rfl rfl)
theorem dX0_word_14 : decode cX0_word 14 = .ok (.iconst 1, 1) := dk_4 (dk_at dksX0_word_0 14 rfl rfl)
theorem dX0_word_15 : decode cX0_word 15 = .ok (.ireturn, 1) := dk_172 (dk_at dksX0_word_0 15 rfl rfl)
theorem dX0_word_16 : decode cX0_word 16 = .ok (.astore 4, 2) := dk_58 4 (dk_at dksX0_word_0 16 rfl rfl)
theorem dX0_word_18 : decode cX0_word 18 = .ok (.iconst 2, 1) := dk_5 (dk_at dksX0_word_0 18 rfl rfl)
theorem dX0_word_19 : decode cX0_word 19 = .ok (.ireturn, 1) := dk_172 (dk_at dksX0_word_0 19 rfl rfl)
theorem dX0_word_20 : decode cX0_word 20 = .ok (.iconst 0, 1) := dk_3 (dk_at dksX0_word_0 20 rfl rfl)
theorem dX0_word_21 : decode cX0_word 21 = .ok (.ireturn, 1) := dk_172 (dk_at dksX0_word_0 21 rfl rfl)
abbrev cX0_law : ByteArray := method_4_code
def yX0_law : MethodName := ⟨RX0, "law", "(LWordBench;II[J)I"⟩
def dkwX0_law_0 : List UInt8 := [45, 3, 42, 27, 28, 182, 0, 17, 80, 167, 0, 11, 58, 4, 4, 172, 58, 4, 5, 172, 3, 172]
abbrev dktX0_law_0 : List UInt8 := dkwX0_law_0 ++ []
theorem dksX0_law_0 : cX0_law.data.toList.drop 0 = dktX0_law_0 := by decide +kernel
theorem dX0_law_0 : decode cX0_law 0 = .ok (.aload_n 3, 1) := dk_45 (dk_at dksX0_law_0 0 rfl rfl)
theorem dX0_law_1 : decode cX0_law 1 = .ok (.iconst 0, 1) := dk_3 (dk_at dksX0_law_0 1 rfl rfl)
theorem dX0_law_2 : decode cX0_law 2 = .ok (.aload_n 0, 1) := dk_42 (dk_at dksX0_law_0 2 rfl rfl)
theorem dX0_law_3 : decode cX0_law 3 = .ok (.iload_n 1, 1) := dk_27 (dk_at dksX0_law_0 3 rfl rfl)
theorem dX0_law_4 : decode cX0_law 4 = .ok (.iload_n 2, 1) := dk_28 (dk_at dksX0_law_0 4 rfl rfl)
theorem dX0_law_5 : decode cX0_law 5 = .ok (.invokevirtual 17, 3) := dk_182 0 17 (dk_at dksX0_law_0 5 rfl rfl)
theorem dX0_law_8 : decode cX0_law 8 = .ok (.lastore, 1) := dk_80 (dk_at dksX0_law_0 8 rfl rfl)
theorem dX0_law_9 : decode cX0_law 9 = .ok (.goto 11, 3) := dk_167 0 11 (dk_at dksX0_law_0 9 rfl rfl)
theorem dX0_law_12 : decode cX0_law 12 = .ok (.astore 4, 2) := dk_58 4 (dk_at dksX0_law_0 12 rfl rfl)
theorem dX0_law_14 : decode cX0_law 14 = .ok (.iconst 1, 1) := dk_4 (dk_at dksX0_law_0 14 rfl rfl)
theorem dX0_law_15 : decode cX0_law 15 = .ok (.ireturn, 1) := dk_172 (dk_at dksX0_law_0 15 rfl rfl)
theorem dX0_law_16 : decode cX0_law 16 = .ok (.astore 4, 2) := dk_58 4 (dk_at dksX0_law_0 16 rfl rfl)
theorem dX0_law_18 : decode cX0_law 18 = .ok (.iconst 2, 1) := dk_5 (dk_at dksX0_law_0 18 rfl rfl)
theorem dX0_law_19 : decode cX0_law 19 = .ok (.ireturn, 1) := dk_172 (dk_at dksX0_law_0 19 rfl rfl)
theorem dX0_law_20 : decode cX0_law 20 = .ok (.iconst 0, 1) := dk_3 (dk_at dksX0_law_0 20 rfl rfl)
theorem dX0_law_21 : decode cX0_law 21 = .ok (.ireturn, 1) := dk_172 (dk_at dksX0_law_0 21 rfl rfl)
abbrev cX0_element : ByteArray := method_5_code
def yX0_element : MethodName := ⟨RX0, "element", "(LWordBench;II[J)I"⟩
def dkwX0_element_0 : List UInt8 := [45, 3, 42, 27, 28, 182, 0, 20, 80, 167, 0, 11, 58, 4, 4, 172, 58, 4, 5, 172, 3, 172]
abbrev dktX0_element_0 : List UInt8 := dkwX0_element_0 ++ []
theorem dksX0_element_0 : cX0_element.data.toList.drop 0 = dktX0_element_0 := by decide +kernel
theorem dX0_element_0 : decode cX0_element 0 = .ok (.aload_n 3, 1) := dk_45 (dk_at dksX0_element_0 0 rfl rfl)
theorem dX0_element_1 : decode cX0_element 1 = .ok (.iconst 0, 1) := dk_3 (dk_at dksX0_element_0 1 rfl rfl)
theorem dX0_element_2 : decode cX0_element 2 = .ok (.aload_n 0, 1) := dk_42 (dk_at dksX0_element_0 2 rfl rfl)
theorem dX0_element_3 : decode cX0_element 3 = .ok (.iload_n 1, 1) := dk_27 (dk_at dksX0_element_0 3 rfl rfl)
theorem dX0_element_4 : decode cX0_element 4 = .ok (.iload_n 2, 1) := dk_28 (dk_at dksX0_element_0 4 rfl rfl)
theorem dX0_element_5 : decode cX0_element 5 = .ok (.invokevirtual 20, 3) := dk_182 0 20 (dk_at dksX0_element_0 5 rfl rfl)
theorem dX0_element_8 : decode cX0_element 8 = .ok (.lastore, 1) := dk_80 (dk_at dksX0_element_0 8 rfl rfl)
theorem dX0_element_9 : decode cX0_element 9 = .ok (.goto 11, 3) := dk_167 0 11 (dk_at dksX0_element_0 9 rfl rfl)
theorem dX0_element_12 : decode cX0_element 12 = .ok (.astore 4, 2) := dk_58 4 (dk_at dksX0_element_0 12 rfl rfl)
theorem dX0_element_14 : decode cX0_element 14 = .ok (.iconst 1, 1) := dk_4 (dk_at dksX0_element_0 14 rfl rfl)
theorem dX0_element_15 : decode cX0_element 15 = .ok (.ireturn, 1) := dk_172 (dk_at dksX0_element_0 15 rfl rfl)
theorem dX0_element_16 : decode cX0_element 16 = .ok (.astore 4, 2) := dk_58 4 (dk_at dksX0_element_0 16 rfl rfl)
theorem dX0_element_18 : decode cX0_element 18 = .ok (.iconst 2, 1) := dk_5 (dk_at dksX0_element_0 18 rfl rfl)
theorem dX0_element_19 : decode cX0_element 19 = .ok (.ireturn, 1) := dk_172 (dk_at dksX0_element_0 19 rfl rfl)
theorem dX0_element_20 : decode cX0_element 20 = .ok (.iconst 0, 1) := dk_3 (dk_at dksX0_element_0 20 rfl rfl)
theorem dX0_element_21 : decode cX0_element 21 = .ok (.ireturn, 1) := dk_172 (dk_at dksX0_element_0 21 rfl rfl)
theorem q47 : (Jvm.Cond.initialized "WordBenchLaw") ∈ lw_all := lw_g (lw_at lw_m1 0 rfl) rfl
theorem q78 : (Jvm.Cond.methodLink "WordBenchLaw" (27 : Nat) ({ cls := "WordBench", name := "make", desc := "(IIII)I" } : Jvm.MethodName)) ∈ lw_all := lw_g (lw_at lw_m1 31 rfl) rfl
theorem q179 : (Jvm.Cond.methodLink "WordBenchLaw" (34 : Nat) ({ cls := "WordBench", name := "add", desc := "(IJ)I" } : Jvm.MethodName)) ∈ lw_all := lw_g (lw_at lw_m1 132 rfl) rfl
theorem q230 : (Jvm.Cond.methodLink "WordBenchLaw" (39 : Nat) ({ cls := "WordBench", name := "ring", desc := "(IIIJ)I" } : Jvm.MethodName)) ∈ lw_all := lw_g (lw_at lw_m1 183 rfl) rfl
theorem q256 : (Jvm.Cond.methodLink "WordBenchLaw" (44 : Nat) ({ cls := "WordBench", name := "empty", desc := "(I)I" } : Jvm.MethodName)) ∈ lw_all := lw_g (lw_at lw_m1 209 rfl) rfl
theorem q260 : (Jvm.Cond.methodLink "WordBenchLaw" (49 : Nat) ({ cls := "WordBench", name := "look", desc := "(II)I" } : Jvm.MethodName)) ∈ lw_all := lw_g (lw_at lw_m1 213 rfl) rfl
theorem q332 : (Jvm.Cond.methodLink "WordBenchLaw" (64 : Nat) ({ cls := "WordBench", name := "size", desc := "(I)J" } : Jvm.MethodName)) ∈ lw_all := lw_g (lw_at lw_m2 45 rfl) rfl
theorem q339 : (Jvm.Cond.methodLink "WordBenchLaw" (69 : Nat) ({ cls := "WordBench", name := "in", desc := "(IJ)I" } : Jvm.MethodName)) ∈ lw_all := lw_g (lw_at lw_m2 52 rfl) rfl
theorem q366 : (Jvm.Cond.methodLink "WordBenchLaw" (73 : Nat) ({ cls := "WordBench", name := "sum", desc := "(IIJJI)J" } : Jvm.MethodName)) ∈ lw_all := lw_g (lw_at lw_m2 79 rfl) rfl
theorem q375 : (Jvm.Cond.methodLink "WordBenchLaw" (78 : Nat) ({ cls := "WordBench", name := "way", desc := "(IIJJ)I" } : Jvm.MethodName)) ∈ lw_all := lw_g (lw_at lw_m2 88 rfl) rfl
theorem q382 : (Jvm.Cond.methodLink "WordBenchLaw" (83 : Nat) ({ cls := "WordBench", name := "product", desc := "(IIJJ)I" } : Jvm.MethodName)) ∈ lw_all := lw_g (lw_at lw_m2 95 rfl) rfl
theorem q387 : (Jvm.Cond.methodLink "WordBenchLaw" (87 : Nat) ({ cls := "WordBench", name := "form", desc := "(I)I" } : Jvm.MethodName)) ∈ lw_all := lw_g (lw_at lw_m2 100 rfl) rfl
theorem q392 : (Jvm.Cond.methodLink "WordBenchLaw" (91 : Nat) ({ cls := "WordBench", name := "head", desc := "(II)I" } : Jvm.MethodName)) ∈ lw_all := lw_g (lw_at lw_m2 105 rfl) rfl
theorem q396 : (Jvm.Cond.methodLink "WordBenchLaw" (95 : Nat) ({ cls := "WordBench", name := "dual", desc := "(II)I" } : Jvm.MethodName)) ∈ lw_all := lw_g (lw_at lw_m2 109 rfl) rfl
theorem q411 : (Jvm.Cond.methodLink "WordBenchLaw" (99 : Nat) ({ cls := "WordBench", name := "checks", desc := "(IJ)J" } : Jvm.MethodName)) ∈ lw_all := lw_g (lw_at lw_m2 124 rfl) rfl
theorem q415 : (Jvm.Cond.methodLink "WordBenchLaw" (104 : Nat) ({ cls := "WordBench", name := "least", desc := "(I)I" } : Jvm.MethodName)) ∈ lw_all := lw_g (lw_at lw_m2 128 rfl) rfl
theorem q436 : (Jvm.Cond.methodLink "WordBenchLaw" (108 : Nat) ({ cls := "WordBench", name := "weights", desc := "(II)J" } : Jvm.MethodName)) ∈ lw_all := lw_g (lw_at lw_m2 149 rfl) rfl
theorem q440 : (Jvm.Cond.methodLink "WordBenchLaw" (115 : Nat) ({ cls := "WordBench", name := "beat", desc := "(I)I" } : Jvm.MethodName)) ∈ lw_all := lw_g (lw_at lw_m2 153 rfl) rfl
theorem q444 : (Jvm.Cond.methodLink "WordBenchLaw" (119 : Nat) ({ cls := "WordBench", name := "bound", desc := "(IIII)J" } : Jvm.MethodName)) ∈ lw_all := lw_g (lw_at lw_m2 157 rfl) rfl
theorem q454 : (Jvm.Cond.methodLink "WordBenchLaw" (124 : Nat) ({ cls := "WordBench", name := "read", desc := "(IJI)J" } : Jvm.MethodName)) ∈ lw_all := lw_g (lw_at lw_m2 167 rfl) rfl
theorem q463 : (Jvm.Cond.methodLink "WordBenchLaw" (129 : Nat) ({ cls := "WordBench", name := "near", desc := "(IJI)I" } : Jvm.MethodName)) ∈ lw_all := lw_g (lw_at lw_m2 176 rfl) rfl
theorem q467 : (Jvm.Cond.methodLink "WordBenchLaw" (134 : Nat) ({ cls := "WordBench", name := "cover", desc := "(I)I" } : Jvm.MethodName)) ∈ lw_all := lw_g (lw_at lw_m2 180 rfl) rfl
theorem q480 : (Jvm.Cond.methodLink "WordBenchLaw" (138 : Nat) ({ cls := "WordBench", name := "hole", desc := "(I)J" } : Jvm.MethodName)) ∈ lw_all := lw_g (lw_at lw_m2 193 rfl) rfl
theorem q484 : (Jvm.Cond.methodLink "WordBenchLaw" (142 : Nat) ({ cls := "WordBench", name := "whole", desc := "(I)I" } : Jvm.MethodName)) ∈ lw_all := lw_g (lw_at lw_m2 197 rfl) rfl
theorem q488 : (Jvm.Cond.methodLink "WordBenchLaw" (146 : Nat) ({ cls := "WordBench", name := "longer", desc := "(II)I" } : Jvm.MethodName)) ∈ lw_all := lw_g (lw_at lw_m2 201 rfl) rfl
theorem q497 : (Jvm.Cond.methodLink "WordBenchLaw" (150 : Nat) ({ cls := "WordBench", name := "cut", desc := "(III)I" } : Jvm.MethodName)) ∈ lw_all := lw_g (lw_at lw_m2 210 rfl) rfl
theorem q511 : (Jvm.Cond.methodLink "WordBenchLaw" (155 : Nat) ({ cls := "WordBench", name := "shorter", desc := "(III)I" } : Jvm.MethodName)) ∈ lw_all := lw_g (lw_at lw_m2 224 rfl) rfl
theorem q516 : (Jvm.Cond.methodLink "WordBenchLaw" (159 : Nat) ({ cls := "WordBench", name := "join", desc := "(IIII)I" } : Jvm.MethodName)) ∈ lw_all := lw_g (lw_at lw_m2 229 rfl) rfl
theorem q521 : (Jvm.Cond.methodLink "WordBenchLaw" (163 : Nat) ({ cls := "WordBench", name := "list", desc := "(II)I" } : Jvm.MethodName)) ∈ lw_all := lw_g (lw_at lw_m2 234 rfl) rfl
theorem q525 : (Jvm.Cond.methodLink "WordBenchLaw" (167 : Nat) ({ cls := "WordBench", name := "turn", desc := "(IJII)I" } : Jvm.MethodName)) ∈ lw_all := lw_g (lw_at lw_m2 238 rfl) rfl
theorem q533 : (Jvm.Cond.methodLink "WordBenchLaw" (172 : Nat) ({ cls := "WordBench", name := "same", desc := "(II)I" } : Jvm.MethodName)) ∈ lw_all := lw_g (lw_at lw_m3 6 rfl) rfl
theorem q541 : (Jvm.Cond.methodLink "WordBenchLaw" (176 : Nat) ({ cls := "WordBench", name := "design", desc := "(III)I" } : Jvm.MethodName)) ∈ lw_all := lw_g (lw_at lw_m3 14 rfl) rfl
theorem q545 : (Jvm.Cond.classLink "WordBenchLaw" (8 : Nat) "WordBench") ∈ lw_all := lw_g (lw_at lw_m3 18 rfl) rfl
theorem q546 : (Jvm.Cond.methodLink "WordBenchLaw" (23 : Nat) ({ cls := "WordBench", name := "<init>", desc := "()V" } : Jvm.MethodName)) ∈ lw_all := lw_g (lw_at lw_m3 19 rfl) rfl
theorem q668 : (Jvm.Cond.methodLink "WordBenchLaw" (180 : Nat) ({ cls := "WordBench", name := "keep", desc := "(IIII)I" } : Jvm.MethodName)) ∈ lw_all := lw_g (lw_at lw_m3 141 rfl) rfl
theorem q727 : (Jvm.Cond.methodLink "WordBenchLaw" (184 : Nat) ({ cls := "WordBench", name := "row", desc := "(III)I" } : Jvm.MethodName)) ∈ lw_all := lw_g (lw_at lw_m3 200 rfl) rfl
theorem q819 : (Jvm.Cond.methodLink "WordBenchLaw" (191 : Nat) ({ cls := "WordBench", name := "copy", desc := "(IIIII)I" } : Jvm.MethodName)) ∈ lw_all := lw_g (lw_at lw_m4 52 rfl) rfl
theorem q851 : (Jvm.Cond.methodLink "WordBenchLaw" (196 : Nat) ({ cls := "WordBench", name := "heft", desc := "(I)I" } : Jvm.MethodName)) ∈ lw_all := lw_g (lw_at lw_m4 84 rfl) rfl
theorem q911 : (Jvm.Cond.methodLink "WordBenchLaw" (200 : Nat) ({ cls := "WordBench", name := "toss", desc := "(I)I" } : Jvm.MethodName)) ∈ lw_all := lw_g (lw_at lw_m4 144 rfl) rfl
theorem q945 : (Jvm.Cond.methodLink "WordBenchLaw" (54 : Nat) ({ cls := "WordBenchLaw", name := "word", desc := "(LWordBench;II[J)I" } : Jvm.MethodName)) ∈ lw_all := lw_g (lw_at lw_m4 178 rfl) rfl
theorem q946 : (Jvm.Cond.static ({ cls := "WordBenchLaw", name := "word", desc := "(LWordBench;II[J)I" } : Jvm.MethodName)) ∈ lw_all := lw_g (lw_at lw_m4 179 rfl) rfl
theorem q947 : (Jvm.Cond.codeWith ({ cls := "WordBenchLaw", name := "word", desc := "(LWordBench;II[J)I" } : Jvm.MethodName) method_3_code (5 : Nat) (Option.some Jvm.ClassFile.FieldType.int) [((0 : Nat), (9 : Nat), (12 : Nat), (13 : Nat)), ((0 : Nat), (9 : Nat), (16 : Nat), (15 : Nat))]) ∈ lw_all := lw_g (lw_at lw_m4 180 rfl) rfl
theorem q948 : (Jvm.Cond.classLink "WordBenchLaw" (13 : Nat) "java/lang/IllegalArgumentException") ∈ lw_all := lw_g (lw_at lw_m4 181 rfl) rfl
theorem q949 : (Jvm.Cond.classLink "WordBenchLaw" (15 : Nat) "java/lang/IllegalStateException") ∈ lw_all := lw_g (lw_at lw_m4 182 rfl) rfl
theorem q950 : (Jvm.Cond.methodLink "WordBenchLaw" (7 : Nat) ({ cls := "WordBench", name := "word", desc := "(II)J" } : Jvm.MethodName)) ∈ lw_all := lw_g (lw_at lw_m4 183 rfl) rfl
theorem q984 : (Jvm.Cond.methodLink "WordBenchLaw" (112 : Nat) ({ cls := "WordBenchLaw", name := "law", desc := "(LWordBench;II[J)I" } : Jvm.MethodName)) ∈ lw_all := lw_g (lw_at lw_m4 217 rfl) rfl
theorem q985 : (Jvm.Cond.static ({ cls := "WordBenchLaw", name := "law", desc := "(LWordBench;II[J)I" } : Jvm.MethodName)) ∈ lw_all := lw_g (lw_at lw_m4 218 rfl) rfl
theorem q986 : (Jvm.Cond.codeWith ({ cls := "WordBenchLaw", name := "law", desc := "(LWordBench;II[J)I" } : Jvm.MethodName) method_4_code (5 : Nat) (Option.some Jvm.ClassFile.FieldType.int) [((0 : Nat), (9 : Nat), (12 : Nat), (13 : Nat)), ((0 : Nat), (9 : Nat), (16 : Nat), (15 : Nat))]) ∈ lw_all := lw_g (lw_at lw_m4 219 rfl) rfl
theorem q987 : (Jvm.Cond.methodLink "WordBenchLaw" (17 : Nat) ({ cls := "WordBench", name := "law", desc := "(II)J" } : Jvm.MethodName)) ∈ lw_all := lw_g (lw_at lw_m4 220 rfl) rfl
theorem q994 : (Jvm.Cond.methodLink "WordBenchLaw" (188 : Nat) ({ cls := "WordBenchLaw", name := "element", desc := "(LWordBench;II[J)I" } : Jvm.MethodName)) ∈ lw_all := lw_g (lw_at lw_m4 227 rfl) rfl
theorem q995 : (Jvm.Cond.static ({ cls := "WordBenchLaw", name := "element", desc := "(LWordBench;II[J)I" } : Jvm.MethodName)) ∈ lw_all := lw_g (lw_at lw_m4 228 rfl) rfl
theorem q996 : (Jvm.Cond.codeWith ({ cls := "WordBenchLaw", name := "element", desc := "(LWordBench;II[J)I" } : Jvm.MethodName) method_5_code (5 : Nat) (Option.some Jvm.ClassFile.FieldType.int) [((0 : Nat), (9 : Nat), (12 : Nat), (13 : Nat)), ((0 : Nat), (9 : Nat), (16 : Nat), (15 : Nat))]) ∈ lw_all := lw_g (lw_at lw_m4 229 rfl) rfl
theorem q997 : (Jvm.Cond.methodLink "WordBenchLaw" (20 : Nat) ({ cls := "WordBench", name := "element", desc := "(II)J" } : Jvm.MethodName)) ∈ lw_all := lw_g (lw_at lw_m4 230 rfl) rfl
theorem q1002 : (Jvm.Cond.methodLink "WordBenchLaw" (60 : Nat) ({ cls := "WordBenchModel", name := "thrown", desc := "()I" } : Jvm.MethodName)) ∈ lw_all := lw_g (lw_at lw_m4 235 rfl) rfl
theorem q1006 : (Jvm.Cond.methodLink "WordBenchLaw" (77 : Nat) ({ cls := "WordBenchModel", name := "sum", desc := "(IIJJI)J" } : Jvm.MethodName)) ∈ lw_all := lw_g (lw_at lw_m4 239 rfl) rfl
theorem q1038 : (Jvm.Cond.methodLink "WordBenchLaw" (82 : Nat) ({ cls := "WordBenchModel", name := "way", desc := "(IIJJ)I" } : Jvm.MethodName)) ∈ lw_all := lw_g (lw_at lw_m5 31 rfl) rfl
theorem q1045 : (Jvm.Cond.methodLink "WordBenchLaw" (86 : Nat) ({ cls := "WordBenchModel", name := "product", desc := "(IIJJ)I" } : Jvm.MethodName)) ∈ lw_all := lw_g (lw_at lw_m5 38 rfl) rfl
theorem q1052 : (Jvm.Cond.classLink "WordBenchLaw" (24 : Nat) "WordBenchModel") ∈ lw_all := lw_g (lw_at lw_m5 45 rfl) rfl
theorem q1054 : (Jvm.Cond.methodLink "WordBenchLaw" (26 : Nat) ({ cls := "WordBenchModel", name := "<init>", desc := "()V" } : Jvm.MethodName)) ∈ lw_all := lw_g (lw_at lw_m5 47 rfl) rfl
theorem q1132 : (Jvm.Cond.methodLink "WordBenchLaw" (31 : Nat) ({ cls := "WordBenchModel", name := "make", desc := "(IIII)I" } : Jvm.MethodName)) ∈ lw_all := lw_g (lw_at lw_m5 125 rfl) rfl
theorem q1144 : (Jvm.Cond.methodLink "WordBenchLaw" (38 : Nat) ({ cls := "WordBenchModel", name := "add", desc := "(IJ)I" } : Jvm.MethodName)) ∈ lw_all := lw_g (lw_at lw_m5 137 rfl) rfl
theorem q1164 : (Jvm.Cond.methodLink "WordBenchLaw" (43 : Nat) ({ cls := "WordBenchModel", name := "ring", desc := "(IIIJ)I" } : Jvm.MethodName)) ∈ lw_all := lw_g (lw_at lw_m5 157 rfl) rfl
theorem q1168 : (Jvm.Cond.methodLink "WordBenchLaw" (48 : Nat) ({ cls := "WordBenchModel", name := "empty", desc := "(I)I" } : Jvm.MethodName)) ∈ lw_all := lw_g (lw_at lw_m5 161 rfl) rfl
theorem q1172 : (Jvm.Cond.methodLink "WordBenchLaw" (53 : Nat) ({ cls := "WordBenchModel", name := "look", desc := "(II)I" } : Jvm.MethodName)) ∈ lw_all := lw_g (lw_at lw_m5 165 rfl) rfl
theorem q1190 : (Jvm.Cond.methodLink "WordBenchLaw" (59 : Nat) ({ cls := "WordBenchModel", name := "word", desc := "(II)J" } : Jvm.MethodName)) ∈ lw_all := lw_g (lw_at lw_m5 183 rfl) rfl
theorem q1194 : (Jvm.Cond.methodLink "WordBenchLaw" (68 : Nat) ({ cls := "WordBenchModel", name := "size", desc := "(I)J" } : Jvm.MethodName)) ∈ lw_all := lw_g (lw_at lw_m5 187 rfl) rfl
theorem q1203 : (Jvm.Cond.methodLink "WordBenchLaw" (72 : Nat) ({ cls := "WordBenchModel", name := "in", desc := "(IJ)I" } : Jvm.MethodName)) ∈ lw_all := lw_g (lw_at lw_m5 196 rfl) rfl
theorem q1211 : (Jvm.Cond.methodLink "WordBenchLaw" (90 : Nat) ({ cls := "WordBenchModel", name := "form", desc := "(I)I" } : Jvm.MethodName)) ∈ lw_all := lw_g (lw_at lw_m5 204 rfl) rfl
theorem q1215 : (Jvm.Cond.methodLink "WordBenchLaw" (94 : Nat) ({ cls := "WordBenchModel", name := "head", desc := "(II)I" } : Jvm.MethodName)) ∈ lw_all := lw_g (lw_at lw_m5 208 rfl) rfl
theorem q1219 : (Jvm.Cond.methodLink "WordBenchLaw" (98 : Nat) ({ cls := "WordBenchModel", name := "dual", desc := "(II)I" } : Jvm.MethodName)) ∈ lw_all := lw_g (lw_at lw_m5 212 rfl) rfl
theorem q1227 : (Jvm.Cond.methodLink "WordBenchLaw" (103 : Nat) ({ cls := "WordBenchModel", name := "checks", desc := "(IJ)J" } : Jvm.MethodName)) ∈ lw_all := lw_g (lw_at lw_m5 220 rfl) rfl
theorem q1232 : (Jvm.Cond.methodLink "WordBenchLaw" (107 : Nat) ({ cls := "WordBenchModel", name := "least", desc := "(I)I" } : Jvm.MethodName)) ∈ lw_all := lw_g (lw_at lw_m5 225 rfl) rfl
theorem q1257 : (Jvm.Cond.methodLink "WordBenchLaw" (111 : Nat) ({ cls := "WordBenchModel", name := "weights", desc := "(II)J" } : Jvm.MethodName)) ∈ lw_all := lw_g (lw_at lw_m6 10 rfl) rfl
theorem q1266 : (Jvm.Cond.methodLink "WordBenchLaw" (114 : Nat) ({ cls := "WordBenchModel", name := "law", desc := "(II)J" } : Jvm.MethodName)) ∈ lw_all := lw_g (lw_at lw_m6 19 rfl) rfl
theorem q1276 : (Jvm.Cond.methodLink "WordBenchLaw" (118 : Nat) ({ cls := "WordBenchModel", name := "beat", desc := "(I)I" } : Jvm.MethodName)) ∈ lw_all := lw_g (lw_at lw_m6 29 rfl) rfl
theorem q1280 : (Jvm.Cond.methodLink "WordBenchLaw" (123 : Nat) ({ cls := "WordBenchModel", name := "bound", desc := "(IIII)J" } : Jvm.MethodName)) ∈ lw_all := lw_g (lw_at lw_m6 33 rfl) rfl
theorem q1284 : (Jvm.Cond.methodLink "WordBenchLaw" (128 : Nat) ({ cls := "WordBenchModel", name := "read", desc := "(IJI)J" } : Jvm.MethodName)) ∈ lw_all := lw_g (lw_at lw_m6 37 rfl) rfl
theorem q1301 : (Jvm.Cond.methodLink "WordBenchLaw" (133 : Nat) ({ cls := "WordBenchModel", name := "near", desc := "(IJI)I" } : Jvm.MethodName)) ∈ lw_all := lw_g (lw_at lw_m6 54 rfl) rfl
theorem q1309 : (Jvm.Cond.methodLink "WordBenchLaw" (137 : Nat) ({ cls := "WordBenchModel", name := "cover", desc := "(I)I" } : Jvm.MethodName)) ∈ lw_all := lw_g (lw_at lw_m6 62 rfl) rfl
theorem q1318 : (Jvm.Cond.methodLink "WordBenchLaw" (141 : Nat) ({ cls := "WordBenchModel", name := "hole", desc := "(I)J" } : Jvm.MethodName)) ∈ lw_all := lw_g (lw_at lw_m6 71 rfl) rfl
theorem q1322 : (Jvm.Cond.methodLink "WordBenchLaw" (145 : Nat) ({ cls := "WordBenchModel", name := "whole", desc := "(I)I" } : Jvm.MethodName)) ∈ lw_all := lw_g (lw_at lw_m6 75 rfl) rfl
theorem q1326 : (Jvm.Cond.methodLink "WordBenchLaw" (149 : Nat) ({ cls := "WordBenchModel", name := "longer", desc := "(II)I" } : Jvm.MethodName)) ∈ lw_all := lw_g (lw_at lw_m6 79 rfl) rfl
theorem q1338 : (Jvm.Cond.methodLink "WordBenchLaw" (154 : Nat) ({ cls := "WordBenchModel", name := "cut", desc := "(III)I" } : Jvm.MethodName)) ∈ lw_all := lw_g (lw_at lw_m6 91 rfl) rfl
theorem q1353 : (Jvm.Cond.methodLink "WordBenchLaw" (158 : Nat) ({ cls := "WordBenchModel", name := "shorter", desc := "(III)I" } : Jvm.MethodName)) ∈ lw_all := lw_g (lw_at lw_m6 106 rfl) rfl
theorem q1357 : (Jvm.Cond.methodLink "WordBenchLaw" (162 : Nat) ({ cls := "WordBenchModel", name := "join", desc := "(IIII)I" } : Jvm.MethodName)) ∈ lw_all := lw_g (lw_at lw_m6 110 rfl) rfl
theorem q1365 : (Jvm.Cond.methodLink "WordBenchLaw" (166 : Nat) ({ cls := "WordBenchModel", name := "list", desc := "(II)I" } : Jvm.MethodName)) ∈ lw_all := lw_g (lw_at lw_m6 118 rfl) rfl
theorem q1369 : (Jvm.Cond.methodLink "WordBenchLaw" (171 : Nat) ({ cls := "WordBenchModel", name := "turn", desc := "(IJII)I" } : Jvm.MethodName)) ∈ lw_all := lw_g (lw_at lw_m6 122 rfl) rfl
theorem q1374 : (Jvm.Cond.methodLink "WordBenchLaw" (175 : Nat) ({ cls := "WordBenchModel", name := "same", desc := "(II)I" } : Jvm.MethodName)) ∈ lw_all := lw_g (lw_at lw_m6 127 rfl) rfl
theorem q1382 : (Jvm.Cond.methodLink "WordBenchLaw" (179 : Nat) ({ cls := "WordBenchModel", name := "design", desc := "(III)I" } : Jvm.MethodName)) ∈ lw_all := lw_g (lw_at lw_m6 135 rfl) rfl
theorem q1386 : (Jvm.Cond.methodLink "WordBenchLaw" (183 : Nat) ({ cls := "WordBenchModel", name := "keep", desc := "(IIII)I" } : Jvm.MethodName)) ∈ lw_all := lw_g (lw_at lw_m6 139 rfl) rfl
theorem q1393 : (Jvm.Cond.methodLink "WordBenchLaw" (187 : Nat) ({ cls := "WordBenchModel", name := "row", desc := "(III)I" } : Jvm.MethodName)) ∈ lw_all := lw_g (lw_at lw_m6 146 rfl) rfl
theorem q1397 : (Jvm.Cond.methodLink "WordBenchLaw" (190 : Nat) ({ cls := "WordBenchModel", name := "element", desc := "(II)J" } : Jvm.MethodName)) ∈ lw_all := lw_g (lw_at lw_m6 150 rfl) rfl
theorem q1401 : (Jvm.Cond.methodLink "WordBenchLaw" (195 : Nat) ({ cls := "WordBenchModel", name := "copy", desc := "(IIIII)I" } : Jvm.MethodName)) ∈ lw_all := lw_g (lw_at lw_m6 154 rfl) rfl
theorem q1405 : (Jvm.Cond.methodLink "WordBenchLaw" (199 : Nat) ({ cls := "WordBenchModel", name := "heft", desc := "(I)I" } : Jvm.MethodName)) ∈ lw_all := lw_g (lw_at lw_m6 158 rfl) rfl
theorem q1413 : (Jvm.Cond.methodLink "WordBenchLaw" (203 : Nat) ({ cls := "WordBenchModel", name := "toss", desc := "(I)I" } : Jvm.MethodName)) ∈ lw_all := lw_g (lw_at lw_m6 166 rfl) rfl
theorem q1417 : (Jvm.Cond.constantLong "WordBenchLaw" (32 : Nat) (4294967295 : Int64)) ∈ lw_all := lw_g (lw_at lw_m6 170 rfl) rfl

/-! WordBench$Shelf -/
set_option maxRecDepth 100000
def RX2 : String := "WordBench$Shelf"
def TX2 : u_T := fun k => match k with
  | _ => ("WordBench$Shelf", "held", "Ljava/lang/Object;", false)
def tyX2 : Nat → FieldType := fun k => match k with
  | _ => .object "java/lang/Object"
abbrev wsX20 : List Cond := u_ws RX2 TX2 1
theorem nmX2 : ∀ a, a < 1 → ∀ b, b < 1 → a ≠ b → (TX2 a).2.1 ≠ (TX2 b).2.1 := by decide +kernel
theorem tyX2_ok : ∀ k, k < 1 → parseFieldDescriptor (TX2 k).2.2.1 = some (tyX2 k) := by decide +kernel
abbrev cX2_init : ByteArray := prog_8_method_1_code
def yX2_init : MethodName := ⟨RX2, "<init>", "()V"⟩
theorem dX2_init_0 : decode cX2_init 0 = .ok (.aload_n 0, 1) := by decide +kernel
theorem dX2_init_1 : decode cX2_init 1 = .ok (.invokespecial 1, 3) := by decide +kernel
theorem dX2_init_4 : decode cX2_init 4 = .ok (.return_, 1) := by decide +kernel
theorem q52 : (Jvm.Cond.initialized "WordBench$Shelf") ∈ lw_all := lw_g (lw_at lw_m1 5 rfl) rfl
theorem q579 : (Jvm.Cond.instantiable "WordBench$Shelf" (1 : Nat)) ∈ lw_all := lw_g (lw_at lw_m3 52 rfl) rfl
theorem q581 : (Jvm.Cond.instanceMethod ({ cls := "WordBench$Shelf", name := "<init>", desc := "()V" } : Jvm.MethodName)) ∈ lw_all := lw_g (lw_at lw_m3 54 rfl) rfl
theorem q582 : (Jvm.Cond.code ({ cls := "WordBench$Shelf", name := "<init>", desc := "()V" } : Jvm.MethodName) prog_8_method_1_code (1 : Nat) (Option.none : Option Jvm.ClassFile.FieldType)) ∈ lw_all := lw_g (lw_at lw_m3 55 rfl) rfl
theorem q583 : (Jvm.Cond.methodLink "WordBench$Shelf" (1 : Nat) ({ cls := "java/lang/Object", name := "<init>", desc := "()V" } : Jvm.MethodName)) ∈ lw_all := lw_g (lw_at lw_m3 56 rfl) rfl
theorem q585 : (Jvm.Cond.lays "WordBench$Shelf" "WordBench$Shelf" "held" "Ljava/lang/Object;") ∈ lw_all := lw_g (lw_at lw_m3 58 rfl) rfl
theorem q586 : (Jvm.Cond.soleField "WordBench$Shelf" "held") ∈ lw_all := lw_g (lw_at lw_m3 59 rfl) rfl
theorem q587 : (Jvm.Cond.superclass "WordBench$Shelf" "java/lang/Object") ∈ lw_all := lw_g (lw_at lw_m3 60 rfl) rfl
theorem q626 : (Jvm.Cond.selects "WordBench$Shelf" ({ cls := "java/lang/Object", name := "getClass", desc := "()Ljava/lang/Class;" } : Jvm.MethodName) ({ cls := "java/lang/Object", name := "getClass", desc := "()Ljava/lang/Class;" } : Jvm.MethodName)) ∈ lw_all := lw_g (lw_at lw_m3 99 rfl) rfl
theorem q1431 : (Jvm.Cond.castable "WordBench$Shelf" "java/lang/Object") ∈ lw_tbl := lw_at lw_m6 184 rfl
theorem in_X2 : ∀ w ∈ wsX20, w ∈ lw_all := lw_in wsX20 [585] (by decide +kernel) (by decide +kernel)

/-! WordBench$Code -/
set_option maxRecDepth 100000
def RX4 : String := "WordBench$Code"
abbrev cX4_init : ByteArray := prog_2_method_1_code
def yX4_init : MethodName := ⟨RX4, "<init>", "(III)V"⟩
def dkwX4_init_0 : List UInt8 := [42, 183, 0, 1, 42, 27, 181, 0, 7, 42, 28, 181, 0, 13, 42, 29, 188, 11, 181, 0, 16, 177]
abbrev dktX4_init_0 : List UInt8 := dkwX4_init_0 ++ []
theorem dksX4_init_0 : cX4_init.data.toList.drop 0 = dktX4_init_0 := by decide +kernel
theorem dX4_init_0 : decode cX4_init 0 = .ok (.aload_n 0, 1) := dk_42 (dk_at dksX4_init_0 0 rfl rfl)
theorem dX4_init_1 : decode cX4_init 1 = .ok (.invokespecial 1, 3) := dk_183 0 1 (dk_at dksX4_init_0 1 rfl rfl)
theorem dX4_init_4 : decode cX4_init 4 = .ok (.aload_n 0, 1) := dk_42 (dk_at dksX4_init_0 4 rfl rfl)
theorem dX4_init_5 : decode cX4_init 5 = .ok (.iload_n 1, 1) := dk_27 (dk_at dksX4_init_0 5 rfl rfl)
theorem dX4_init_6 : decode cX4_init 6 = .ok (.putfield 7, 3) := dk_181 0 7 (dk_at dksX4_init_0 6 rfl rfl)
theorem dX4_init_9 : decode cX4_init 9 = .ok (.aload_n 0, 1) := dk_42 (dk_at dksX4_init_0 9 rfl rfl)
theorem dX4_init_10 : decode cX4_init 10 = .ok (.iload_n 2, 1) := dk_28 (dk_at dksX4_init_0 10 rfl rfl)
theorem dX4_init_11 : decode cX4_init 11 = .ok (.putfield 13, 3) := dk_181 0 13 (dk_at dksX4_init_0 11 rfl rfl)
theorem dX4_init_14 : decode cX4_init 14 = .ok (.aload_n 0, 1) := dk_42 (dk_at dksX4_init_0 14 rfl rfl)
theorem dX4_init_15 : decode cX4_init 15 = .ok (.iload_n 3, 1) := dk_29 (dk_at dksX4_init_0 15 rfl rfl)
theorem dX4_init_16 : decode cX4_init 16 = .ok (.newarray .long, 2) := dk_188_11 (dk_at dksX4_init_0 16 rfl rfl)
theorem dX4_init_18 : decode cX4_init 18 = .ok (.putfield 16, 3) := dk_181 0 16 (dk_at dksX4_init_0 18 rfl rfl)
theorem dX4_init_21 : decode cX4_init 21 = .ok (.return_, 1) := dk_177 (dk_at dksX4_init_0 21 rfl rfl)
abbrev cX4_add : ByteArray := prog_2_method_5_code
def yX4_add : MethodName := ⟨RX4, "add", "(J)V"⟩
def dkwX4_add_0 : List UInt8 := [42, 180, 0, 16, 42, 180, 0, 20, 31, 80, 42, 89, 180, 0, 20, 4, 96, 181, 0, 20, 177]
abbrev dktX4_add_0 : List UInt8 := dkwX4_add_0 ++ []
theorem dksX4_add_0 : cX4_add.data.toList.drop 0 = dktX4_add_0 := by decide +kernel
theorem dX4_add_0 : decode cX4_add 0 = .ok (.aload_n 0, 1) := dk_42 (dk_at dksX4_add_0 0 rfl rfl)
theorem dX4_add_1 : decode cX4_add 1 = .ok (.getfield 16, 3) := dk_180 0 16 (dk_at dksX4_add_0 1 rfl rfl)
theorem dX4_add_4 : decode cX4_add 4 = .ok (.aload_n 0, 1) := dk_42 (dk_at dksX4_add_0 4 rfl rfl)
theorem dX4_add_5 : decode cX4_add 5 = .ok (.getfield 20, 3) := dk_180 0 20 (dk_at dksX4_add_0 5 rfl rfl)
theorem dX4_add_8 : decode cX4_add 8 = .ok (.lload_n 1, 1) := dk_31 (dk_at dksX4_add_0 8 rfl rfl)
theorem dX4_add_9 : decode cX4_add 9 = .ok (.lastore, 1) := dk_80 (dk_at dksX4_add_0 9 rfl rfl)
theorem dX4_add_10 : decode cX4_add 10 = .ok (.aload_n 0, 1) := dk_42 (dk_at dksX4_add_0 10 rfl rfl)
theorem dX4_add_11 : decode cX4_add 11 = .ok (.dup, 1) := dk_89 (dk_at dksX4_add_0 11 rfl rfl)
theorem dX4_add_12 : decode cX4_add 12 = .ok (.getfield 20, 3) := dk_180 0 20 (dk_at dksX4_add_0 12 rfl rfl)
theorem dX4_add_15 : decode cX4_add 15 = .ok (.iconst 1, 1) := dk_4 (dk_at dksX4_add_0 15 rfl rfl)
theorem dX4_add_16 : decode cX4_add 16 = .ok (.iadd, 1) := dk_96 (dk_at dksX4_add_0 16 rfl rfl)
theorem dX4_add_17 : decode cX4_add 17 = .ok (.putfield 20, 3) := dk_181 0 20 (dk_at dksX4_add_0 17 rfl rfl)
theorem dX4_add_20 : decode cX4_add 20 = .ok (.return_, 1) := dk_177 (dk_at dksX4_add_0 20 rfl rfl)
abbrev cX4_copy : ByteArray := prog_2_method_6_code
def yX4_copy : MethodName := ⟨RX4, "copy", "()LWordBench$Code;"⟩
def dkwX4_copy_1 : List UInt8 := [184, 0, 27, 43, 42, 180, 0, 20, 181, 0, 20, 43, 176]
abbrev dktX4_copy_1 : List UInt8 := dkwX4_copy_1 ++ []
def dkwX4_copy_0 : List UInt8 := [42, 42, 180, 0, 13, 182, 0, 23, 76, 42, 180, 0, 16, 3, 43, 180, 0, 16, 3, 42, 180, 0, 20]
abbrev dktX4_copy_0 : List UInt8 := dkwX4_copy_0 ++ dktX4_copy_1
theorem dksX4_copy_0 : cX4_copy.data.toList.drop 0 = dktX4_copy_0 := by decide +kernel
theorem dksX4_copy_1 : cX4_copy.data.toList.drop 23 = dktX4_copy_1 := dk_seg dksX4_copy_0 23 rfl rfl
theorem dX4_copy_0 : decode cX4_copy 0 = .ok (.aload_n 0, 1) := dk_42 (dk_at dksX4_copy_0 0 rfl rfl)
theorem dX4_copy_1 : decode cX4_copy 1 = .ok (.aload_n 0, 1) := dk_42 (dk_at dksX4_copy_0 1 rfl rfl)
theorem dX4_copy_2 : decode cX4_copy 2 = .ok (.getfield 13, 3) := dk_180 0 13 (dk_at dksX4_copy_0 2 rfl rfl)
theorem dX4_copy_5 : decode cX4_copy 5 = .ok (.invokevirtual 23, 3) := dk_182 0 23 (dk_at dksX4_copy_0 5 rfl rfl)
theorem dX4_copy_8 : decode cX4_copy 8 = .ok (.astore_n 1, 1) := dk_76 (dk_at dksX4_copy_0 8 rfl rfl)
theorem dX4_copy_9 : decode cX4_copy 9 = .ok (.aload_n 0, 1) := dk_42 (dk_at dksX4_copy_0 9 rfl rfl)
theorem dX4_copy_10 : decode cX4_copy 10 = .ok (.getfield 16, 3) := dk_180 0 16 (dk_at dksX4_copy_0 10 rfl rfl)
theorem dX4_copy_13 : decode cX4_copy 13 = .ok (.iconst 0, 1) := dk_3 (dk_at dksX4_copy_0 13 rfl rfl)
theorem dX4_copy_14 : decode cX4_copy 14 = .ok (.aload_n 1, 1) := dk_43 (dk_at dksX4_copy_0 14 rfl rfl)
theorem dX4_copy_15 : decode cX4_copy 15 = .ok (.getfield 16, 3) := dk_180 0 16 (dk_at dksX4_copy_0 15 rfl rfl)
theorem dX4_copy_18 : decode cX4_copy 18 = .ok (.iconst 0, 1) := dk_3 (dk_at dksX4_copy_0 18 rfl rfl)
theorem dX4_copy_19 : decode cX4_copy 19 = .ok (.aload_n 0, 1) := dk_42 (dk_at dksX4_copy_0 19 rfl rfl)
theorem dX4_copy_20 : decode cX4_copy 20 = .ok (.getfield 20, 3) := dk_180 0 20 (dk_at dksX4_copy_0 20 rfl rfl)
theorem dX4_copy_23 : decode cX4_copy 23 = .ok (.invokestatic 27, 3) := dk_184 0 27 (dk_at dksX4_copy_1 0 rfl rfl)
theorem dX4_copy_26 : decode cX4_copy 26 = .ok (.aload_n 1, 1) := dk_43 (dk_at dksX4_copy_1 3 rfl rfl)
theorem dX4_copy_27 : decode cX4_copy 27 = .ok (.aload_n 0, 1) := dk_42 (dk_at dksX4_copy_1 4 rfl rfl)
theorem dX4_copy_28 : decode cX4_copy 28 = .ok (.getfield 20, 3) := dk_180 0 20 (dk_at dksX4_copy_1 5 rfl rfl)
theorem dX4_copy_31 : decode cX4_copy 31 = .ok (.putfield 20, 3) := dk_181 0 20 (dk_at dksX4_copy_1 8 rfl rfl)
theorem dX4_copy_34 : decode cX4_copy 34 = .ok (.aload_n 1, 1) := dk_43 (dk_at dksX4_copy_1 11 rfl rfl)
theorem dX4_copy_35 : decode cX4_copy 35 = .ok (.areturn, 1) := dk_176 (dk_at dksX4_copy_1 12 rfl rfl)
abbrev cX4_heft : ByteArray := prog_2_method_7_code
def yX4_heft : MethodName := ⟨RX4, "heft", "()I"⟩
theorem dX4_heft_0 : decode cX4_heft 0 = .ok (.aload_n 0, 1) := by decide +kernel
theorem dX4_heft_1 : decode cX4_heft 1 = .ok (.getfield 20, 3) := by decide +kernel
theorem dX4_heft_4 : decode cX4_heft 4 = .ok (.ireturn, 1) := by decide +kernel
abbrev cX4_failure : ByteArray := prog_2_method_8_code
def yX4_failure : MethodName := ⟨RX4, "failure", "()LWordBench$Tossed;"⟩
theorem dX4_failure_0 : decode cX4_failure 0 = .ok (.aconst_null, 1) := by decide +kernel
theorem dX4_failure_1 : decode cX4_failure 1 = .ok (.areturn, 1) := by decide +kernel
theorem q58 : (Jvm.Cond.initialized "WordBench$Code") ∈ lw_all := lw_g (lw_at lw_m1 11 rfl) rfl
theorem q101 : (Jvm.Cond.instanceMethod ({ cls := "WordBench$Code", name := "<init>", desc := "(III)V" } : Jvm.MethodName)) ∈ lw_all := lw_g (lw_at lw_m1 54 rfl) rfl
theorem q102 : (Jvm.Cond.code ({ cls := "WordBench$Code", name := "<init>", desc := "(III)V" } : Jvm.MethodName) prog_2_method_1_code (4 : Nat) (Option.none : Option Jvm.ClassFile.FieldType)) ∈ lw_all := lw_g (lw_at lw_m1 55 rfl) rfl
theorem q103 : (Jvm.Cond.methodLink "WordBench$Code" (1 : Nat) ({ cls := "java/lang/Object", name := "<init>", desc := "()V" } : Jvm.MethodName)) ∈ lw_all := lw_g (lw_at lw_m1 56 rfl) rfl
theorem q106 : (Jvm.Cond.fieldLink "WordBench$Code" (7 : Nat) "WordBench$Code" "q" "I") ∈ lw_all := lw_g (lw_at lw_m1 59 rfl) rfl
theorem q117 : (Jvm.Cond.fieldLink "WordBench$Code" (13 : Nat) "WordBench$Code" "n" "I") ∈ lw_all := lw_g (lw_at lw_m1 70 rfl) rfl
theorem q124 : (Jvm.Cond.fieldLink "WordBench$Code" (16 : Nat) "WordBench$Code" "rows" "[J") ∈ lw_all := lw_g (lw_at lw_m1 77 rfl) rfl
theorem q140 : (Jvm.Cond.fieldLink "WordBench$Code" (20 : Nat) "WordBench$Code" "size" "I") ∈ lw_all := lw_g (lw_at lw_m1 93 rfl) rfl
theorem q143 : (Jvm.Cond.soleField "WordBench$Code" "q") ∈ lw_all := lw_g (lw_at lw_m1 96 rfl) rfl
theorem q145 : (Jvm.Cond.soleField "WordBench$Code" "n") ∈ lw_all := lw_g (lw_at lw_m1 98 rfl) rfl
theorem q147 : (Jvm.Cond.soleField "WordBench$Code" "rows") ∈ lw_all := lw_g (lw_at lw_m1 100 rfl) rfl
theorem q149 : (Jvm.Cond.soleField "WordBench$Code" "size") ∈ lw_all := lw_g (lw_at lw_m1 102 rfl) rfl
theorem q194 : (Jvm.Cond.declares ({ cls := "WordBench$Code", name := "refuses", desc := "(J)I" } : Jvm.MethodName)) ∈ lw_tbl := lw_at lw_m1 147 rfl
theorem q195 : (Jvm.Cond.sameMethod "WordBench$Code" "WordBench$Code" "refuses" "(J)I") ∈ lw_all := lw_g (lw_at lw_m1 148 rfl) rfl
theorem q223 : (Jvm.Cond.instanceMethod ({ cls := "WordBench$Code", name := "add", desc := "(J)V" } : Jvm.MethodName)) ∈ lw_all := lw_g (lw_at lw_m1 176 rfl) rfl
theorem q224 : (Jvm.Cond.sameMethod "WordBench$Code" "WordBench$Code" "add" "(J)V") ∈ lw_all := lw_g (lw_at lw_m1 177 rfl) rfl
theorem q229 : (Jvm.Cond.code ({ cls := "WordBench$Code", name := "add", desc := "(J)V" } : Jvm.MethodName) prog_2_method_5_code (3 : Nat) (Option.none : Option Jvm.ClassFile.FieldType)) ∈ lw_all := lw_g (lw_at lw_m1 182 rfl) rfl
theorem q254 : (Jvm.Cond.declares ({ cls := "WordBench$Code", name := "add", desc := "(J)V" } : Jvm.MethodName)) ∈ lw_tbl := lw_at lw_m1 207 rfl
theorem q265 : (Jvm.Cond.declares ({ cls := "WordBench$Code", name := "kind", desc := "()I" } : Jvm.MethodName)) ∈ lw_tbl := lw_at lw_m1 218 rfl
theorem q266 : (Jvm.Cond.sameMethod "WordBench$Code" "WordBench$Code" "kind" "()I") ∈ lw_all := lw_g (lw_at lw_m1 219 rfl) rfl
theorem q691 : (Jvm.Cond.instanceMethod ({ cls := "WordBench$Code", name := "copy", desc := "()LWordBench$Code;" } : Jvm.MethodName)) ∈ lw_all := lw_g (lw_at lw_m3 164 rfl) rfl
theorem q692 : (Jvm.Cond.sameMethod "WordBench$Code" "WordBench$Code" "copy" "()LWordBench$Code;") ∈ lw_all := lw_g (lw_at lw_m3 165 rfl) rfl
theorem q697 : (Jvm.Cond.code ({ cls := "WordBench$Code", name := "copy", desc := "()LWordBench$Code;" } : Jvm.MethodName) prog_2_method_6_code (2 : Nat) (Option.some (Jvm.ClassFile.FieldType.object "WordBench$Code"))) ∈ lw_all := lw_g (lw_at lw_m3 170 rfl) rfl
theorem q698 : (Jvm.Cond.methodLink "WordBench$Code" (23 : Nat) ({ cls := "WordBench$Code", name := "another", desc := "(I)LWordBench$Code;" } : Jvm.MethodName)) ∈ lw_all := lw_g (lw_at lw_m3 171 rfl) rfl
theorem q699 : (Jvm.Cond.declares ({ cls := "WordBench$Code", name := "another", desc := "(I)LWordBench$Code;" } : Jvm.MethodName)) ∈ lw_tbl := lw_at lw_m3 172 rfl
theorem q700 : (Jvm.Cond.sameMethod "WordBench$Code" "WordBench$Code" "another" "(I)LWordBench$Code;") ∈ lw_all := lw_g (lw_at lw_m3 173 rfl) rfl
theorem q721 : (Jvm.Cond.methodLink "WordBench$Code" (27 : Nat) ({ cls := "java/lang/System", name := "arraycopy", desc := "(Ljava/lang/Object;ILjava/lang/Object;II)V" } : Jvm.MethodName)) ∈ lw_all := lw_g (lw_at lw_m3 194 rfl) rfl
theorem q895 : (Jvm.Cond.instanceMethod ({ cls := "WordBench$Code", name := "heft", desc := "()I" } : Jvm.MethodName)) ∈ lw_all := lw_g (lw_at lw_m4 128 rfl) rfl
theorem q896 : (Jvm.Cond.sameMethod "WordBench$Code" "WordBench$Code" "heft" "()I") ∈ lw_all := lw_g (lw_at lw_m4 129 rfl) rfl
theorem q910 : (Jvm.Cond.code ({ cls := "WordBench$Code", name := "heft", desc := "()I" } : Jvm.MethodName) prog_2_method_7_code (1 : Nat) (Option.some Jvm.ClassFile.FieldType.int)) ∈ lw_all := lw_g (lw_at lw_m4 143 rfl) rfl
theorem q917 : (Jvm.Cond.instanceMethod ({ cls := "WordBench$Code", name := "failure", desc := "()LWordBench$Tossed;" } : Jvm.MethodName)) ∈ lw_all := lw_g (lw_at lw_m4 150 rfl) rfl
theorem q918 : (Jvm.Cond.sameMethod "WordBench$Code" "WordBench$Code" "failure" "()LWordBench$Tossed;") ∈ lw_all := lw_g (lw_at lw_m4 151 rfl) rfl
theorem q944 : (Jvm.Cond.code ({ cls := "WordBench$Code", name := "failure", desc := "()LWordBench$Tossed;" } : Jvm.MethodName) prog_2_method_8_code (1 : Nat) (Option.some (Jvm.ClassFile.FieldType.object "WordBench$Tossed"))) ∈ lw_all := lw_g (lw_at lw_m4 177 rfl) rfl
theorem q1428 : (Jvm.Cond.castable "WordBench$Code" "java/lang/Object") ∈ lw_tbl := lw_at lw_m6 181 rfl

/-! WordBench$List -/
set_option maxRecDepth 100000
def RX5 : String := "WordBench$List"
def TX5 : u_T := fun k => match k with
  | 0 => ("WordBench$Code", "q", "I", true)
  | 1 => ("WordBench$Code", "n", "I", true)
  | 2 => ("WordBench$Code", "rows", "[J", true)
  | _ => ("WordBench$Code", "size", "I", false)
def tyX5 : Nat → FieldType := fun k => match k with
  | 0 => .int
  | 1 => .int
  | 2 => .array .long
  | _ => .int
abbrev wsX50 : List Cond := u_ws RX5 TX5 4
theorem nmX5 : ∀ a, a < 4 → ∀ b, b < 4 → a ≠ b → (TX5 a).2.1 ≠ (TX5 b).2.1 := by decide +kernel
theorem tyX5_ok : ∀ k, k < 4 → parseFieldDescriptor (TX5 k).2.2.1 = some (tyX5 k) := by decide +kernel
abbrev cX5_init : ByteArray := prog_5_method_1_code
def yX5_init : MethodName := ⟨RX5, "<init>", "(II)V"⟩
def dkwX5_init_0 : List UInt8 := [42, 27, 28, 17, 0, 200, 183, 0, 3, 177]
abbrev dktX5_init_0 : List UInt8 := dkwX5_init_0 ++ []
theorem dksX5_init_0 : cX5_init.data.toList.drop 0 = dktX5_init_0 := by decide +kernel
theorem dX5_init_0 : decode cX5_init 0 = .ok (.aload_n 0, 1) := dk_42 (dk_at dksX5_init_0 0 rfl rfl)
theorem dX5_init_1 : decode cX5_init 1 = .ok (.iload_n 1, 1) := dk_27 (dk_at dksX5_init_0 1 rfl rfl)
theorem dX5_init_2 : decode cX5_init 2 = .ok (.iload_n 2, 1) := dk_28 (dk_at dksX5_init_0 2 rfl rfl)
theorem dX5_init_3 : decode cX5_init 3 = .ok (.sipush 200, 3) := dk_17 0 200 (dk_at dksX5_init_0 3 rfl rfl)
theorem dX5_init_6 : decode cX5_init 6 = .ok (.invokespecial 3, 3) := dk_183 0 3 (dk_at dksX5_init_0 6 rfl rfl)
theorem dX5_init_9 : decode cX5_init 9 = .ok (.return_, 1) := dk_177 (dk_at dksX5_init_0 9 rfl rfl)
abbrev cX5_refuses : ByteArray := prog_5_method_5_code
def yX5_refuses : MethodName := ⟨RX5, "refuses", "(J)I"⟩
def dkwX5_refuses_1 : List UInt8 := [16, 250, 167, 0, 4, 3, 172]
abbrev dktX5_refuses_1 : List UInt8 := dkwX5_refuses_1 ++ []
def dkwX5_refuses_0 : List UInt8 := [42, 31, 182, 0, 25, 153, 0, 8, 16, 253, 167, 0, 19, 42, 180, 0, 18, 17, 0, 200, 160, 0, 8]
abbrev dktX5_refuses_0 : List UInt8 := dkwX5_refuses_0 ++ dktX5_refuses_1
theorem dksX5_refuses_0 : cX5_refuses.data.toList.drop 0 = dktX5_refuses_0 := by decide +kernel
theorem dksX5_refuses_1 : cX5_refuses.data.toList.drop 23 = dktX5_refuses_1 := dk_seg dksX5_refuses_0 23 rfl rfl
theorem dX5_refuses_0 : decode cX5_refuses 0 = .ok (.aload_n 0, 1) := dk_42 (dk_at dksX5_refuses_0 0 rfl rfl)
theorem dX5_refuses_1 : decode cX5_refuses 1 = .ok (.lload_n 1, 1) := dk_31 (dk_at dksX5_refuses_0 1 rfl rfl)
theorem dX5_refuses_2 : decode cX5_refuses 2 = .ok (.invokevirtual 25, 3) := dk_182 0 25 (dk_at dksX5_refuses_0 2 rfl rfl)
theorem dX5_refuses_5 : decode cX5_refuses 5 = .ok (.ifCond .eq 8, 3) := dk_153 0 8 (dk_at dksX5_refuses_0 5 rfl rfl)
theorem dX5_refuses_8 : decode cX5_refuses 8 = .ok (.bipush (-3), 2) := dk_16 253 (dk_at dksX5_refuses_0 8 rfl rfl)
theorem dX5_refuses_10 : decode cX5_refuses 10 = .ok (.goto 19, 3) := dk_167 0 19 (dk_at dksX5_refuses_0 10 rfl rfl)
theorem dX5_refuses_13 : decode cX5_refuses 13 = .ok (.aload_n 0, 1) := dk_42 (dk_at dksX5_refuses_0 13 rfl rfl)
theorem dX5_refuses_14 : decode cX5_refuses 14 = .ok (.getfield 18, 3) := dk_180 0 18 (dk_at dksX5_refuses_0 14 rfl rfl)
theorem dX5_refuses_17 : decode cX5_refuses 17 = .ok (.sipush 200, 3) := dk_17 0 200 (dk_at dksX5_refuses_0 17 rfl rfl)
theorem dX5_refuses_20 : decode cX5_refuses 20 = .ok (.if_icmp .ne 8, 3) := dk_160 0 8 (dk_at dksX5_refuses_0 20 rfl rfl)
theorem dX5_refuses_23 : decode cX5_refuses 23 = .ok (.bipush (-6), 2) := dk_16 250 (dk_at dksX5_refuses_1 0 rfl rfl)
theorem dX5_refuses_25 : decode cX5_refuses 25 = .ok (.goto 4, 3) := dk_167 0 4 (dk_at dksX5_refuses_1 2 rfl rfl)
theorem dX5_refuses_28 : decode cX5_refuses 28 = .ok (.iconst 0, 1) := dk_3 (dk_at dksX5_refuses_1 5 rfl rfl)
theorem dX5_refuses_29 : decode cX5_refuses 29 = .ok (.ireturn, 1) := dk_172 (dk_at dksX5_refuses_1 6 rfl rfl)
abbrev cX5_has : ByteArray := prog_5_method_4_code
def yX5_has : MethodName := ⟨RX5, "has", "(J)Z"⟩
def dkwX5_has_1 : List UInt8 := [154, 0, 7, 4, 167, 0, 4, 3, 128, 62, 132, 4, 1, 167, 255, 224, 29, 172]
abbrev dktX5_has_1 : List UInt8 := dkwX5_has_1 ++ []
def dkwX5_has_0 : List UInt8 := [3, 62, 3, 54, 4, 21, 4, 42, 180, 0, 18, 162, 0, 29, 29, 42, 180, 0, 21, 21, 4, 47, 31, 148]
abbrev dktX5_has_0 : List UInt8 := dkwX5_has_0 ++ dktX5_has_1
theorem dksX5_has_0 : cX5_has.data.toList.drop 0 = dktX5_has_0 := by decide +kernel
theorem dksX5_has_1 : cX5_has.data.toList.drop 24 = dktX5_has_1 := dk_seg dksX5_has_0 24 rfl rfl
theorem dX5_has_0 : decode cX5_has 0 = .ok (.iconst 0, 1) := dk_3 (dk_at dksX5_has_0 0 rfl rfl)
theorem dX5_has_1 : decode cX5_has 1 = .ok (.istore_n 3, 1) := dk_62 (dk_at dksX5_has_0 1 rfl rfl)
theorem dX5_has_2 : decode cX5_has 2 = .ok (.iconst 0, 1) := dk_3 (dk_at dksX5_has_0 2 rfl rfl)
theorem dX5_has_3 : decode cX5_has 3 = .ok (.istore 4, 2) := dk_54 4 (dk_at dksX5_has_0 3 rfl rfl)
theorem dX5_has_5 : decode cX5_has 5 = .ok (.iload 4, 2) := dk_21 4 (dk_at dksX5_has_0 5 rfl rfl)
theorem dX5_has_7 : decode cX5_has 7 = .ok (.aload_n 0, 1) := dk_42 (dk_at dksX5_has_0 7 rfl rfl)
theorem dX5_has_8 : decode cX5_has 8 = .ok (.getfield 18, 3) := dk_180 0 18 (dk_at dksX5_has_0 8 rfl rfl)
theorem dX5_has_11 : decode cX5_has 11 = .ok (.if_icmp .ge 29, 3) := dk_162 0 29 (dk_at dksX5_has_0 11 rfl rfl)
theorem dX5_has_14 : decode cX5_has 14 = .ok (.iload_n 3, 1) := dk_29 (dk_at dksX5_has_0 14 rfl rfl)
theorem dX5_has_15 : decode cX5_has 15 = .ok (.aload_n 0, 1) := dk_42 (dk_at dksX5_has_0 15 rfl rfl)
theorem dX5_has_16 : decode cX5_has 16 = .ok (.getfield 21, 3) := dk_180 0 21 (dk_at dksX5_has_0 16 rfl rfl)
theorem dX5_has_19 : decode cX5_has 19 = .ok (.iload 4, 2) := dk_21 4 (dk_at dksX5_has_0 19 rfl rfl)
theorem dX5_has_21 : decode cX5_has 21 = .ok (.laload, 1) := dk_47 (dk_at dksX5_has_0 21 rfl rfl)
theorem dX5_has_22 : decode cX5_has 22 = .ok (.lload_n 1, 1) := dk_31 (dk_at dksX5_has_0 22 rfl rfl)
theorem dX5_has_23 : decode cX5_has 23 = .ok (.lcmp, 1) := dk_148 (dk_at dksX5_has_0 23 rfl rfl)
theorem dX5_has_24 : decode cX5_has 24 = .ok (.ifCond .ne 7, 3) := dk_154 0 7 (dk_at dksX5_has_1 0 rfl rfl)
theorem dX5_has_27 : decode cX5_has 27 = .ok (.iconst 1, 1) := dk_4 (dk_at dksX5_has_1 3 rfl rfl)
theorem dX5_has_28 : decode cX5_has 28 = .ok (.goto 4, 3) := dk_167 0 4 (dk_at dksX5_has_1 4 rfl rfl)
theorem dX5_has_31 : decode cX5_has 31 = .ok (.iconst 0, 1) := dk_3 (dk_at dksX5_has_1 7 rfl rfl)
theorem dX5_has_32 : decode cX5_has 32 = .ok (.ior, 1) := dk_128 (dk_at dksX5_has_1 8 rfl rfl)
theorem dX5_has_33 : decode cX5_has 33 = .ok (.istore_n 3, 1) := dk_62 (dk_at dksX5_has_1 9 rfl rfl)
theorem dX5_has_34 : decode cX5_has 34 = .ok (.iinc 4 1, 3) := dk_132 4 1 (dk_at dksX5_has_1 10 rfl rfl)
theorem dX5_has_37 : decode cX5_has 37 = .ok (.goto (-32), 3) := dk_167 255 224 (dk_at dksX5_has_1 13 rfl rfl)
theorem dX5_has_40 : decode cX5_has 40 = .ok (.iload_n 3, 1) := dk_29 (dk_at dksX5_has_1 16 rfl rfl)
theorem dX5_has_41 : decode cX5_has 41 = .ok (.ireturn, 1) := dk_172 (dk_at dksX5_has_1 17 rfl rfl)
abbrev cX5_kind : ByteArray := prog_5_method_2_code
def yX5_kind : MethodName := ⟨RX5, "kind", "()I"⟩
theorem dX5_kind_0 : decode cX5_kind 0 = .ok (.iconst 0, 1) := by decide +kernel
theorem dX5_kind_1 : decode cX5_kind 1 = .ok (.ireturn, 1) := by decide +kernel
abbrev cX5_another : ByteArray := prog_5_method_3_code
def yX5_another : MethodName := ⟨RX5, "another", "(I)LWordBench$Code;"⟩
def dkwX5_another_0 : List UInt8 := [187, 0, 9, 89, 42, 180, 0, 11, 27, 183, 0, 15, 176]
abbrev dktX5_another_0 : List UInt8 := dkwX5_another_0 ++ []
theorem dksX5_another_0 : cX5_another.data.toList.drop 0 = dktX5_another_0 := by decide +kernel
theorem dX5_another_0 : decode cX5_another 0 = .ok (.new 9, 3) := dk_187 0 9 (dk_at dksX5_another_0 0 rfl rfl)
theorem dX5_another_3 : decode cX5_another 3 = .ok (.dup, 1) := dk_89 (dk_at dksX5_another_0 3 rfl rfl)
theorem dX5_another_4 : decode cX5_another 4 = .ok (.aload_n 0, 1) := dk_42 (dk_at dksX5_another_0 4 rfl rfl)
theorem dX5_another_5 : decode cX5_another 5 = .ok (.getfield 11, 3) := dk_180 0 11 (dk_at dksX5_another_0 5 rfl rfl)
theorem dX5_another_8 : decode cX5_another 8 = .ok (.iload_n 1, 1) := dk_27 (dk_at dksX5_another_0 8 rfl rfl)
theorem dX5_another_9 : decode cX5_another 9 = .ok (.invokespecial 15, 3) := dk_183 0 15 (dk_at dksX5_another_0 9 rfl rfl)
theorem dX5_another_12 : decode cX5_another 12 = .ok (.areturn, 1) := dk_176 (dk_at dksX5_another_0 12 rfl rfl)
theorem q59 : (Jvm.Cond.initialized "WordBench$List") ∈ lw_all := lw_g (lw_at lw_m1 12 rfl) rfl
theorem q96 : (Jvm.Cond.instantiable "WordBench$List" (4 : Nat)) ∈ lw_all := lw_g (lw_at lw_m1 49 rfl) rfl
theorem q98 : (Jvm.Cond.instanceMethod ({ cls := "WordBench$List", name := "<init>", desc := "(II)V" } : Jvm.MethodName)) ∈ lw_all := lw_g (lw_at lw_m1 51 rfl) rfl
theorem q99 : (Jvm.Cond.code ({ cls := "WordBench$List", name := "<init>", desc := "(II)V" } : Jvm.MethodName) prog_5_method_1_code (3 : Nat) (Option.none : Option Jvm.ClassFile.FieldType)) ∈ lw_all := lw_g (lw_at lw_m1 52 rfl) rfl
theorem q100 : (Jvm.Cond.methodLink "WordBench$List" (3 : Nat) ({ cls := "WordBench$Code", name := "<init>", desc := "(III)V" } : Jvm.MethodName)) ∈ lw_all := lw_g (lw_at lw_m1 53 rfl) rfl
theorem q114 : (Jvm.Cond.fieldLink "WordBench$List" (11 : Nat) "WordBench$List" "q" "I") ∈ lw_all := lw_g (lw_at lw_m1 67 rfl) rfl
theorem q115 : (Jvm.Cond.sameField "WordBench$List" "WordBench$Code" "q" "I") ∈ lw_all := lw_g (lw_at lw_m1 68 rfl) rfl
theorem q126 : (Jvm.Cond.fieldLink "WordBench$List" (21 : Nat) "WordBench$List" "rows" "[J") ∈ lw_all := lw_g (lw_at lw_m1 79 rfl) rfl
theorem q127 : (Jvm.Cond.sameField "WordBench$List" "WordBench$Code" "rows" "[J") ∈ lw_all := lw_g (lw_at lw_m1 80 rfl) rfl
theorem q136 : (Jvm.Cond.fieldLink "WordBench$List" (18 : Nat) "WordBench$List" "size" "I") ∈ lw_all := lw_g (lw_at lw_m1 89 rfl) rfl
theorem q137 : (Jvm.Cond.sameField "WordBench$List" "WordBench$Code" "size" "I") ∈ lw_all := lw_g (lw_at lw_m1 90 rfl) rfl
theorem q142 : (Jvm.Cond.laysFinal "WordBench$List" "WordBench$Code" "q" "I") ∈ lw_all := lw_g (lw_at lw_m1 95 rfl) rfl
theorem q144 : (Jvm.Cond.laysFinal "WordBench$List" "WordBench$Code" "n" "I") ∈ lw_all := lw_g (lw_at lw_m1 97 rfl) rfl
theorem q146 : (Jvm.Cond.laysFinal "WordBench$List" "WordBench$Code" "rows" "[J") ∈ lw_all := lw_g (lw_at lw_m1 99 rfl) rfl
theorem q148 : (Jvm.Cond.lays "WordBench$List" "WordBench$Code" "size" "I") ∈ lw_all := lw_g (lw_at lw_m1 101 rfl) rfl
theorem q150 : (Jvm.Cond.superclass "WordBench$List" "WordBench$Code") ∈ lw_all := lw_g (lw_at lw_m1 103 rfl) rfl
theorem q199 : (Jvm.Cond.selects "WordBench$List" ({ cls := "WordBench$Code", name := "refuses", desc := "(J)I" } : Jvm.MethodName) ({ cls := "WordBench$List", name := "refuses", desc := "(J)I" } : Jvm.MethodName)) ∈ lw_all := lw_g (lw_at lw_m1 152 rfl) rfl
theorem q200 : (Jvm.Cond.instanceMethod ({ cls := "WordBench$List", name := "refuses", desc := "(J)I" } : Jvm.MethodName)) ∈ lw_all := lw_g (lw_at lw_m1 153 rfl) rfl
theorem q201 : (Jvm.Cond.code ({ cls := "WordBench$List", name := "refuses", desc := "(J)I" } : Jvm.MethodName) prog_5_method_5_code (3 : Nat) (Option.some Jvm.ClassFile.FieldType.int)) ∈ lw_all := lw_g (lw_at lw_m1 154 rfl) rfl
theorem q202 : (Jvm.Cond.methodLink "WordBench$List" (25 : Nat) ({ cls := "WordBench$List", name := "has", desc := "(J)Z" } : Jvm.MethodName)) ∈ lw_all := lw_g (lw_at lw_m1 155 rfl) rfl
theorem q203 : (Jvm.Cond.instanceMethod ({ cls := "WordBench$List", name := "has", desc := "(J)Z" } : Jvm.MethodName)) ∈ lw_all := lw_g (lw_at lw_m1 156 rfl) rfl
theorem q204 : (Jvm.Cond.selects "WordBench$List" ({ cls := "WordBench$List", name := "has", desc := "(J)Z" } : Jvm.MethodName) ({ cls := "WordBench$List", name := "has", desc := "(J)Z" } : Jvm.MethodName)) ∈ lw_all := lw_g (lw_at lw_m1 157 rfl) rfl
theorem q205 : (Jvm.Cond.code ({ cls := "WordBench$List", name := "has", desc := "(J)Z" } : Jvm.MethodName) prog_5_method_4_code (5 : Nat) (Option.some Jvm.ClassFile.FieldType.boolean)) ∈ lw_all := lw_g (lw_at lw_m1 158 rfl) rfl
theorem q226 : (Jvm.Cond.selects "WordBench$List" ({ cls := "WordBench$Code", name := "add", desc := "(J)V" } : Jvm.MethodName) ({ cls := "WordBench$Code", name := "add", desc := "(J)V" } : Jvm.MethodName)) ∈ lw_all := lw_g (lw_at lw_m1 179 rfl) rfl
theorem q270 : (Jvm.Cond.selects "WordBench$List" ({ cls := "WordBench$Code", name := "kind", desc := "()I" } : Jvm.MethodName) ({ cls := "WordBench$List", name := "kind", desc := "()I" } : Jvm.MethodName)) ∈ lw_all := lw_g (lw_at lw_m1 223 rfl) rfl
theorem q271 : (Jvm.Cond.instanceMethod ({ cls := "WordBench$List", name := "kind", desc := "()I" } : Jvm.MethodName)) ∈ lw_all := lw_g (lw_at lw_m1 224 rfl) rfl
theorem q272 : (Jvm.Cond.code ({ cls := "WordBench$List", name := "kind", desc := "()I" } : Jvm.MethodName) prog_5_method_2_code (1 : Nat) (Option.some Jvm.ClassFile.FieldType.int)) ∈ lw_all := lw_g (lw_at lw_m1 225 rfl) rfl
theorem q623 : (Jvm.Cond.selects "WordBench$List" ({ cls := "java/lang/Object", name := "getClass", desc := "()Ljava/lang/Class;" } : Jvm.MethodName) ({ cls := "java/lang/Object", name := "getClass", desc := "()Ljava/lang/Class;" } : Jvm.MethodName)) ∈ lw_all := lw_g (lw_at lw_m3 96 rfl) rfl
theorem q694 : (Jvm.Cond.selects "WordBench$List" ({ cls := "WordBench$Code", name := "copy", desc := "()LWordBench$Code;" } : Jvm.MethodName) ({ cls := "WordBench$Code", name := "copy", desc := "()LWordBench$Code;" } : Jvm.MethodName)) ∈ lw_all := lw_g (lw_at lw_m3 167 rfl) rfl
theorem q706 : (Jvm.Cond.selects "WordBench$List" ({ cls := "WordBench$Code", name := "another", desc := "(I)LWordBench$Code;" } : Jvm.MethodName) ({ cls := "WordBench$List", name := "another", desc := "(I)LWordBench$Code;" } : Jvm.MethodName)) ∈ lw_all := lw_g (lw_at lw_m3 179 rfl) rfl
theorem q707 : (Jvm.Cond.instanceMethod ({ cls := "WordBench$List", name := "another", desc := "(I)LWordBench$Code;" } : Jvm.MethodName)) ∈ lw_all := lw_g (lw_at lw_m3 180 rfl) rfl
theorem q708 : (Jvm.Cond.code ({ cls := "WordBench$List", name := "another", desc := "(I)LWordBench$Code;" } : Jvm.MethodName) prog_5_method_3_code (2 : Nat) (Option.some (Jvm.ClassFile.FieldType.object "WordBench$Code"))) ∈ lw_all := lw_g (lw_at lw_m3 181 rfl) rfl
theorem q709 : (Jvm.Cond.classLink "WordBench$List" (9 : Nat) "WordBench$List") ∈ lw_all := lw_g (lw_at lw_m3 182 rfl) rfl
theorem q710 : (Jvm.Cond.methodLink "WordBench$List" (15 : Nat) ({ cls := "WordBench$List", name := "<init>", desc := "(II)V" } : Jvm.MethodName)) ∈ lw_all := lw_g (lw_at lw_m3 183 rfl) rfl
theorem q901 : (Jvm.Cond.selects "WordBench$List" ({ cls := "WordBench$Code", name := "heft", desc := "()I" } : Jvm.MethodName) ({ cls := "WordBench$Code", name := "heft", desc := "()I" } : Jvm.MethodName)) ∈ lw_all := lw_g (lw_at lw_m4 134 rfl) rfl
theorem q941 : (Jvm.Cond.selects "WordBench$List" ({ cls := "WordBench$Code", name := "failure", desc := "()LWordBench$Tossed;" } : Jvm.MethodName) ({ cls := "WordBench$Code", name := "failure", desc := "()LWordBench$Tossed;" } : Jvm.MethodName)) ∈ lw_all := lw_g (lw_at lw_m4 174 rfl) rfl
theorem q1425 : (Jvm.Cond.castable "WordBench$List" "WordBench$Code") ∈ lw_tbl := lw_at lw_m6 178 rfl
theorem q1433 : (Jvm.Cond.castable "WordBench$List" "java/lang/Object") ∈ lw_tbl := lw_at lw_m6 186 rfl
theorem in_X5 : ∀ w ∈ wsX50, w ∈ lw_all := lw_in wsX50 [142, 144, 146, 148] (by decide +kernel) (by decide +kernel)

/-! WordBench$Line -/
set_option maxRecDepth 100000
def RX6 : String := "WordBench$Line"
def TX6 : u_T := fun k => match k with
  | 0 => ("WordBench$Code", "q", "I", true)
  | 1 => ("WordBench$Code", "n", "I", true)
  | 2 => ("WordBench$Code", "rows", "[J", true)
  | _ => ("WordBench$Code", "size", "I", false)
def tyX6 : Nat → FieldType := fun k => match k with
  | 0 => .int
  | 1 => .int
  | 2 => .array .long
  | _ => .int
abbrev wsX60 : List Cond := u_ws RX6 TX6 4
theorem nmX6 : ∀ a, a < 4 → ∀ b, b < 4 → a ≠ b → (TX6 a).2.1 ≠ (TX6 b).2.1 := by decide +kernel
theorem tyX6_ok : ∀ k, k < 4 → parseFieldDescriptor (TX6 k).2.2.1 = some (tyX6 k) := by decide +kernel
abbrev cX6_init : ByteArray := prog_4_method_1_code
def yX6_init : MethodName := ⟨RX6, "<init>", "(II)V"⟩
def dkwX6_init_0 : List UInt8 := [42, 27, 28, 16, 12, 183, 0, 3, 177]
abbrev dktX6_init_0 : List UInt8 := dkwX6_init_0 ++ []
theorem dksX6_init_0 : cX6_init.data.toList.drop 0 = dktX6_init_0 := by decide +kernel
theorem dX6_init_0 : decode cX6_init 0 = .ok (.aload_n 0, 1) := dk_42 (dk_at dksX6_init_0 0 rfl rfl)
theorem dX6_init_1 : decode cX6_init 1 = .ok (.iload_n 1, 1) := dk_27 (dk_at dksX6_init_0 1 rfl rfl)
theorem dX6_init_2 : decode cX6_init 2 = .ok (.iload_n 2, 1) := dk_28 (dk_at dksX6_init_0 2 rfl rfl)
theorem dX6_init_3 : decode cX6_init 3 = .ok (.bipush 12, 2) := dk_16 12 (dk_at dksX6_init_0 3 rfl rfl)
theorem dX6_init_5 : decode cX6_init 5 = .ok (.invokespecial 3, 3) := dk_183 0 3 (dk_at dksX6_init_0 5 rfl rfl)
theorem dX6_init_8 : decode cX6_init 8 = .ok (.return_, 1) := dk_177 (dk_at dksX6_init_0 8 rfl rfl)
abbrev cX6_refuses : ByteArray := prog_4_method_4_code
def yX6_refuses : MethodName := ⟨RX6, "refuses", "(J)I"⟩
def dkwX6_refuses_0 : List UInt8 := [42, 180, 0, 18, 16, 12, 160, 0, 8, 16, 250, 167, 0, 4, 3, 172]
abbrev dktX6_refuses_0 : List UInt8 := dkwX6_refuses_0 ++ []
theorem dksX6_refuses_0 : cX6_refuses.data.toList.drop 0 = dktX6_refuses_0 := by decide +kernel
theorem dX6_refuses_0 : decode cX6_refuses 0 = .ok (.aload_n 0, 1) := dk_42 (dk_at dksX6_refuses_0 0 rfl rfl)
theorem dX6_refuses_1 : decode cX6_refuses 1 = .ok (.getfield 18, 3) := dk_180 0 18 (dk_at dksX6_refuses_0 1 rfl rfl)
theorem dX6_refuses_4 : decode cX6_refuses 4 = .ok (.bipush 12, 2) := dk_16 12 (dk_at dksX6_refuses_0 4 rfl rfl)
theorem dX6_refuses_6 : decode cX6_refuses 6 = .ok (.if_icmp .ne 8, 3) := dk_160 0 8 (dk_at dksX6_refuses_0 6 rfl rfl)
theorem dX6_refuses_9 : decode cX6_refuses 9 = .ok (.bipush (-6), 2) := dk_16 250 (dk_at dksX6_refuses_0 9 rfl rfl)
theorem dX6_refuses_11 : decode cX6_refuses 11 = .ok (.goto 4, 3) := dk_167 0 4 (dk_at dksX6_refuses_0 11 rfl rfl)
theorem dX6_refuses_14 : decode cX6_refuses 14 = .ok (.iconst 0, 1) := dk_3 (dk_at dksX6_refuses_0 14 rfl rfl)
theorem dX6_refuses_15 : decode cX6_refuses 15 = .ok (.ireturn, 1) := dk_172 (dk_at dksX6_refuses_0 15 rfl rfl)
abbrev cX6_kind : ByteArray := prog_4_method_2_code
def yX6_kind : MethodName := ⟨RX6, "kind", "()I"⟩
theorem dX6_kind_0 : decode cX6_kind 0 = .ok (.iconst 1, 1) := by decide +kernel
theorem dX6_kind_1 : decode cX6_kind 1 = .ok (.ireturn, 1) := by decide +kernel
abbrev cX6_isWithinDual : ByteArray := prog_4_method_7_code
def yX6_isWithinDual : MethodName := ⟨RX6, "isWithinDual", "()Z"⟩
def dkwX6_isWithinDual_2 : List UInt8 := [167, 0, 4, 3, 126, 60, 132, 3, 1, 167, 255, 214, 132, 2, 1, 167, 255, 198, 27, 172]
abbrev dktX6_isWithinDual_2 : List UInt8 := dkwX6_isWithinDual_2 ++ []
def dkwX6_isWithinDual_1 : List UInt8 := [42, 180, 0, 27, 42, 180, 0, 33, 28, 47, 42, 180, 0, 33, 29, 47, 184, 0, 37, 154, 0, 7, 4]
abbrev dktX6_isWithinDual_1 : List UInt8 := dkwX6_isWithinDual_1 ++ dktX6_isWithinDual_2
def dkwX6_isWithinDual_0 : List UInt8 := [4, 60, 3, 61, 28, 42, 180, 0, 18, 162, 0, 56, 3, 62, 29, 28, 163, 0, 43, 27, 42, 180, 0, 11]
abbrev dktX6_isWithinDual_0 : List UInt8 := dkwX6_isWithinDual_0 ++ dktX6_isWithinDual_1
theorem dksX6_isWithinDual_0 : cX6_isWithinDual.data.toList.drop 0 = dktX6_isWithinDual_0 := by decide +kernel
theorem dksX6_isWithinDual_1 : cX6_isWithinDual.data.toList.drop 24 = dktX6_isWithinDual_1 := dk_seg dksX6_isWithinDual_0 24 rfl rfl
theorem dksX6_isWithinDual_2 : cX6_isWithinDual.data.toList.drop 47 = dktX6_isWithinDual_2 := dk_seg dksX6_isWithinDual_1 23 rfl rfl
theorem dX6_isWithinDual_0 : decode cX6_isWithinDual 0 = .ok (.iconst 1, 1) := dk_4 (dk_at dksX6_isWithinDual_0 0 rfl rfl)
theorem dX6_isWithinDual_1 : decode cX6_isWithinDual 1 = .ok (.istore_n 1, 1) := dk_60 (dk_at dksX6_isWithinDual_0 1 rfl rfl)
theorem dX6_isWithinDual_2 : decode cX6_isWithinDual 2 = .ok (.iconst 0, 1) := dk_3 (dk_at dksX6_isWithinDual_0 2 rfl rfl)
theorem dX6_isWithinDual_3 : decode cX6_isWithinDual 3 = .ok (.istore_n 2, 1) := dk_61 (dk_at dksX6_isWithinDual_0 3 rfl rfl)
theorem dX6_isWithinDual_4 : decode cX6_isWithinDual 4 = .ok (.iload_n 2, 1) := dk_28 (dk_at dksX6_isWithinDual_0 4 rfl rfl)
theorem dX6_isWithinDual_5 : decode cX6_isWithinDual 5 = .ok (.aload_n 0, 1) := dk_42 (dk_at dksX6_isWithinDual_0 5 rfl rfl)
theorem dX6_isWithinDual_6 : decode cX6_isWithinDual 6 = .ok (.getfield 18, 3) := dk_180 0 18 (dk_at dksX6_isWithinDual_0 6 rfl rfl)
theorem dX6_isWithinDual_9 : decode cX6_isWithinDual 9 = .ok (.if_icmp .ge 56, 3) := dk_162 0 56 (dk_at dksX6_isWithinDual_0 9 rfl rfl)
theorem dX6_isWithinDual_12 : decode cX6_isWithinDual 12 = .ok (.iconst 0, 1) := dk_3 (dk_at dksX6_isWithinDual_0 12 rfl rfl)
theorem dX6_isWithinDual_13 : decode cX6_isWithinDual 13 = .ok (.istore_n 3, 1) := dk_62 (dk_at dksX6_isWithinDual_0 13 rfl rfl)
theorem dX6_isWithinDual_14 : decode cX6_isWithinDual 14 = .ok (.iload_n 3, 1) := dk_29 (dk_at dksX6_isWithinDual_0 14 rfl rfl)
theorem dX6_isWithinDual_15 : decode cX6_isWithinDual 15 = .ok (.iload_n 2, 1) := dk_28 (dk_at dksX6_isWithinDual_0 15 rfl rfl)
theorem dX6_isWithinDual_16 : decode cX6_isWithinDual 16 = .ok (.if_icmp .gt 43, 3) := dk_163 0 43 (dk_at dksX6_isWithinDual_0 16 rfl rfl)
theorem dX6_isWithinDual_19 : decode cX6_isWithinDual 19 = .ok (.iload_n 1, 1) := dk_27 (dk_at dksX6_isWithinDual_0 19 rfl rfl)
theorem dX6_isWithinDual_20 : decode cX6_isWithinDual 20 = .ok (.aload_n 0, 1) := dk_42 (dk_at dksX6_isWithinDual_0 20 rfl rfl)
theorem dX6_isWithinDual_21 : decode cX6_isWithinDual 21 = .ok (.getfield 11, 3) := dk_180 0 11 (dk_at dksX6_isWithinDual_0 21 rfl rfl)
theorem dX6_isWithinDual_24 : decode cX6_isWithinDual 24 = .ok (.aload_n 0, 1) := dk_42 (dk_at dksX6_isWithinDual_1 0 rfl rfl)
theorem dX6_isWithinDual_25 : decode cX6_isWithinDual 25 = .ok (.getfield 27, 3) := dk_180 0 27 (dk_at dksX6_isWithinDual_1 1 rfl rfl)
theorem dX6_isWithinDual_28 : decode cX6_isWithinDual 28 = .ok (.aload_n 0, 1) := dk_42 (dk_at dksX6_isWithinDual_1 4 rfl rfl)
theorem dX6_isWithinDual_29 : decode cX6_isWithinDual 29 = .ok (.getfield 33, 3) := dk_180 0 33 (dk_at dksX6_isWithinDual_1 5 rfl rfl)
theorem dX6_isWithinDual_32 : decode cX6_isWithinDual 32 = .ok (.iload_n 2, 1) := dk_28 (dk_at dksX6_isWithinDual_1 8 rfl rfl)
theorem dX6_isWithinDual_33 : decode cX6_isWithinDual 33 = .ok (.laload, 1) := dk_47 (dk_at dksX6_isWithinDual_1 9 rfl rfl)
theorem dX6_isWithinDual_34 : decode cX6_isWithinDual 34 = .ok (.aload_n 0, 1) := dk_42 (dk_at dksX6_isWithinDual_1 10 rfl rfl)
theorem dX6_isWithinDual_35 : decode cX6_isWithinDual 35 = .ok (.getfield 33, 3) := dk_180 0 33 (dk_at dksX6_isWithinDual_1 11 rfl rfl)
theorem dX6_isWithinDual_38 : decode cX6_isWithinDual 38 = .ok (.iload_n 3, 1) := dk_29 (dk_at dksX6_isWithinDual_1 14 rfl rfl)
theorem dX6_isWithinDual_39 : decode cX6_isWithinDual 39 = .ok (.laload, 1) := dk_47 (dk_at dksX6_isWithinDual_1 15 rfl rfl)
theorem dX6_isWithinDual_40 : decode cX6_isWithinDual 40 = .ok (.invokestatic 37, 3) := dk_184 0 37 (dk_at dksX6_isWithinDual_1 16 rfl rfl)
theorem dX6_isWithinDual_43 : decode cX6_isWithinDual 43 = .ok (.ifCond .ne 7, 3) := dk_154 0 7 (dk_at dksX6_isWithinDual_1 19 rfl rfl)
theorem dX6_isWithinDual_46 : decode cX6_isWithinDual 46 = .ok (.iconst 1, 1) := dk_4 (dk_at dksX6_isWithinDual_1 22 rfl rfl)
theorem dX6_isWithinDual_47 : decode cX6_isWithinDual 47 = .ok (.goto 4, 3) := dk_167 0 4 (dk_at dksX6_isWithinDual_2 0 rfl rfl)
theorem dX6_isWithinDual_50 : decode cX6_isWithinDual 50 = .ok (.iconst 0, 1) := dk_3 (dk_at dksX6_isWithinDual_2 3 rfl rfl)
theorem dX6_isWithinDual_51 : decode cX6_isWithinDual 51 = .ok (.iand, 1) := dk_126 (dk_at dksX6_isWithinDual_2 4 rfl rfl)
theorem dX6_isWithinDual_52 : decode cX6_isWithinDual 52 = .ok (.istore_n 1, 1) := dk_60 (dk_at dksX6_isWithinDual_2 5 rfl rfl)
theorem dX6_isWithinDual_53 : decode cX6_isWithinDual 53 = .ok (.iinc 3 1, 3) := dk_132 3 1 (dk_at dksX6_isWithinDual_2 6 rfl rfl)
theorem dX6_isWithinDual_56 : decode cX6_isWithinDual 56 = .ok (.goto (-42), 3) := dk_167 255 214 (dk_at dksX6_isWithinDual_2 9 rfl rfl)
theorem dX6_isWithinDual_59 : decode cX6_isWithinDual 59 = .ok (.iinc 2 1, 3) := dk_132 2 1 (dk_at dksX6_isWithinDual_2 12 rfl rfl)
theorem dX6_isWithinDual_62 : decode cX6_isWithinDual 62 = .ok (.goto (-58), 3) := dk_167 255 198 (dk_at dksX6_isWithinDual_2 15 rfl rfl)
theorem dX6_isWithinDual_65 : decode cX6_isWithinDual 65 = .ok (.iload_n 1, 1) := dk_27 (dk_at dksX6_isWithinDual_2 18 rfl rfl)
theorem dX6_isWithinDual_66 : decode cX6_isWithinDual 66 = .ok (.ireturn, 1) := dk_172 (dk_at dksX6_isWithinDual_2 19 rfl rfl)
abbrev cX6_another : ByteArray := prog_4_method_3_code
def yX6_another : MethodName := ⟨RX6, "another", "(I)LWordBench$Code;"⟩
def dkwX6_another_0 : List UInt8 := [187, 0, 9, 89, 42, 180, 0, 11, 27, 183, 0, 15, 176]
abbrev dktX6_another_0 : List UInt8 := dkwX6_another_0 ++ []
theorem dksX6_another_0 : cX6_another.data.toList.drop 0 = dktX6_another_0 := by decide +kernel
theorem dX6_another_0 : decode cX6_another 0 = .ok (.new 9, 3) := dk_187 0 9 (dk_at dksX6_another_0 0 rfl rfl)
theorem dX6_another_3 : decode cX6_another 3 = .ok (.dup, 1) := dk_89 (dk_at dksX6_another_0 3 rfl rfl)
theorem dX6_another_4 : decode cX6_another 4 = .ok (.aload_n 0, 1) := dk_42 (dk_at dksX6_another_0 4 rfl rfl)
theorem dX6_another_5 : decode cX6_another 5 = .ok (.getfield 11, 3) := dk_180 0 11 (dk_at dksX6_another_0 5 rfl rfl)
theorem dX6_another_8 : decode cX6_another 8 = .ok (.iload_n 1, 1) := dk_27 (dk_at dksX6_another_0 8 rfl rfl)
theorem dX6_another_9 : decode cX6_another 9 = .ok (.invokespecial 15, 3) := dk_183 0 15 (dk_at dksX6_another_0 9 rfl rfl)
theorem dX6_another_12 : decode cX6_another 12 = .ok (.areturn, 1) := dk_176 (dk_at dksX6_another_0 12 rfl rfl)
abbrev cX6_heft : ByteArray := prog_4_method_5_code
def yX6_heft : MethodName := ⟨RX6, "heft", "()I"⟩
def dkwX6_heft_0 : List UInt8 := [16, 100, 16, 10, 42, 183, 0, 21, 104, 96, 172]
abbrev dktX6_heft_0 : List UInt8 := dkwX6_heft_0 ++ []
theorem dksX6_heft_0 : cX6_heft.data.toList.drop 0 = dktX6_heft_0 := by decide +kernel
theorem dX6_heft_0 : decode cX6_heft 0 = .ok (.bipush 100, 2) := dk_16 100 (dk_at dksX6_heft_0 0 rfl rfl)
theorem dX6_heft_2 : decode cX6_heft 2 = .ok (.bipush 10, 2) := dk_16 10 (dk_at dksX6_heft_0 2 rfl rfl)
theorem dX6_heft_4 : decode cX6_heft 4 = .ok (.aload_n 0, 1) := dk_42 (dk_at dksX6_heft_0 4 rfl rfl)
theorem dX6_heft_5 : decode cX6_heft 5 = .ok (.invokespecial 21, 3) := dk_183 0 21 (dk_at dksX6_heft_0 5 rfl rfl)
theorem dX6_heft_8 : decode cX6_heft 8 = .ok (.imul, 1) := dk_104 (dk_at dksX6_heft_0 8 rfl rfl)
theorem dX6_heft_9 : decode cX6_heft 9 = .ok (.iadd, 1) := dk_96 (dk_at dksX6_heft_0 9 rfl rfl)
theorem dX6_heft_10 : decode cX6_heft 10 = .ok (.ireturn, 1) := dk_172 (dk_at dksX6_heft_0 10 rfl rfl)
abbrev cX6_failure : ByteArray := prog_4_method_6_code
def yX6_failure : MethodName := ⟨RX6, "failure", "()LWordBench$Tossed;"⟩
def dkwX6_failure_0 : List UInt8 := [187, 0, 25, 89, 42, 180, 0, 27, 183, 0, 30, 176]
abbrev dktX6_failure_0 : List UInt8 := dkwX6_failure_0 ++ []
theorem dksX6_failure_0 : cX6_failure.data.toList.drop 0 = dktX6_failure_0 := by decide +kernel
theorem dX6_failure_0 : decode cX6_failure 0 = .ok (.new 25, 3) := dk_187 0 25 (dk_at dksX6_failure_0 0 rfl rfl)
theorem dX6_failure_3 : decode cX6_failure 3 = .ok (.dup, 1) := dk_89 (dk_at dksX6_failure_0 3 rfl rfl)
theorem dX6_failure_4 : decode cX6_failure 4 = .ok (.aload_n 0, 1) := dk_42 (dk_at dksX6_failure_0 4 rfl rfl)
theorem dX6_failure_5 : decode cX6_failure 5 = .ok (.getfield 27, 3) := dk_180 0 27 (dk_at dksX6_failure_0 5 rfl rfl)
theorem dX6_failure_8 : decode cX6_failure 8 = .ok (.invokespecial 30, 3) := dk_183 0 30 (dk_at dksX6_failure_0 8 rfl rfl)
theorem dX6_failure_11 : decode cX6_failure 11 = .ok (.areturn, 1) := dk_176 (dk_at dksX6_failure_0 11 rfl rfl)
theorem q60 : (Jvm.Cond.initialized "WordBench$Line") ∈ lw_all := lw_g (lw_at lw_m1 13 rfl) rfl
theorem q112 : (Jvm.Cond.fieldLink "WordBench$Line" (11 : Nat) "WordBench$Line" "q" "I") ∈ lw_all := lw_g (lw_at lw_m1 65 rfl) rfl
theorem q113 : (Jvm.Cond.sameField "WordBench$Line" "WordBench$Code" "q" "I") ∈ lw_all := lw_g (lw_at lw_m1 66 rfl) rfl
theorem q121 : (Jvm.Cond.fieldLink "WordBench$Line" (27 : Nat) "WordBench$Line" "n" "I") ∈ lw_all := lw_g (lw_at lw_m1 74 rfl) rfl
theorem q122 : (Jvm.Cond.sameField "WordBench$Line" "WordBench$Code" "n" "I") ∈ lw_all := lw_g (lw_at lw_m1 75 rfl) rfl
theorem q130 : (Jvm.Cond.fieldLink "WordBench$Line" (33 : Nat) "WordBench$Line" "rows" "[J") ∈ lw_all := lw_g (lw_at lw_m1 83 rfl) rfl
theorem q131 : (Jvm.Cond.sameField "WordBench$Line" "WordBench$Code" "rows" "[J") ∈ lw_all := lw_g (lw_at lw_m1 84 rfl) rfl
theorem q134 : (Jvm.Cond.fieldLink "WordBench$Line" (18 : Nat) "WordBench$Line" "size" "I") ∈ lw_all := lw_g (lw_at lw_m1 87 rfl) rfl
theorem q135 : (Jvm.Cond.sameField "WordBench$Line" "WordBench$Code" "size" "I") ∈ lw_all := lw_g (lw_at lw_m1 88 rfl) rfl
theorem q153 : (Jvm.Cond.instantiable "WordBench$Line" (4 : Nat)) ∈ lw_all := lw_g (lw_at lw_m1 106 rfl) rfl
theorem q155 : (Jvm.Cond.instanceMethod ({ cls := "WordBench$Line", name := "<init>", desc := "(II)V" } : Jvm.MethodName)) ∈ lw_all := lw_g (lw_at lw_m1 108 rfl) rfl
theorem q156 : (Jvm.Cond.code ({ cls := "WordBench$Line", name := "<init>", desc := "(II)V" } : Jvm.MethodName) prog_4_method_1_code (3 : Nat) (Option.none : Option Jvm.ClassFile.FieldType)) ∈ lw_all := lw_g (lw_at lw_m1 109 rfl) rfl
theorem q157 : (Jvm.Cond.methodLink "WordBench$Line" (3 : Nat) ({ cls := "WordBench$Code", name := "<init>", desc := "(III)V" } : Jvm.MethodName)) ∈ lw_all := lw_g (lw_at lw_m1 110 rfl) rfl
theorem q158 : (Jvm.Cond.laysFinal "WordBench$Line" "WordBench$Code" "q" "I") ∈ lw_all := lw_g (lw_at lw_m1 111 rfl) rfl
theorem q159 : (Jvm.Cond.laysFinal "WordBench$Line" "WordBench$Code" "n" "I") ∈ lw_all := lw_g (lw_at lw_m1 112 rfl) rfl
theorem q160 : (Jvm.Cond.laysFinal "WordBench$Line" "WordBench$Code" "rows" "[J") ∈ lw_all := lw_g (lw_at lw_m1 113 rfl) rfl
theorem q161 : (Jvm.Cond.lays "WordBench$Line" "WordBench$Code" "size" "I") ∈ lw_all := lw_g (lw_at lw_m1 114 rfl) rfl
theorem q162 : (Jvm.Cond.superclass "WordBench$Line" "WordBench$Code") ∈ lw_all := lw_g (lw_at lw_m1 115 rfl) rfl
theorem q196 : (Jvm.Cond.selects "WordBench$Line" ({ cls := "WordBench$Code", name := "refuses", desc := "(J)I" } : Jvm.MethodName) ({ cls := "WordBench$Line", name := "refuses", desc := "(J)I" } : Jvm.MethodName)) ∈ lw_all := lw_g (lw_at lw_m1 149 rfl) rfl
theorem q197 : (Jvm.Cond.instanceMethod ({ cls := "WordBench$Line", name := "refuses", desc := "(J)I" } : Jvm.MethodName)) ∈ lw_all := lw_g (lw_at lw_m1 150 rfl) rfl
theorem q198 : (Jvm.Cond.code ({ cls := "WordBench$Line", name := "refuses", desc := "(J)I" } : Jvm.MethodName) prog_4_method_4_code (3 : Nat) (Option.some Jvm.ClassFile.FieldType.int)) ∈ lw_all := lw_g (lw_at lw_m1 151 rfl) rfl
theorem q225 : (Jvm.Cond.selects "WordBench$Line" ({ cls := "WordBench$Code", name := "add", desc := "(J)V" } : Jvm.MethodName) ({ cls := "WordBench$Code", name := "add", desc := "(J)V" } : Jvm.MethodName)) ∈ lw_all := lw_g (lw_at lw_m1 178 rfl) rfl
theorem q267 : (Jvm.Cond.selects "WordBench$Line" ({ cls := "WordBench$Code", name := "kind", desc := "()I" } : Jvm.MethodName) ({ cls := "WordBench$Line", name := "kind", desc := "()I" } : Jvm.MethodName)) ∈ lw_all := lw_g (lw_at lw_m1 220 rfl) rfl
theorem q268 : (Jvm.Cond.instanceMethod ({ cls := "WordBench$Line", name := "kind", desc := "()I" } : Jvm.MethodName)) ∈ lw_all := lw_g (lw_at lw_m1 221 rfl) rfl
theorem q269 : (Jvm.Cond.code ({ cls := "WordBench$Line", name := "kind", desc := "()I" } : Jvm.MethodName) prog_4_method_2_code (1 : Nat) (Option.some Jvm.ClassFile.FieldType.int)) ∈ lw_all := lw_g (lw_at lw_m1 222 rfl) rfl
theorem q325 : (Jvm.Cond.instanceMethod ({ cls := "WordBench$Line", name := "isWithinDual", desc := "()Z" } : Jvm.MethodName)) ∈ lw_all := lw_g (lw_at lw_m2 38 rfl) rfl
theorem q326 : (Jvm.Cond.selects "WordBench$Line" ({ cls := "WordBench$Line", name := "isWithinDual", desc := "()Z" } : Jvm.MethodName) ({ cls := "WordBench$Line", name := "isWithinDual", desc := "()Z" } : Jvm.MethodName)) ∈ lw_all := lw_g (lw_at lw_m2 39 rfl) rfl
theorem q327 : (Jvm.Cond.sameMethod "WordBench$Line" "WordBench$Line" "isWithinDual" "()Z") ∈ lw_all := lw_g (lw_at lw_m2 40 rfl) rfl
theorem q330 : (Jvm.Cond.code ({ cls := "WordBench$Line", name := "isWithinDual", desc := "()Z" } : Jvm.MethodName) prog_4_method_7_code (4 : Nat) (Option.some Jvm.ClassFile.FieldType.boolean)) ∈ lw_all := lw_g (lw_at lw_m2 43 rfl) rfl
theorem q331 : (Jvm.Cond.methodLinkNest "WordBench$Line" (37 : Nat) ({ cls := "WordBench", name := "productOf", desc := "(IIJJ)I" } : Jvm.MethodName) "WordBench") ∈ lw_tbl := lw_at lw_m2 44 rfl
theorem q407 : (Jvm.Cond.sameMethod "WordBench$Line" "WordBench$Code" "add" "(J)V") ∈ lw_all := lw_g (lw_at lw_m2 120 rfl) rfl
theorem q408 : (Jvm.Cond.selects "WordBench$Line" ({ cls := "WordBench$Line", name := "add", desc := "(J)V" } : Jvm.MethodName) ({ cls := "WordBench$Code", name := "add", desc := "(J)V" } : Jvm.MethodName)) ∈ lw_all := lw_g (lw_at lw_m2 121 rfl) rfl
theorem q622 : (Jvm.Cond.selects "WordBench$Line" ({ cls := "java/lang/Object", name := "getClass", desc := "()Ljava/lang/Class;" } : Jvm.MethodName) ({ cls := "java/lang/Object", name := "getClass", desc := "()Ljava/lang/Class;" } : Jvm.MethodName)) ∈ lw_all := lw_g (lw_at lw_m3 95 rfl) rfl
theorem q693 : (Jvm.Cond.selects "WordBench$Line" ({ cls := "WordBench$Code", name := "copy", desc := "()LWordBench$Code;" } : Jvm.MethodName) ({ cls := "WordBench$Code", name := "copy", desc := "()LWordBench$Code;" } : Jvm.MethodName)) ∈ lw_all := lw_g (lw_at lw_m3 166 rfl) rfl
theorem q701 : (Jvm.Cond.selects "WordBench$Line" ({ cls := "WordBench$Code", name := "another", desc := "(I)LWordBench$Code;" } : Jvm.MethodName) ({ cls := "WordBench$Line", name := "another", desc := "(I)LWordBench$Code;" } : Jvm.MethodName)) ∈ lw_all := lw_g (lw_at lw_m3 174 rfl) rfl
theorem q702 : (Jvm.Cond.instanceMethod ({ cls := "WordBench$Line", name := "another", desc := "(I)LWordBench$Code;" } : Jvm.MethodName)) ∈ lw_all := lw_g (lw_at lw_m3 175 rfl) rfl
theorem q703 : (Jvm.Cond.code ({ cls := "WordBench$Line", name := "another", desc := "(I)LWordBench$Code;" } : Jvm.MethodName) prog_4_method_3_code (2 : Nat) (Option.some (Jvm.ClassFile.FieldType.object "WordBench$Code"))) ∈ lw_all := lw_g (lw_at lw_m3 176 rfl) rfl
theorem q704 : (Jvm.Cond.classLink "WordBench$Line" (9 : Nat) "WordBench$Line") ∈ lw_all := lw_g (lw_at lw_m3 177 rfl) rfl
theorem q705 : (Jvm.Cond.methodLink "WordBench$Line" (15 : Nat) ({ cls := "WordBench$Line", name := "<init>", desc := "(II)V" } : Jvm.MethodName)) ∈ lw_all := lw_g (lw_at lw_m3 178 rfl) rfl
theorem q897 : (Jvm.Cond.selects "WordBench$Line" ({ cls := "WordBench$Code", name := "heft", desc := "()I" } : Jvm.MethodName) ({ cls := "WordBench$Line", name := "heft", desc := "()I" } : Jvm.MethodName)) ∈ lw_all := lw_g (lw_at lw_m4 130 rfl) rfl
theorem q898 : (Jvm.Cond.instanceMethod ({ cls := "WordBench$Line", name := "heft", desc := "()I" } : Jvm.MethodName)) ∈ lw_all := lw_g (lw_at lw_m4 131 rfl) rfl
theorem q899 : (Jvm.Cond.code ({ cls := "WordBench$Line", name := "heft", desc := "()I" } : Jvm.MethodName) prog_4_method_5_code (1 : Nat) (Option.some Jvm.ClassFile.FieldType.int)) ∈ lw_all := lw_g (lw_at lw_m4 132 rfl) rfl
theorem q900 : (Jvm.Cond.methodLink "WordBench$Line" (21 : Nat) ({ cls := "WordBench$Code", name := "heft", desc := "()I" } : Jvm.MethodName)) ∈ lw_all := lw_g (lw_at lw_m4 133 rfl) rfl
theorem q919 : (Jvm.Cond.selects "WordBench$Line" ({ cls := "WordBench$Code", name := "failure", desc := "()LWordBench$Tossed;" } : Jvm.MethodName) ({ cls := "WordBench$Line", name := "failure", desc := "()LWordBench$Tossed;" } : Jvm.MethodName)) ∈ lw_all := lw_g (lw_at lw_m4 152 rfl) rfl
theorem q920 : (Jvm.Cond.instanceMethod ({ cls := "WordBench$Line", name := "failure", desc := "()LWordBench$Tossed;" } : Jvm.MethodName)) ∈ lw_all := lw_g (lw_at lw_m4 153 rfl) rfl
theorem q921 : (Jvm.Cond.code ({ cls := "WordBench$Line", name := "failure", desc := "()LWordBench$Tossed;" } : Jvm.MethodName) prog_4_method_6_code (1 : Nat) (Option.some (Jvm.ClassFile.FieldType.object "WordBench$Tossed"))) ∈ lw_all := lw_g (lw_at lw_m4 154 rfl) rfl
theorem q922 : (Jvm.Cond.classLink "WordBench$Line" (25 : Nat) "WordBench$Tossed") ∈ lw_all := lw_g (lw_at lw_m4 155 rfl) rfl
theorem q931 : (Jvm.Cond.methodLink "WordBench$Line" (30 : Nat) ({ cls := "WordBench$Tossed", name := "<init>", desc := "(I)V" } : Jvm.MethodName)) ∈ lw_all := lw_g (lw_at lw_m4 164 rfl) rfl
theorem q1418 : (Jvm.Cond.sameMethod "WordBench$Line" "WordBench$Line" "refuses" "(J)I") ∈ lw_all := lw_g (lw_at lw_m6 171 rfl) rfl
theorem q1420 : (Jvm.Cond.sameMethod "WordBench$Line" "WordBench$Line" "heft" "()I") ∈ lw_all := lw_g (lw_at lw_m6 173 rfl) rfl
theorem q1424 : (Jvm.Cond.castable "WordBench$Line" "WordBench$Code") ∈ lw_tbl := lw_at lw_m6 177 rfl
theorem q1434 : (Jvm.Cond.castable "WordBench$Line" "java/lang/Object") ∈ lw_tbl := lw_at lw_m6 187 rfl
theorem in_X6 : ∀ w ∈ wsX60, w ∈ lw_all := lw_in wsX60 [158, 159, 160, 161] (by decide +kernel) (by decide +kernel)

/-! WordBench$Own -/
set_option maxRecDepth 100000
def RX7 : String := "WordBench$Own"
def TX7 : u_T := fun k => match k with
  | 0 => ("WordBench$Code", "q", "I", true)
  | 1 => ("WordBench$Code", "n", "I", true)
  | 2 => ("WordBench$Code", "rows", "[J", true)
  | _ => ("WordBench$Code", "size", "I", false)
def tyX7 : Nat → FieldType := fun k => match k with
  | 0 => .int
  | 1 => .int
  | 2 => .array .long
  | _ => .int
abbrev wsX70 : List Cond := u_ws RX7 TX7 4
theorem nmX7 : ∀ a, a < 4 → ∀ b, b < 4 → a ≠ b → (TX7 a).2.1 ≠ (TX7 b).2.1 := by decide +kernel
theorem tyX7_ok : ∀ k, k < 4 → parseFieldDescriptor (TX7 k).2.2.1 = some (tyX7 k) := by decide +kernel
abbrev cX7_init : ByteArray := prog_6_method_1_code
def yX7_init : MethodName := ⟨RX7, "<init>", "(II)V"⟩
def dkwX7_init_0 : List UInt8 := [42, 27, 28, 183, 0, 3, 177]
abbrev dktX7_init_0 : List UInt8 := dkwX7_init_0 ++ []
theorem dksX7_init_0 : cX7_init.data.toList.drop 0 = dktX7_init_0 := by decide +kernel
theorem dX7_init_0 : decode cX7_init 0 = .ok (.aload_n 0, 1) := dk_42 (dk_at dksX7_init_0 0 rfl rfl)
theorem dX7_init_1 : decode cX7_init 1 = .ok (.iload_n 1, 1) := dk_27 (dk_at dksX7_init_0 1 rfl rfl)
theorem dX7_init_2 : decode cX7_init 2 = .ok (.iload_n 2, 1) := dk_28 (dk_at dksX7_init_0 2 rfl rfl)
theorem dX7_init_3 : decode cX7_init 3 = .ok (.invokespecial 3, 3) := dk_183 0 3 (dk_at dksX7_init_0 3 rfl rfl)
theorem dX7_init_6 : decode cX7_init 6 = .ok (.return_, 1) := dk_177 (dk_at dksX7_init_0 6 rfl rfl)
abbrev cX7_refuses : ByteArray := prog_6_method_4_code
def yX7_refuses : MethodName := ⟨RX7, "refuses", "(J)I"⟩
def dkwX7_refuses_3 : List UInt8 := [167, 255, 214, 29, 153, 0, 11, 42, 31, 183, 0, 30, 167, 0, 5, 16, 253, 172]
abbrev dktX7_refuses_3 : List UInt8 := dkwX7_refuses_3 ++ []
def dkwX7_refuses_2 : List UInt8 := [180, 0, 26, 21, 4, 47, 184, 0, 19, 154, 0, 7, 4, 167, 0, 4, 3, 126, 62, 132, 4, 1]
abbrev dktX7_refuses_2 : List UInt8 := dkwX7_refuses_2 ++ dktX7_refuses_3
def dkwX7_refuses_1 : List UInt8 := [54, 4, 21, 4, 42, 180, 0, 23, 162, 0, 39, 29, 42, 180, 0, 11, 42, 180, 0, 16, 31, 42]
abbrev dktX7_refuses_1 : List UInt8 := dkwX7_refuses_1 ++ dktX7_refuses_2
def dkwX7_refuses_0 : List UInt8 := [42, 180, 0, 11, 42, 180, 0, 16, 31, 31, 184, 0, 19, 154, 0, 7, 4, 167, 0, 4, 3, 62, 3]
abbrev dktX7_refuses_0 : List UInt8 := dkwX7_refuses_0 ++ dktX7_refuses_1
theorem dksX7_refuses_0 : cX7_refuses.data.toList.drop 0 = dktX7_refuses_0 := by decide +kernel
theorem dksX7_refuses_1 : cX7_refuses.data.toList.drop 23 = dktX7_refuses_1 := dk_seg dksX7_refuses_0 23 rfl rfl
theorem dksX7_refuses_2 : cX7_refuses.data.toList.drop 45 = dktX7_refuses_2 := dk_seg dksX7_refuses_1 22 rfl rfl
theorem dksX7_refuses_3 : cX7_refuses.data.toList.drop 67 = dktX7_refuses_3 := dk_seg dksX7_refuses_2 22 rfl rfl
theorem dX7_refuses_0 : decode cX7_refuses 0 = .ok (.aload_n 0, 1) := dk_42 (dk_at dksX7_refuses_0 0 rfl rfl)
theorem dX7_refuses_1 : decode cX7_refuses 1 = .ok (.getfield 11, 3) := dk_180 0 11 (dk_at dksX7_refuses_0 1 rfl rfl)
theorem dX7_refuses_4 : decode cX7_refuses 4 = .ok (.aload_n 0, 1) := dk_42 (dk_at dksX7_refuses_0 4 rfl rfl)
theorem dX7_refuses_5 : decode cX7_refuses 5 = .ok (.getfield 16, 3) := dk_180 0 16 (dk_at dksX7_refuses_0 5 rfl rfl)
theorem dX7_refuses_8 : decode cX7_refuses 8 = .ok (.lload_n 1, 1) := dk_31 (dk_at dksX7_refuses_0 8 rfl rfl)
theorem dX7_refuses_9 : decode cX7_refuses 9 = .ok (.lload_n 1, 1) := dk_31 (dk_at dksX7_refuses_0 9 rfl rfl)
theorem dX7_refuses_10 : decode cX7_refuses 10 = .ok (.invokestatic 19, 3) := dk_184 0 19 (dk_at dksX7_refuses_0 10 rfl rfl)
theorem dX7_refuses_13 : decode cX7_refuses 13 = .ok (.ifCond .ne 7, 3) := dk_154 0 7 (dk_at dksX7_refuses_0 13 rfl rfl)
theorem dX7_refuses_16 : decode cX7_refuses 16 = .ok (.iconst 1, 1) := dk_4 (dk_at dksX7_refuses_0 16 rfl rfl)
theorem dX7_refuses_17 : decode cX7_refuses 17 = .ok (.goto 4, 3) := dk_167 0 4 (dk_at dksX7_refuses_0 17 rfl rfl)
theorem dX7_refuses_20 : decode cX7_refuses 20 = .ok (.iconst 0, 1) := dk_3 (dk_at dksX7_refuses_0 20 rfl rfl)
theorem dX7_refuses_21 : decode cX7_refuses 21 = .ok (.istore_n 3, 1) := dk_62 (dk_at dksX7_refuses_0 21 rfl rfl)
theorem dX7_refuses_22 : decode cX7_refuses 22 = .ok (.iconst 0, 1) := dk_3 (dk_at dksX7_refuses_0 22 rfl rfl)
theorem dX7_refuses_23 : decode cX7_refuses 23 = .ok (.istore 4, 2) := dk_54 4 (dk_at dksX7_refuses_1 0 rfl rfl)
theorem dX7_refuses_25 : decode cX7_refuses 25 = .ok (.iload 4, 2) := dk_21 4 (dk_at dksX7_refuses_1 2 rfl rfl)
theorem dX7_refuses_27 : decode cX7_refuses 27 = .ok (.aload_n 0, 1) := dk_42 (dk_at dksX7_refuses_1 4 rfl rfl)
theorem dX7_refuses_28 : decode cX7_refuses 28 = .ok (.getfield 23, 3) := dk_180 0 23 (dk_at dksX7_refuses_1 5 rfl rfl)
theorem dX7_refuses_31 : decode cX7_refuses 31 = .ok (.if_icmp .ge 39, 3) := dk_162 0 39 (dk_at dksX7_refuses_1 8 rfl rfl)
theorem dX7_refuses_34 : decode cX7_refuses 34 = .ok (.iload_n 3, 1) := dk_29 (dk_at dksX7_refuses_1 11 rfl rfl)
theorem dX7_refuses_35 : decode cX7_refuses 35 = .ok (.aload_n 0, 1) := dk_42 (dk_at dksX7_refuses_1 12 rfl rfl)
theorem dX7_refuses_36 : decode cX7_refuses 36 = .ok (.getfield 11, 3) := dk_180 0 11 (dk_at dksX7_refuses_1 13 rfl rfl)
theorem dX7_refuses_39 : decode cX7_refuses 39 = .ok (.aload_n 0, 1) := dk_42 (dk_at dksX7_refuses_1 16 rfl rfl)
theorem dX7_refuses_40 : decode cX7_refuses 40 = .ok (.getfield 16, 3) := dk_180 0 16 (dk_at dksX7_refuses_1 17 rfl rfl)
theorem dX7_refuses_43 : decode cX7_refuses 43 = .ok (.lload_n 1, 1) := dk_31 (dk_at dksX7_refuses_1 20 rfl rfl)
theorem dX7_refuses_44 : decode cX7_refuses 44 = .ok (.aload_n 0, 1) := dk_42 (dk_at dksX7_refuses_1 21 rfl rfl)
theorem dX7_refuses_45 : decode cX7_refuses 45 = .ok (.getfield 26, 3) := dk_180 0 26 (dk_at dksX7_refuses_2 0 rfl rfl)
theorem dX7_refuses_48 : decode cX7_refuses 48 = .ok (.iload 4, 2) := dk_21 4 (dk_at dksX7_refuses_2 3 rfl rfl)
theorem dX7_refuses_50 : decode cX7_refuses 50 = .ok (.laload, 1) := dk_47 (dk_at dksX7_refuses_2 5 rfl rfl)
theorem dX7_refuses_51 : decode cX7_refuses 51 = .ok (.invokestatic 19, 3) := dk_184 0 19 (dk_at dksX7_refuses_2 6 rfl rfl)
theorem dX7_refuses_54 : decode cX7_refuses 54 = .ok (.ifCond .ne 7, 3) := dk_154 0 7 (dk_at dksX7_refuses_2 9 rfl rfl)
theorem dX7_refuses_57 : decode cX7_refuses 57 = .ok (.iconst 1, 1) := dk_4 (dk_at dksX7_refuses_2 12 rfl rfl)
theorem dX7_refuses_58 : decode cX7_refuses 58 = .ok (.goto 4, 3) := dk_167 0 4 (dk_at dksX7_refuses_2 13 rfl rfl)
theorem dX7_refuses_61 : decode cX7_refuses 61 = .ok (.iconst 0, 1) := dk_3 (dk_at dksX7_refuses_2 16 rfl rfl)
theorem dX7_refuses_62 : decode cX7_refuses 62 = .ok (.iand, 1) := dk_126 (dk_at dksX7_refuses_2 17 rfl rfl)
theorem dX7_refuses_63 : decode cX7_refuses 63 = .ok (.istore_n 3, 1) := dk_62 (dk_at dksX7_refuses_2 18 rfl rfl)
theorem dX7_refuses_64 : decode cX7_refuses 64 = .ok (.iinc 4 1, 3) := dk_132 4 1 (dk_at dksX7_refuses_2 19 rfl rfl)
theorem dX7_refuses_67 : decode cX7_refuses 67 = .ok (.goto (-42), 3) := dk_167 255 214 (dk_at dksX7_refuses_3 0 rfl rfl)
theorem dX7_refuses_70 : decode cX7_refuses 70 = .ok (.iload_n 3, 1) := dk_29 (dk_at dksX7_refuses_3 3 rfl rfl)
theorem dX7_refuses_71 : decode cX7_refuses 71 = .ok (.ifCond .eq 11, 3) := dk_153 0 11 (dk_at dksX7_refuses_3 4 rfl rfl)
theorem dX7_refuses_74 : decode cX7_refuses 74 = .ok (.aload_n 0, 1) := dk_42 (dk_at dksX7_refuses_3 7 rfl rfl)
theorem dX7_refuses_75 : decode cX7_refuses 75 = .ok (.lload_n 1, 1) := dk_31 (dk_at dksX7_refuses_3 8 rfl rfl)
theorem dX7_refuses_76 : decode cX7_refuses 76 = .ok (.invokespecial 30, 3) := dk_183 0 30 (dk_at dksX7_refuses_3 9 rfl rfl)
theorem dX7_refuses_79 : decode cX7_refuses 79 = .ok (.goto 5, 3) := dk_167 0 5 (dk_at dksX7_refuses_3 12 rfl rfl)
theorem dX7_refuses_82 : decode cX7_refuses 82 = .ok (.bipush (-3), 2) := dk_16 253 (dk_at dksX7_refuses_3 15 rfl rfl)
theorem dX7_refuses_84 : decode cX7_refuses 84 = .ok (.ireturn, 1) := dk_172 (dk_at dksX7_refuses_3 17 rfl rfl)
abbrev cX7_kind : ByteArray := prog_6_method_3_code
def yX7_kind : MethodName := ⟨RX7, "kind", "()I"⟩
theorem dX7_kind_0 : decode cX7_kind 0 = .ok (.iconst 3, 1) := by decide +kernel
theorem dX7_kind_1 : decode cX7_kind 1 = .ok (.ireturn, 1) := by decide +kernel
abbrev cX7_another : ByteArray := prog_6_method_2_code
def yX7_another : MethodName := ⟨RX7, "another", "(I)LWordBench$Code;"⟩
def dkwX7_another_0 : List UInt8 := [187, 0, 9, 89, 42, 180, 0, 11, 27, 183, 0, 15, 176]
abbrev dktX7_another_0 : List UInt8 := dkwX7_another_0 ++ []
theorem dksX7_another_0 : cX7_another.data.toList.drop 0 = dktX7_another_0 := by decide +kernel
theorem dX7_another_0 : decode cX7_another 0 = .ok (.new 9, 3) := dk_187 0 9 (dk_at dksX7_another_0 0 rfl rfl)
theorem dX7_another_3 : decode cX7_another 3 = .ok (.dup, 1) := dk_89 (dk_at dksX7_another_0 3 rfl rfl)
theorem dX7_another_4 : decode cX7_another 4 = .ok (.aload_n 0, 1) := dk_42 (dk_at dksX7_another_0 4 rfl rfl)
theorem dX7_another_5 : decode cX7_another 5 = .ok (.getfield 11, 3) := dk_180 0 11 (dk_at dksX7_another_0 5 rfl rfl)
theorem dX7_another_8 : decode cX7_another 8 = .ok (.iload_n 1, 1) := dk_27 (dk_at dksX7_another_0 8 rfl rfl)
theorem dX7_another_9 : decode cX7_another 9 = .ok (.invokespecial 15, 3) := dk_183 0 15 (dk_at dksX7_another_0 9 rfl rfl)
theorem dX7_another_12 : decode cX7_another 12 = .ok (.areturn, 1) := dk_176 (dk_at dksX7_another_0 12 rfl rfl)
abbrev cX7_heft : ByteArray := prog_6_method_5_code
def yX7_heft : MethodName := ⟨RX7, "heft", "()I"⟩
def dkwX7_heft_0 : List UInt8 := [5, 42, 183, 0, 34, 104, 172]
abbrev dktX7_heft_0 : List UInt8 := dkwX7_heft_0 ++ []
theorem dksX7_heft_0 : cX7_heft.data.toList.drop 0 = dktX7_heft_0 := by decide +kernel
theorem dX7_heft_0 : decode cX7_heft 0 = .ok (.iconst 2, 1) := dk_5 (dk_at dksX7_heft_0 0 rfl rfl)
theorem dX7_heft_1 : decode cX7_heft 1 = .ok (.aload_n 0, 1) := dk_42 (dk_at dksX7_heft_0 1 rfl rfl)
theorem dX7_heft_2 : decode cX7_heft 2 = .ok (.invokespecial 34, 3) := dk_183 0 34 (dk_at dksX7_heft_0 2 rfl rfl)
theorem dX7_heft_5 : decode cX7_heft 5 = .ok (.imul, 1) := dk_104 (dk_at dksX7_heft_0 5 rfl rfl)
theorem dX7_heft_6 : decode cX7_heft 6 = .ok (.ireturn, 1) := dk_172 (dk_at dksX7_heft_0 6 rfl rfl)
theorem q61 : (Jvm.Cond.initialized "WordBench$Own") ∈ lw_all := lw_g (lw_at lw_m1 14 rfl) rfl
theorem q108 : (Jvm.Cond.fieldLink "WordBench$Own" (11 : Nat) "WordBench$Own" "q" "I") ∈ lw_all := lw_g (lw_at lw_m1 61 rfl) rfl
theorem q109 : (Jvm.Cond.sameField "WordBench$Own" "WordBench$Code" "q" "I") ∈ lw_all := lw_g (lw_at lw_m1 62 rfl) rfl
theorem q119 : (Jvm.Cond.fieldLink "WordBench$Own" (16 : Nat) "WordBench$Own" "n" "I") ∈ lw_all := lw_g (lw_at lw_m1 72 rfl) rfl
theorem q120 : (Jvm.Cond.sameField "WordBench$Own" "WordBench$Code" "n" "I") ∈ lw_all := lw_g (lw_at lw_m1 73 rfl) rfl
theorem q128 : (Jvm.Cond.fieldLink "WordBench$Own" (26 : Nat) "WordBench$Own" "rows" "[J") ∈ lw_all := lw_g (lw_at lw_m1 81 rfl) rfl
theorem q129 : (Jvm.Cond.sameField "WordBench$Own" "WordBench$Code" "rows" "[J") ∈ lw_all := lw_g (lw_at lw_m1 82 rfl) rfl
theorem q138 : (Jvm.Cond.fieldLink "WordBench$Own" (23 : Nat) "WordBench$Own" "size" "I") ∈ lw_all := lw_g (lw_at lw_m1 91 rfl) rfl
theorem q139 : (Jvm.Cond.sameField "WordBench$Own" "WordBench$Code" "size" "I") ∈ lw_all := lw_g (lw_at lw_m1 92 rfl) rfl
theorem q164 : (Jvm.Cond.instantiable "WordBench$Own" (4 : Nat)) ∈ lw_all := lw_g (lw_at lw_m1 117 rfl) rfl
theorem q166 : (Jvm.Cond.instanceMethod ({ cls := "WordBench$Own", name := "<init>", desc := "(II)V" } : Jvm.MethodName)) ∈ lw_all := lw_g (lw_at lw_m1 119 rfl) rfl
theorem q167 : (Jvm.Cond.code ({ cls := "WordBench$Own", name := "<init>", desc := "(II)V" } : Jvm.MethodName) prog_6_method_1_code (3 : Nat) (Option.none : Option Jvm.ClassFile.FieldType)) ∈ lw_all := lw_g (lw_at lw_m1 120 rfl) rfl
theorem q168 : (Jvm.Cond.methodLink "WordBench$Own" (3 : Nat) ({ cls := "WordBench$Line", name := "<init>", desc := "(II)V" } : Jvm.MethodName)) ∈ lw_all := lw_g (lw_at lw_m1 121 rfl) rfl
theorem q169 : (Jvm.Cond.laysFinal "WordBench$Own" "WordBench$Code" "q" "I") ∈ lw_all := lw_g (lw_at lw_m1 122 rfl) rfl
theorem q170 : (Jvm.Cond.laysFinal "WordBench$Own" "WordBench$Code" "n" "I") ∈ lw_all := lw_g (lw_at lw_m1 123 rfl) rfl
theorem q171 : (Jvm.Cond.laysFinal "WordBench$Own" "WordBench$Code" "rows" "[J") ∈ lw_all := lw_g (lw_at lw_m1 124 rfl) rfl
theorem q172 : (Jvm.Cond.lays "WordBench$Own" "WordBench$Code" "size" "I") ∈ lw_all := lw_g (lw_at lw_m1 125 rfl) rfl
theorem q173 : (Jvm.Cond.superclass "WordBench$Own" "WordBench$Line") ∈ lw_all := lw_g (lw_at lw_m1 126 rfl) rfl
theorem q206 : (Jvm.Cond.selects "WordBench$Own" ({ cls := "WordBench$Code", name := "refuses", desc := "(J)I" } : Jvm.MethodName) ({ cls := "WordBench$Own", name := "refuses", desc := "(J)I" } : Jvm.MethodName)) ∈ lw_all := lw_g (lw_at lw_m1 159 rfl) rfl
theorem q207 : (Jvm.Cond.instanceMethod ({ cls := "WordBench$Own", name := "refuses", desc := "(J)I" } : Jvm.MethodName)) ∈ lw_all := lw_g (lw_at lw_m1 160 rfl) rfl
theorem q208 : (Jvm.Cond.code ({ cls := "WordBench$Own", name := "refuses", desc := "(J)I" } : Jvm.MethodName) prog_6_method_4_code (5 : Nat) (Option.some Jvm.ClassFile.FieldType.int)) ∈ lw_all := lw_g (lw_at lw_m1 161 rfl) rfl
theorem q209 : (Jvm.Cond.methodLinkNest "WordBench$Own" (19 : Nat) ({ cls := "WordBench", name := "productOf", desc := "(IIJJ)I" } : Jvm.MethodName) "WordBench") ∈ lw_tbl := lw_at lw_m1 162 rfl
theorem q218 : (Jvm.Cond.methodLink "WordBench$Own" (30 : Nat) ({ cls := "WordBench$Line", name := "refuses", desc := "(J)I" } : Jvm.MethodName)) ∈ lw_all := lw_g (lw_at lw_m1 171 rfl) rfl
theorem q227 : (Jvm.Cond.selects "WordBench$Own" ({ cls := "WordBench$Code", name := "add", desc := "(J)V" } : Jvm.MethodName) ({ cls := "WordBench$Code", name := "add", desc := "(J)V" } : Jvm.MethodName)) ∈ lw_all := lw_g (lw_at lw_m1 180 rfl) rfl
theorem q273 : (Jvm.Cond.selects "WordBench$Own" ({ cls := "WordBench$Code", name := "kind", desc := "()I" } : Jvm.MethodName) ({ cls := "WordBench$Own", name := "kind", desc := "()I" } : Jvm.MethodName)) ∈ lw_all := lw_g (lw_at lw_m1 226 rfl) rfl
theorem q274 : (Jvm.Cond.instanceMethod ({ cls := "WordBench$Own", name := "kind", desc := "()I" } : Jvm.MethodName)) ∈ lw_all := lw_g (lw_at lw_m1 227 rfl) rfl
theorem q275 : (Jvm.Cond.code ({ cls := "WordBench$Own", name := "kind", desc := "()I" } : Jvm.MethodName) prog_6_method_3_code (1 : Nat) (Option.some Jvm.ClassFile.FieldType.int)) ∈ lw_all := lw_g (lw_at lw_m1 228 rfl) rfl
theorem q328 : (Jvm.Cond.selects "WordBench$Own" ({ cls := "WordBench$Line", name := "isWithinDual", desc := "()Z" } : Jvm.MethodName) ({ cls := "WordBench$Line", name := "isWithinDual", desc := "()Z" } : Jvm.MethodName)) ∈ lw_all := lw_g (lw_at lw_m2 41 rfl) rfl
theorem q409 : (Jvm.Cond.selects "WordBench$Own" ({ cls := "WordBench$Line", name := "add", desc := "(J)V" } : Jvm.MethodName) ({ cls := "WordBench$Code", name := "add", desc := "(J)V" } : Jvm.MethodName)) ∈ lw_all := lw_g (lw_at lw_m2 122 rfl) rfl
theorem q624 : (Jvm.Cond.selects "WordBench$Own" ({ cls := "java/lang/Object", name := "getClass", desc := "()Ljava/lang/Class;" } : Jvm.MethodName) ({ cls := "java/lang/Object", name := "getClass", desc := "()Ljava/lang/Class;" } : Jvm.MethodName)) ∈ lw_all := lw_g (lw_at lw_m3 97 rfl) rfl
theorem q695 : (Jvm.Cond.selects "WordBench$Own" ({ cls := "WordBench$Code", name := "copy", desc := "()LWordBench$Code;" } : Jvm.MethodName) ({ cls := "WordBench$Code", name := "copy", desc := "()LWordBench$Code;" } : Jvm.MethodName)) ∈ lw_all := lw_g (lw_at lw_m3 168 rfl) rfl
theorem q711 : (Jvm.Cond.selects "WordBench$Own" ({ cls := "WordBench$Code", name := "another", desc := "(I)LWordBench$Code;" } : Jvm.MethodName) ({ cls := "WordBench$Own", name := "another", desc := "(I)LWordBench$Code;" } : Jvm.MethodName)) ∈ lw_all := lw_g (lw_at lw_m3 184 rfl) rfl
theorem q712 : (Jvm.Cond.instanceMethod ({ cls := "WordBench$Own", name := "another", desc := "(I)LWordBench$Code;" } : Jvm.MethodName)) ∈ lw_all := lw_g (lw_at lw_m3 185 rfl) rfl
theorem q713 : (Jvm.Cond.code ({ cls := "WordBench$Own", name := "another", desc := "(I)LWordBench$Code;" } : Jvm.MethodName) prog_6_method_2_code (2 : Nat) (Option.some (Jvm.ClassFile.FieldType.object "WordBench$Code"))) ∈ lw_all := lw_g (lw_at lw_m3 186 rfl) rfl
theorem q714 : (Jvm.Cond.classLink "WordBench$Own" (9 : Nat) "WordBench$Own") ∈ lw_all := lw_g (lw_at lw_m3 187 rfl) rfl
theorem q715 : (Jvm.Cond.methodLink "WordBench$Own" (15 : Nat) ({ cls := "WordBench$Own", name := "<init>", desc := "(II)V" } : Jvm.MethodName)) ∈ lw_all := lw_g (lw_at lw_m3 188 rfl) rfl
theorem q902 : (Jvm.Cond.selects "WordBench$Own" ({ cls := "WordBench$Code", name := "heft", desc := "()I" } : Jvm.MethodName) ({ cls := "WordBench$Own", name := "heft", desc := "()I" } : Jvm.MethodName)) ∈ lw_all := lw_g (lw_at lw_m4 135 rfl) rfl
theorem q903 : (Jvm.Cond.instanceMethod ({ cls := "WordBench$Own", name := "heft", desc := "()I" } : Jvm.MethodName)) ∈ lw_all := lw_g (lw_at lw_m4 136 rfl) rfl
theorem q904 : (Jvm.Cond.code ({ cls := "WordBench$Own", name := "heft", desc := "()I" } : Jvm.MethodName) prog_6_method_5_code (1 : Nat) (Option.some Jvm.ClassFile.FieldType.int)) ∈ lw_all := lw_g (lw_at lw_m4 137 rfl) rfl
theorem q905 : (Jvm.Cond.methodLink "WordBench$Own" (34 : Nat) ({ cls := "WordBench$Line", name := "heft", desc := "()I" } : Jvm.MethodName)) ∈ lw_all := lw_g (lw_at lw_m4 138 rfl) rfl
theorem q942 : (Jvm.Cond.selects "WordBench$Own" ({ cls := "WordBench$Code", name := "failure", desc := "()LWordBench$Tossed;" } : Jvm.MethodName) ({ cls := "WordBench$Line", name := "failure", desc := "()LWordBench$Tossed;" } : Jvm.MethodName)) ∈ lw_all := lw_g (lw_at lw_m4 175 rfl) rfl
theorem q1422 : (Jvm.Cond.castable "WordBench$Own" "WordBench$Line") ∈ lw_tbl := lw_at lw_m6 175 rfl
theorem q1426 : (Jvm.Cond.castable "WordBench$Own" "WordBench$Code") ∈ lw_tbl := lw_at lw_m6 179 rfl
theorem q1435 : (Jvm.Cond.castable "WordBench$Own" "java/lang/Object") ∈ lw_tbl := lw_at lw_m6 188 rfl
theorem in_X7 : ∀ w ∈ wsX70, w ∈ lw_all := lw_in wsX70 [169, 170, 171, 172] (by decide +kernel) (by decide +kernel)

/-! WordBench$Ring -/
set_option maxRecDepth 100000
def RX8 : String := "WordBench$Ring"
def TX8 : u_T := fun k => match k with
  | 0 => ("WordBench$Code", "q", "I", true)
  | 1 => ("WordBench$Code", "n", "I", true)
  | 2 => ("WordBench$Code", "rows", "[J", true)
  | _ => ("WordBench$Code", "size", "I", false)
def tyX8 : Nat → FieldType := fun k => match k with
  | 0 => .int
  | 1 => .int
  | 2 => .array .long
  | _ => .int
abbrev wsX80 : List Cond := u_ws RX8 TX8 4
theorem nmX8 : ∀ a, a < 4 → ∀ b, b < 4 → a ≠ b → (TX8 a).2.1 ≠ (TX8 b).2.1 := by decide +kernel
theorem tyX8_ok : ∀ k, k < 4 → parseFieldDescriptor (TX8 k).2.2.1 = some (tyX8 k) := by decide +kernel
abbrev cX8_refuses : ByteArray := prog_7_method_4_code
def yX8_refuses : MethodName := ⟨RX8, "refuses", "(J)I"⟩
theorem dX8_refuses_0 : decode cX8_refuses 0 = .ok (.bipush (-12), 2) := by decide +kernel
theorem dX8_refuses_2 : decode cX8_refuses 2 = .ok (.ireturn, 1) := by decide +kernel
abbrev cX8_init : ByteArray := prog_7_method_1_code
def yX8_init : MethodName := ⟨RX8, "<init>", "(II)V"⟩
def dkwX8_init_0 : List UInt8 := [42, 27, 28, 183, 0, 3, 177]
abbrev dktX8_init_0 : List UInt8 := dkwX8_init_0 ++ []
theorem dksX8_init_0 : cX8_init.data.toList.drop 0 = dktX8_init_0 := by decide +kernel
theorem dX8_init_0 : decode cX8_init 0 = .ok (.aload_n 0, 1) := dk_42 (dk_at dksX8_init_0 0 rfl rfl)
theorem dX8_init_1 : decode cX8_init 1 = .ok (.iload_n 1, 1) := dk_27 (dk_at dksX8_init_0 1 rfl rfl)
theorem dX8_init_2 : decode cX8_init 2 = .ok (.iload_n 2, 1) := dk_28 (dk_at dksX8_init_0 2 rfl rfl)
theorem dX8_init_3 : decode cX8_init 3 = .ok (.invokespecial 3, 3) := dk_183 0 3 (dk_at dksX8_init_0 3 rfl rfl)
theorem dX8_init_6 : decode cX8_init 6 = .ok (.return_, 1) := dk_177 (dk_at dksX8_init_0 6 rfl rfl)
abbrev cX8_kind : ByteArray := prog_7_method_3_code
def yX8_kind : MethodName := ⟨RX8, "kind", "()I"⟩
theorem dX8_kind_0 : decode cX8_kind 0 = .ok (.iconst 2, 1) := by decide +kernel
theorem dX8_kind_1 : decode cX8_kind 1 = .ok (.ireturn, 1) := by decide +kernel
abbrev cX8_another : ByteArray := prog_7_method_2_code
def yX8_another : MethodName := ⟨RX8, "another", "(I)LWordBench$Code;"⟩
def dkwX8_another_0 : List UInt8 := [187, 0, 9, 89, 42, 180, 0, 11, 27, 183, 0, 15, 176]
abbrev dktX8_another_0 : List UInt8 := dkwX8_another_0 ++ []
theorem dksX8_another_0 : cX8_another.data.toList.drop 0 = dktX8_another_0 := by decide +kernel
theorem dX8_another_0 : decode cX8_another 0 = .ok (.new 9, 3) := dk_187 0 9 (dk_at dksX8_another_0 0 rfl rfl)
theorem dX8_another_3 : decode cX8_another 3 = .ok (.dup, 1) := dk_89 (dk_at dksX8_another_0 3 rfl rfl)
theorem dX8_another_4 : decode cX8_another 4 = .ok (.aload_n 0, 1) := dk_42 (dk_at dksX8_another_0 4 rfl rfl)
theorem dX8_another_5 : decode cX8_another 5 = .ok (.getfield 11, 3) := dk_180 0 11 (dk_at dksX8_another_0 5 rfl rfl)
theorem dX8_another_8 : decode cX8_another 8 = .ok (.iload_n 1, 1) := dk_27 (dk_at dksX8_another_0 8 rfl rfl)
theorem dX8_another_9 : decode cX8_another 9 = .ok (.invokespecial 15, 3) := dk_183 0 15 (dk_at dksX8_another_0 9 rfl rfl)
theorem dX8_another_12 : decode cX8_another 12 = .ok (.areturn, 1) := dk_176 (dk_at dksX8_another_0 12 rfl rfl)
abbrev cX8_heft : ByteArray := prog_7_method_5_code
def yX8_heft : MethodName := ⟨RX8, "heft", "()I"⟩
def dkwX8_heft_0 : List UInt8 := [42, 183, 0, 16, 17, 3, 232, 96, 172]
abbrev dktX8_heft_0 : List UInt8 := dkwX8_heft_0 ++ []
theorem dksX8_heft_0 : cX8_heft.data.toList.drop 0 = dktX8_heft_0 := by decide +kernel
theorem dX8_heft_0 : decode cX8_heft 0 = .ok (.aload_n 0, 1) := dk_42 (dk_at dksX8_heft_0 0 rfl rfl)
theorem dX8_heft_1 : decode cX8_heft 1 = .ok (.invokespecial 16, 3) := dk_183 0 16 (dk_at dksX8_heft_0 1 rfl rfl)
theorem dX8_heft_4 : decode cX8_heft 4 = .ok (.sipush 1000, 3) := dk_17 3 232 (dk_at dksX8_heft_0 4 rfl rfl)
theorem dX8_heft_7 : decode cX8_heft 7 = .ok (.iadd, 1) := dk_96 (dk_at dksX8_heft_0 7 rfl rfl)
theorem dX8_heft_8 : decode cX8_heft 8 = .ok (.ireturn, 1) := dk_172 (dk_at dksX8_heft_0 8 rfl rfl)
theorem q62 : (Jvm.Cond.initialized "WordBench$Ring") ∈ lw_all := lw_g (lw_at lw_m1 15 rfl) rfl
theorem q110 : (Jvm.Cond.fieldLink "WordBench$Ring" (11 : Nat) "WordBench$Ring" "q" "I") ∈ lw_all := lw_g (lw_at lw_m1 63 rfl) rfl
theorem q111 : (Jvm.Cond.sameField "WordBench$Ring" "WordBench$Code" "q" "I") ∈ lw_all := lw_g (lw_at lw_m1 64 rfl) rfl
theorem q219 : (Jvm.Cond.selects "WordBench$Ring" ({ cls := "WordBench$Code", name := "refuses", desc := "(J)I" } : Jvm.MethodName) ({ cls := "WordBench$Ring", name := "refuses", desc := "(J)I" } : Jvm.MethodName)) ∈ lw_all := lw_g (lw_at lw_m1 172 rfl) rfl
theorem q220 : (Jvm.Cond.instanceMethod ({ cls := "WordBench$Ring", name := "refuses", desc := "(J)I" } : Jvm.MethodName)) ∈ lw_all := lw_g (lw_at lw_m1 173 rfl) rfl
theorem q221 : (Jvm.Cond.code ({ cls := "WordBench$Ring", name := "refuses", desc := "(J)I" } : Jvm.MethodName) prog_7_method_4_code (3 : Nat) (Option.some Jvm.ClassFile.FieldType.int)) ∈ lw_all := lw_g (lw_at lw_m1 174 rfl) rfl
theorem q228 : (Jvm.Cond.selects "WordBench$Ring" ({ cls := "WordBench$Code", name := "add", desc := "(J)V" } : Jvm.MethodName) ({ cls := "WordBench$Code", name := "add", desc := "(J)V" } : Jvm.MethodName)) ∈ lw_all := lw_g (lw_at lw_m1 181 rfl) rfl
theorem q235 : (Jvm.Cond.instantiable "WordBench$Ring" (4 : Nat)) ∈ lw_all := lw_g (lw_at lw_m1 188 rfl) rfl
theorem q237 : (Jvm.Cond.instanceMethod ({ cls := "WordBench$Ring", name := "<init>", desc := "(II)V" } : Jvm.MethodName)) ∈ lw_all := lw_g (lw_at lw_m1 190 rfl) rfl
theorem q238 : (Jvm.Cond.code ({ cls := "WordBench$Ring", name := "<init>", desc := "(II)V" } : Jvm.MethodName) prog_7_method_1_code (3 : Nat) (Option.none : Option Jvm.ClassFile.FieldType)) ∈ lw_all := lw_g (lw_at lw_m1 191 rfl) rfl
theorem q239 : (Jvm.Cond.methodLink "WordBench$Ring" (3 : Nat) ({ cls := "WordBench$Line", name := "<init>", desc := "(II)V" } : Jvm.MethodName)) ∈ lw_all := lw_g (lw_at lw_m1 192 rfl) rfl
theorem q240 : (Jvm.Cond.laysFinal "WordBench$Ring" "WordBench$Code" "q" "I") ∈ lw_all := lw_g (lw_at lw_m1 193 rfl) rfl
theorem q241 : (Jvm.Cond.laysFinal "WordBench$Ring" "WordBench$Code" "n" "I") ∈ lw_all := lw_g (lw_at lw_m1 194 rfl) rfl
theorem q242 : (Jvm.Cond.laysFinal "WordBench$Ring" "WordBench$Code" "rows" "[J") ∈ lw_all := lw_g (lw_at lw_m1 195 rfl) rfl
theorem q243 : (Jvm.Cond.lays "WordBench$Ring" "WordBench$Code" "size" "I") ∈ lw_all := lw_g (lw_at lw_m1 196 rfl) rfl
theorem q244 : (Jvm.Cond.superclass "WordBench$Ring" "WordBench$Line") ∈ lw_all := lw_g (lw_at lw_m1 197 rfl) rfl
theorem q253 : (Jvm.Cond.sameMethod "WordBench$Ring" "WordBench$Code" "add" "(J)V") ∈ lw_all := lw_g (lw_at lw_m1 206 rfl) rfl
theorem q255 : (Jvm.Cond.selects "WordBench$Ring" ({ cls := "WordBench$Ring", name := "add", desc := "(J)V" } : Jvm.MethodName) ({ cls := "WordBench$Code", name := "add", desc := "(J)V" } : Jvm.MethodName)) ∈ lw_all := lw_g (lw_at lw_m1 208 rfl) rfl
theorem q276 : (Jvm.Cond.selects "WordBench$Ring" ({ cls := "WordBench$Code", name := "kind", desc := "()I" } : Jvm.MethodName) ({ cls := "WordBench$Ring", name := "kind", desc := "()I" } : Jvm.MethodName)) ∈ lw_all := lw_g (lw_at lw_m1 229 rfl) rfl
theorem q277 : (Jvm.Cond.instanceMethod ({ cls := "WordBench$Ring", name := "kind", desc := "()I" } : Jvm.MethodName)) ∈ lw_all := lw_g (lw_at lw_m1 230 rfl) rfl
theorem q278 : (Jvm.Cond.code ({ cls := "WordBench$Ring", name := "kind", desc := "()I" } : Jvm.MethodName) prog_7_method_3_code (1 : Nat) (Option.some Jvm.ClassFile.FieldType.int)) ∈ lw_all := lw_g (lw_at lw_m1 231 rfl) rfl
theorem q329 : (Jvm.Cond.selects "WordBench$Ring" ({ cls := "WordBench$Line", name := "isWithinDual", desc := "()Z" } : Jvm.MethodName) ({ cls := "WordBench$Line", name := "isWithinDual", desc := "()Z" } : Jvm.MethodName)) ∈ lw_all := lw_g (lw_at lw_m2 42 rfl) rfl
theorem q410 : (Jvm.Cond.selects "WordBench$Ring" ({ cls := "WordBench$Line", name := "add", desc := "(J)V" } : Jvm.MethodName) ({ cls := "WordBench$Code", name := "add", desc := "(J)V" } : Jvm.MethodName)) ∈ lw_all := lw_g (lw_at lw_m2 123 rfl) rfl
theorem q625 : (Jvm.Cond.selects "WordBench$Ring" ({ cls := "java/lang/Object", name := "getClass", desc := "()Ljava/lang/Class;" } : Jvm.MethodName) ({ cls := "java/lang/Object", name := "getClass", desc := "()Ljava/lang/Class;" } : Jvm.MethodName)) ∈ lw_all := lw_g (lw_at lw_m3 98 rfl) rfl
theorem q696 : (Jvm.Cond.selects "WordBench$Ring" ({ cls := "WordBench$Code", name := "copy", desc := "()LWordBench$Code;" } : Jvm.MethodName) ({ cls := "WordBench$Code", name := "copy", desc := "()LWordBench$Code;" } : Jvm.MethodName)) ∈ lw_all := lw_g (lw_at lw_m3 169 rfl) rfl
theorem q716 : (Jvm.Cond.selects "WordBench$Ring" ({ cls := "WordBench$Code", name := "another", desc := "(I)LWordBench$Code;" } : Jvm.MethodName) ({ cls := "WordBench$Ring", name := "another", desc := "(I)LWordBench$Code;" } : Jvm.MethodName)) ∈ lw_all := lw_g (lw_at lw_m3 189 rfl) rfl
theorem q717 : (Jvm.Cond.instanceMethod ({ cls := "WordBench$Ring", name := "another", desc := "(I)LWordBench$Code;" } : Jvm.MethodName)) ∈ lw_all := lw_g (lw_at lw_m3 190 rfl) rfl
theorem q718 : (Jvm.Cond.code ({ cls := "WordBench$Ring", name := "another", desc := "(I)LWordBench$Code;" } : Jvm.MethodName) prog_7_method_2_code (2 : Nat) (Option.some (Jvm.ClassFile.FieldType.object "WordBench$Code"))) ∈ lw_all := lw_g (lw_at lw_m3 191 rfl) rfl
theorem q719 : (Jvm.Cond.classLink "WordBench$Ring" (9 : Nat) "WordBench$Ring") ∈ lw_all := lw_g (lw_at lw_m3 192 rfl) rfl
theorem q720 : (Jvm.Cond.methodLink "WordBench$Ring" (15 : Nat) ({ cls := "WordBench$Ring", name := "<init>", desc := "(II)V" } : Jvm.MethodName)) ∈ lw_all := lw_g (lw_at lw_m3 193 rfl) rfl
theorem q906 : (Jvm.Cond.selects "WordBench$Ring" ({ cls := "WordBench$Code", name := "heft", desc := "()I" } : Jvm.MethodName) ({ cls := "WordBench$Ring", name := "heft", desc := "()I" } : Jvm.MethodName)) ∈ lw_all := lw_g (lw_at lw_m4 139 rfl) rfl
theorem q907 : (Jvm.Cond.instanceMethod ({ cls := "WordBench$Ring", name := "heft", desc := "()I" } : Jvm.MethodName)) ∈ lw_all := lw_g (lw_at lw_m4 140 rfl) rfl
theorem q908 : (Jvm.Cond.code ({ cls := "WordBench$Ring", name := "heft", desc := "()I" } : Jvm.MethodName) prog_7_method_5_code (1 : Nat) (Option.some Jvm.ClassFile.FieldType.int)) ∈ lw_all := lw_g (lw_at lw_m4 141 rfl) rfl
theorem q909 : (Jvm.Cond.methodLink "WordBench$Ring" (16 : Nat) ({ cls := "WordBench$Line", name := "heft", desc := "()I" } : Jvm.MethodName)) ∈ lw_all := lw_g (lw_at lw_m4 142 rfl) rfl
theorem q943 : (Jvm.Cond.selects "WordBench$Ring" ({ cls := "WordBench$Code", name := "failure", desc := "()LWordBench$Tossed;" } : Jvm.MethodName) ({ cls := "WordBench$Line", name := "failure", desc := "()LWordBench$Tossed;" } : Jvm.MethodName)) ∈ lw_all := lw_g (lw_at lw_m4 176 rfl) rfl
theorem q1423 : (Jvm.Cond.castable "WordBench$Ring" "WordBench$Line") ∈ lw_tbl := lw_at lw_m6 176 rfl
theorem q1427 : (Jvm.Cond.castable "WordBench$Ring" "WordBench$Code") ∈ lw_tbl := lw_at lw_m6 180 rfl
theorem q1436 : (Jvm.Cond.castable "WordBench$Ring" "java/lang/Object") ∈ lw_tbl := lw_at lw_m6 189 rfl
theorem in_X8 : ∀ w ∈ wsX80, w ∈ lw_all := lw_in wsX80 [240, 241, 242, 243] (by decide +kernel) (by decide +kernel)

/-! WordBench$Form -/
set_option maxRecDepth 100000
def RX9 : String := "WordBench$Form"
def TX9 : u_T := fun k => match k with
  | 0 => ("WordBench$Form", "q", "I", true)
  | 1 => ("WordBench$Form", "n", "I", true)
  | 2 => ("WordBench$Form", "rows", "[[I", true)
  | 3 => ("WordBench$Form", "heads", "[I", true)
  | _ => ("WordBench$Form", "rank", "I", false)
def tyX9 : Nat → FieldType := fun k => match k with
  | 0 => .int
  | 1 => .int
  | 2 => .array (.array .int)
  | 3 => .array .int
  | _ => .int
abbrev wsX90 : List Cond := u_ws RX9 TX9 5
theorem nmX9 : ∀ a, a < 5 → ∀ b, b < 5 → a ≠ b → (TX9 a).2.1 ≠ (TX9 b).2.1 := by decide +kernel
theorem tyX9_ok : ∀ k, k < 5 → parseFieldDescriptor (TX9 k).2.2.1 = some (tyX9 k) := by decide +kernel
abbrev cX9_init : ByteArray := prog_3_method_1_code
def yX9_init : MethodName := ⟨RX9, "<init>", "(LWordBench$Code;)V"⟩
def dkwX9_init_4 : List UInt8 := [182, 0, 41, 132, 2, 1, 167, 255, 240, 177]
abbrev dktX9_init_4 : List UInt8 := dkwX9_init_4 ++ []
def dkwX9_init_3 : List UInt8 := [47, 184, 0, 35, 83, 132, 2, 1, 167, 255, 222, 3, 61, 28, 42, 180, 0, 19, 162, 0, 14, 42, 28]
abbrev dktX9_init_3 : List UInt8 := dkwX9_init_3 ++ dktX9_init_4
def dkwX9_init_2 : List UInt8 := [180, 0, 20, 162, 0, 32, 42, 180, 0, 25, 28, 42, 180, 0, 13, 42, 180, 0, 19, 43, 180, 0, 32, 28]
abbrev dktX9_init_2 : List UInt8 := dkwX9_init_2 ++ dktX9_init_3
def dkwX9_init_1 : List UInt8 := [180, 0, 20, 189, 0, 23, 181, 0, 25, 42, 43, 180, 0, 20, 188, 10, 181, 0, 29, 3, 61, 28, 43]
abbrev dktX9_init_1 : List UInt8 := dkwX9_init_1 ++ dktX9_init_2
def dkwX9_init_0 : List UInt8 := [42, 183, 0, 1, 42, 43, 180, 0, 7, 181, 0, 13, 42, 43, 180, 0, 16, 181, 0, 19, 42, 43]
abbrev dktX9_init_0 : List UInt8 := dkwX9_init_0 ++ dktX9_init_1
theorem dksX9_init_0 : cX9_init.data.toList.drop 0 = dktX9_init_0 := by decide +kernel
theorem dksX9_init_1 : cX9_init.data.toList.drop 22 = dktX9_init_1 := dk_seg dksX9_init_0 22 rfl rfl
theorem dksX9_init_2 : cX9_init.data.toList.drop 45 = dktX9_init_2 := dk_seg dksX9_init_1 23 rfl rfl
theorem dksX9_init_3 : cX9_init.data.toList.drop 69 = dktX9_init_3 := dk_seg dksX9_init_2 24 rfl rfl
theorem dksX9_init_4 : cX9_init.data.toList.drop 92 = dktX9_init_4 := dk_seg dksX9_init_3 23 rfl rfl
theorem dX9_init_0 : decode cX9_init 0 = .ok (.aload_n 0, 1) := dk_42 (dk_at dksX9_init_0 0 rfl rfl)
theorem dX9_init_1 : decode cX9_init 1 = .ok (.invokespecial 1, 3) := dk_183 0 1 (dk_at dksX9_init_0 1 rfl rfl)
theorem dX9_init_4 : decode cX9_init 4 = .ok (.aload_n 0, 1) := dk_42 (dk_at dksX9_init_0 4 rfl rfl)
theorem dX9_init_5 : decode cX9_init 5 = .ok (.aload_n 1, 1) := dk_43 (dk_at dksX9_init_0 5 rfl rfl)
theorem dX9_init_6 : decode cX9_init 6 = .ok (.getfield 7, 3) := dk_180 0 7 (dk_at dksX9_init_0 6 rfl rfl)
theorem dX9_init_9 : decode cX9_init 9 = .ok (.putfield 13, 3) := dk_181 0 13 (dk_at dksX9_init_0 9 rfl rfl)
theorem dX9_init_12 : decode cX9_init 12 = .ok (.aload_n 0, 1) := dk_42 (dk_at dksX9_init_0 12 rfl rfl)
theorem dX9_init_13 : decode cX9_init 13 = .ok (.aload_n 1, 1) := dk_43 (dk_at dksX9_init_0 13 rfl rfl)
theorem dX9_init_14 : decode cX9_init 14 = .ok (.getfield 16, 3) := dk_180 0 16 (dk_at dksX9_init_0 14 rfl rfl)
theorem dX9_init_17 : decode cX9_init 17 = .ok (.putfield 19, 3) := dk_181 0 19 (dk_at dksX9_init_0 17 rfl rfl)
theorem dX9_init_20 : decode cX9_init 20 = .ok (.aload_n 0, 1) := dk_42 (dk_at dksX9_init_0 20 rfl rfl)
theorem dX9_init_21 : decode cX9_init 21 = .ok (.aload_n 1, 1) := dk_43 (dk_at dksX9_init_0 21 rfl rfl)
theorem dX9_init_22 : decode cX9_init 22 = .ok (.getfield 20, 3) := dk_180 0 20 (dk_at dksX9_init_1 0 rfl rfl)
theorem dX9_init_25 : decode cX9_init 25 = .ok (.anewarray 23, 3) := dk_189 0 23 (dk_at dksX9_init_1 3 rfl rfl)
theorem dX9_init_28 : decode cX9_init 28 = .ok (.putfield 25, 3) := dk_181 0 25 (dk_at dksX9_init_1 6 rfl rfl)
theorem dX9_init_31 : decode cX9_init 31 = .ok (.aload_n 0, 1) := dk_42 (dk_at dksX9_init_1 9 rfl rfl)
theorem dX9_init_32 : decode cX9_init 32 = .ok (.aload_n 1, 1) := dk_43 (dk_at dksX9_init_1 10 rfl rfl)
theorem dX9_init_33 : decode cX9_init 33 = .ok (.getfield 20, 3) := dk_180 0 20 (dk_at dksX9_init_1 11 rfl rfl)
theorem dX9_init_36 : decode cX9_init 36 = .ok (.newarray .int, 2) := dk_188_10 (dk_at dksX9_init_1 14 rfl rfl)
theorem dX9_init_38 : decode cX9_init 38 = .ok (.putfield 29, 3) := dk_181 0 29 (dk_at dksX9_init_1 16 rfl rfl)
theorem dX9_init_41 : decode cX9_init 41 = .ok (.iconst 0, 1) := dk_3 (dk_at dksX9_init_1 19 rfl rfl)
theorem dX9_init_42 : decode cX9_init 42 = .ok (.istore_n 2, 1) := dk_61 (dk_at dksX9_init_1 20 rfl rfl)
theorem dX9_init_43 : decode cX9_init 43 = .ok (.iload_n 2, 1) := dk_28 (dk_at dksX9_init_1 21 rfl rfl)
theorem dX9_init_44 : decode cX9_init 44 = .ok (.aload_n 1, 1) := dk_43 (dk_at dksX9_init_1 22 rfl rfl)
theorem dX9_init_45 : decode cX9_init 45 = .ok (.getfield 20, 3) := dk_180 0 20 (dk_at dksX9_init_2 0 rfl rfl)
theorem dX9_init_48 : decode cX9_init 48 = .ok (.if_icmp .ge 32, 3) := dk_162 0 32 (dk_at dksX9_init_2 3 rfl rfl)
theorem dX9_init_51 : decode cX9_init 51 = .ok (.aload_n 0, 1) := dk_42 (dk_at dksX9_init_2 6 rfl rfl)
theorem dX9_init_52 : decode cX9_init 52 = .ok (.getfield 25, 3) := dk_180 0 25 (dk_at dksX9_init_2 7 rfl rfl)
theorem dX9_init_55 : decode cX9_init 55 = .ok (.iload_n 2, 1) := dk_28 (dk_at dksX9_init_2 10 rfl rfl)
theorem dX9_init_56 : decode cX9_init 56 = .ok (.aload_n 0, 1) := dk_42 (dk_at dksX9_init_2 11 rfl rfl)
theorem dX9_init_57 : decode cX9_init 57 = .ok (.getfield 13, 3) := dk_180 0 13 (dk_at dksX9_init_2 12 rfl rfl)
theorem dX9_init_60 : decode cX9_init 60 = .ok (.aload_n 0, 1) := dk_42 (dk_at dksX9_init_2 15 rfl rfl)
theorem dX9_init_61 : decode cX9_init 61 = .ok (.getfield 19, 3) := dk_180 0 19 (dk_at dksX9_init_2 16 rfl rfl)
theorem dX9_init_64 : decode cX9_init 64 = .ok (.aload_n 1, 1) := dk_43 (dk_at dksX9_init_2 19 rfl rfl)
theorem dX9_init_65 : decode cX9_init 65 = .ok (.getfield 32, 3) := dk_180 0 32 (dk_at dksX9_init_2 20 rfl rfl)
theorem dX9_init_68 : decode cX9_init 68 = .ok (.iload_n 2, 1) := dk_28 (dk_at dksX9_init_2 23 rfl rfl)
theorem dX9_init_69 : decode cX9_init 69 = .ok (.laload, 1) := dk_47 (dk_at dksX9_init_3 0 rfl rfl)
theorem dX9_init_70 : decode cX9_init 70 = .ok (.invokestatic 35, 3) := dk_184 0 35 (dk_at dksX9_init_3 1 rfl rfl)
theorem dX9_init_73 : decode cX9_init 73 = .ok (.aastore, 1) := dk_83 (dk_at dksX9_init_3 4 rfl rfl)
theorem dX9_init_74 : decode cX9_init 74 = .ok (.iinc 2 1, 3) := dk_132 2 1 (dk_at dksX9_init_3 5 rfl rfl)
theorem dX9_init_77 : decode cX9_init 77 = .ok (.goto (-34), 3) := dk_167 255 222 (dk_at dksX9_init_3 8 rfl rfl)
theorem dX9_init_80 : decode cX9_init 80 = .ok (.iconst 0, 1) := dk_3 (dk_at dksX9_init_3 11 rfl rfl)
theorem dX9_init_81 : decode cX9_init 81 = .ok (.istore_n 2, 1) := dk_61 (dk_at dksX9_init_3 12 rfl rfl)
theorem dX9_init_82 : decode cX9_init 82 = .ok (.iload_n 2, 1) := dk_28 (dk_at dksX9_init_3 13 rfl rfl)
theorem dX9_init_83 : decode cX9_init 83 = .ok (.aload_n 0, 1) := dk_42 (dk_at dksX9_init_3 14 rfl rfl)
theorem dX9_init_84 : decode cX9_init 84 = .ok (.getfield 19, 3) := dk_180 0 19 (dk_at dksX9_init_3 15 rfl rfl)
theorem dX9_init_87 : decode cX9_init 87 = .ok (.if_icmp .ge 14, 3) := dk_162 0 14 (dk_at dksX9_init_3 18 rfl rfl)
theorem dX9_init_90 : decode cX9_init 90 = .ok (.aload_n 0, 1) := dk_42 (dk_at dksX9_init_3 21 rfl rfl)
theorem dX9_init_91 : decode cX9_init 91 = .ok (.iload_n 2, 1) := dk_28 (dk_at dksX9_init_3 22 rfl rfl)
theorem dX9_init_92 : decode cX9_init 92 = .ok (.invokevirtual 41, 3) := dk_182 0 41 (dk_at dksX9_init_4 0 rfl rfl)
theorem dX9_init_95 : decode cX9_init 95 = .ok (.iinc 2 1, 3) := dk_132 2 1 (dk_at dksX9_init_4 3 rfl rfl)
theorem dX9_init_98 : decode cX9_init 98 = .ok (.goto (-16), 3) := dk_167 255 240 (dk_at dksX9_init_4 6 rfl rfl)
theorem dX9_init_101 : decode cX9_init 101 = .ok (.return_, 1) := dk_177 (dk_at dksX9_init_4 9 rfl rfl)
abbrev cX9_clears : ByteArray := prog_3_method_2_code
def yX9_clears : MethodName := ⟨RX9, "clears", "(I)V"⟩
def dkwX9_clears_8 : List UInt8 := [180, 0, 45, 27, 79, 42, 89, 180, 0, 45, 4, 96, 181, 0, 45, 177]
abbrev dktX9_clears_8 : List UInt8 := dkwX9_clears_8 ++ []
def dkwX9_clears_7 : List UInt8 := [45, 42, 180, 0, 25, 21, 5, 50, 27, 46, 182, 0, 56, 132, 5, 1, 167, 255, 213, 42, 180, 0, 29, 42]
abbrev dktX9_clears_7 : List UInt8 := dkwX9_clears_7 ++ dktX9_clears_8
def dkwX9_clears_6 : List UInt8 := [180, 0, 25, 190, 162, 0, 39, 21, 5, 42, 180, 0, 45, 159, 0, 24, 42, 42, 180, 0, 25, 21, 5, 50]
abbrev dktX9_clears_6 : List UInt8 := dkwX9_clears_6 ++ dktX9_clears_7
def dkwX9_clears_5 : List UInt8 := [21, 4, 45, 21, 5, 46, 184, 0, 52, 79, 132, 5, 1, 167, 255, 227, 3, 54, 5, 21, 5, 42]
abbrev dktX9_clears_5 : List UInt8 := dkwX9_clears_5 ++ dktX9_clears_6
def dkwX9_clears_4 : List UInt8 := [184, 0, 48, 54, 4, 3, 54, 5, 21, 5, 42, 180, 0, 19, 162, 0, 26, 45, 21, 5, 42, 180, 0, 13]
abbrev dktX9_clears_4 : List UInt8 := dkwX9_clears_4 ++ dktX9_clears_5
def dkwX9_clears_3 : List UInt8 := [132, 2, 255, 167, 255, 231, 42, 180, 0, 25, 42, 180, 0, 45, 45, 83, 42, 180, 0, 13, 45, 27, 46]
abbrev dktX9_clears_3 : List UInt8 := dkwX9_clears_3 ++ dktX9_clears_4
def dkwX9_clears_2 : List UInt8 := [50, 78, 28, 42, 180, 0, 45, 164, 0, 23, 42, 180, 0, 25, 28, 42, 180, 0, 25, 28, 4, 100, 50, 83]
abbrev dktX9_clears_2 : List UInt8 := dkwX9_clears_2 ++ dktX9_clears_3
def dkwX9_clears_1 : List UInt8 := [154, 0, 9, 132, 2, 1, 167, 255, 233, 28, 42, 180, 0, 25, 190, 161, 0, 4, 177, 42, 180, 0, 25, 28]
abbrev dktX9_clears_1 : List UInt8 := dkwX9_clears_1 ++ dktX9_clears_2
def dkwX9_clears_0 : List UInt8 := [42, 180, 0, 45, 61, 28, 42, 180, 0, 25, 190, 162, 0, 20, 42, 180, 0, 25, 28, 50, 27, 46]
abbrev dktX9_clears_0 : List UInt8 := dkwX9_clears_0 ++ dktX9_clears_1
theorem dksX9_clears_0 : cX9_clears.data.toList.drop 0 = dktX9_clears_0 := by decide +kernel
theorem dksX9_clears_1 : cX9_clears.data.toList.drop 22 = dktX9_clears_1 := dk_seg dksX9_clears_0 22 rfl rfl
theorem dksX9_clears_2 : cX9_clears.data.toList.drop 46 = dktX9_clears_2 := dk_seg dksX9_clears_1 24 rfl rfl
theorem dksX9_clears_3 : cX9_clears.data.toList.drop 70 = dktX9_clears_3 := dk_seg dksX9_clears_2 24 rfl rfl
theorem dksX9_clears_4 : cX9_clears.data.toList.drop 93 = dktX9_clears_4 := dk_seg dksX9_clears_3 23 rfl rfl
theorem dksX9_clears_5 : cX9_clears.data.toList.drop 117 = dktX9_clears_5 := dk_seg dksX9_clears_4 24 rfl rfl
theorem dksX9_clears_6 : cX9_clears.data.toList.drop 139 = dktX9_clears_6 := dk_seg dksX9_clears_5 22 rfl rfl
theorem dksX9_clears_7 : cX9_clears.data.toList.drop 163 = dktX9_clears_7 := dk_seg dksX9_clears_6 24 rfl rfl
theorem dksX9_clears_8 : cX9_clears.data.toList.drop 187 = dktX9_clears_8 := dk_seg dksX9_clears_7 24 rfl rfl
theorem dX9_clears_0 : decode cX9_clears 0 = .ok (.aload_n 0, 1) := dk_42 (dk_at dksX9_clears_0 0 rfl rfl)
theorem dX9_clears_1 : decode cX9_clears 1 = .ok (.getfield 45, 3) := dk_180 0 45 (dk_at dksX9_clears_0 1 rfl rfl)
theorem dX9_clears_4 : decode cX9_clears 4 = .ok (.istore_n 2, 1) := dk_61 (dk_at dksX9_clears_0 4 rfl rfl)
theorem dX9_clears_5 : decode cX9_clears 5 = .ok (.iload_n 2, 1) := dk_28 (dk_at dksX9_clears_0 5 rfl rfl)
theorem dX9_clears_6 : decode cX9_clears 6 = .ok (.aload_n 0, 1) := dk_42 (dk_at dksX9_clears_0 6 rfl rfl)
theorem dX9_clears_7 : decode cX9_clears 7 = .ok (.getfield 25, 3) := dk_180 0 25 (dk_at dksX9_clears_0 7 rfl rfl)
theorem dX9_clears_10 : decode cX9_clears 10 = .ok (.arraylength, 1) := dk_190 (dk_at dksX9_clears_0 10 rfl rfl)
theorem dX9_clears_11 : decode cX9_clears 11 = .ok (.if_icmp .ge 20, 3) := dk_162 0 20 (dk_at dksX9_clears_0 11 rfl rfl)
theorem dX9_clears_14 : decode cX9_clears 14 = .ok (.aload_n 0, 1) := dk_42 (dk_at dksX9_clears_0 14 rfl rfl)
theorem dX9_clears_15 : decode cX9_clears 15 = .ok (.getfield 25, 3) := dk_180 0 25 (dk_at dksX9_clears_0 15 rfl rfl)
theorem dX9_clears_18 : decode cX9_clears 18 = .ok (.iload_n 2, 1) := dk_28 (dk_at dksX9_clears_0 18 rfl rfl)
theorem dX9_clears_19 : decode cX9_clears 19 = .ok (.aaload, 1) := dk_50 (dk_at dksX9_clears_0 19 rfl rfl)
theorem dX9_clears_20 : decode cX9_clears 20 = .ok (.iload_n 1, 1) := dk_27 (dk_at dksX9_clears_0 20 rfl rfl)
theorem dX9_clears_21 : decode cX9_clears 21 = .ok (.iaload, 1) := dk_46 (dk_at dksX9_clears_0 21 rfl rfl)
theorem dX9_clears_22 : decode cX9_clears 22 = .ok (.ifCond .ne 9, 3) := dk_154 0 9 (dk_at dksX9_clears_1 0 rfl rfl)
theorem dX9_clears_25 : decode cX9_clears 25 = .ok (.iinc 2 1, 3) := dk_132 2 1 (dk_at dksX9_clears_1 3 rfl rfl)
theorem dX9_clears_28 : decode cX9_clears 28 = .ok (.goto (-23), 3) := dk_167 255 233 (dk_at dksX9_clears_1 6 rfl rfl)
theorem dX9_clears_31 : decode cX9_clears 31 = .ok (.iload_n 2, 1) := dk_28 (dk_at dksX9_clears_1 9 rfl rfl)
theorem dX9_clears_32 : decode cX9_clears 32 = .ok (.aload_n 0, 1) := dk_42 (dk_at dksX9_clears_1 10 rfl rfl)
theorem dX9_clears_33 : decode cX9_clears 33 = .ok (.getfield 25, 3) := dk_180 0 25 (dk_at dksX9_clears_1 11 rfl rfl)
theorem dX9_clears_36 : decode cX9_clears 36 = .ok (.arraylength, 1) := dk_190 (dk_at dksX9_clears_1 14 rfl rfl)
theorem dX9_clears_37 : decode cX9_clears 37 = .ok (.if_icmp .lt 4, 3) := dk_161 0 4 (dk_at dksX9_clears_1 15 rfl rfl)
theorem dX9_clears_40 : decode cX9_clears 40 = .ok (.return_, 1) := dk_177 (dk_at dksX9_clears_1 18 rfl rfl)
theorem dX9_clears_41 : decode cX9_clears 41 = .ok (.aload_n 0, 1) := dk_42 (dk_at dksX9_clears_1 19 rfl rfl)
theorem dX9_clears_42 : decode cX9_clears 42 = .ok (.getfield 25, 3) := dk_180 0 25 (dk_at dksX9_clears_1 20 rfl rfl)
theorem dX9_clears_45 : decode cX9_clears 45 = .ok (.iload_n 2, 1) := dk_28 (dk_at dksX9_clears_1 23 rfl rfl)
theorem dX9_clears_46 : decode cX9_clears 46 = .ok (.aaload, 1) := dk_50 (dk_at dksX9_clears_2 0 rfl rfl)
theorem dX9_clears_47 : decode cX9_clears 47 = .ok (.astore_n 3, 1) := dk_78 (dk_at dksX9_clears_2 1 rfl rfl)
theorem dX9_clears_48 : decode cX9_clears 48 = .ok (.iload_n 2, 1) := dk_28 (dk_at dksX9_clears_2 2 rfl rfl)
theorem dX9_clears_49 : decode cX9_clears 49 = .ok (.aload_n 0, 1) := dk_42 (dk_at dksX9_clears_2 3 rfl rfl)
theorem dX9_clears_50 : decode cX9_clears 50 = .ok (.getfield 45, 3) := dk_180 0 45 (dk_at dksX9_clears_2 4 rfl rfl)
theorem dX9_clears_53 : decode cX9_clears 53 = .ok (.if_icmp .le 23, 3) := dk_164 0 23 (dk_at dksX9_clears_2 7 rfl rfl)
theorem dX9_clears_56 : decode cX9_clears 56 = .ok (.aload_n 0, 1) := dk_42 (dk_at dksX9_clears_2 10 rfl rfl)
theorem dX9_clears_57 : decode cX9_clears 57 = .ok (.getfield 25, 3) := dk_180 0 25 (dk_at dksX9_clears_2 11 rfl rfl)
theorem dX9_clears_60 : decode cX9_clears 60 = .ok (.iload_n 2, 1) := dk_28 (dk_at dksX9_clears_2 14 rfl rfl)
theorem dX9_clears_61 : decode cX9_clears 61 = .ok (.aload_n 0, 1) := dk_42 (dk_at dksX9_clears_2 15 rfl rfl)
theorem dX9_clears_62 : decode cX9_clears 62 = .ok (.getfield 25, 3) := dk_180 0 25 (dk_at dksX9_clears_2 16 rfl rfl)
theorem dX9_clears_65 : decode cX9_clears 65 = .ok (.iload_n 2, 1) := dk_28 (dk_at dksX9_clears_2 19 rfl rfl)
theorem dX9_clears_66 : decode cX9_clears 66 = .ok (.iconst 1, 1) := dk_4 (dk_at dksX9_clears_2 20 rfl rfl)
theorem dX9_clears_67 : decode cX9_clears 67 = .ok (.isub, 1) := dk_100 (dk_at dksX9_clears_2 21 rfl rfl)
theorem dX9_clears_68 : decode cX9_clears 68 = .ok (.aaload, 1) := dk_50 (dk_at dksX9_clears_2 22 rfl rfl)
theorem dX9_clears_69 : decode cX9_clears 69 = .ok (.aastore, 1) := dk_83 (dk_at dksX9_clears_2 23 rfl rfl)
theorem dX9_clears_70 : decode cX9_clears 70 = .ok (.iinc 2 (-1), 3) := dk_132 2 255 (dk_at dksX9_clears_3 0 rfl rfl)
theorem dX9_clears_73 : decode cX9_clears 73 = .ok (.goto (-25), 3) := dk_167 255 231 (dk_at dksX9_clears_3 3 rfl rfl)
theorem dX9_clears_76 : decode cX9_clears 76 = .ok (.aload_n 0, 1) := dk_42 (dk_at dksX9_clears_3 6 rfl rfl)
theorem dX9_clears_77 : decode cX9_clears 77 = .ok (.getfield 25, 3) := dk_180 0 25 (dk_at dksX9_clears_3 7 rfl rfl)
theorem dX9_clears_80 : decode cX9_clears 80 = .ok (.aload_n 0, 1) := dk_42 (dk_at dksX9_clears_3 10 rfl rfl)
theorem dX9_clears_81 : decode cX9_clears 81 = .ok (.getfield 45, 3) := dk_180 0 45 (dk_at dksX9_clears_3 11 rfl rfl)
theorem dX9_clears_84 : decode cX9_clears 84 = .ok (.aload_n 3, 1) := dk_45 (dk_at dksX9_clears_3 14 rfl rfl)
theorem dX9_clears_85 : decode cX9_clears 85 = .ok (.aastore, 1) := dk_83 (dk_at dksX9_clears_3 15 rfl rfl)
theorem dX9_clears_86 : decode cX9_clears 86 = .ok (.aload_n 0, 1) := dk_42 (dk_at dksX9_clears_3 16 rfl rfl)
theorem dX9_clears_87 : decode cX9_clears 87 = .ok (.getfield 13, 3) := dk_180 0 13 (dk_at dksX9_clears_3 17 rfl rfl)
theorem dX9_clears_90 : decode cX9_clears 90 = .ok (.aload_n 3, 1) := dk_45 (dk_at dksX9_clears_3 20 rfl rfl)
theorem dX9_clears_91 : decode cX9_clears 91 = .ok (.iload_n 1, 1) := dk_27 (dk_at dksX9_clears_3 21 rfl rfl)
theorem dX9_clears_92 : decode cX9_clears 92 = .ok (.iaload, 1) := dk_46 (dk_at dksX9_clears_3 22 rfl rfl)
theorem dX9_clears_93 : decode cX9_clears 93 = .ok (.invokestatic 48, 3) := dk_184 0 48 (dk_at dksX9_clears_4 0 rfl rfl)
theorem dX9_clears_96 : decode cX9_clears 96 = .ok (.istore 4, 2) := dk_54 4 (dk_at dksX9_clears_4 3 rfl rfl)
theorem dX9_clears_98 : decode cX9_clears 98 = .ok (.iconst 0, 1) := dk_3 (dk_at dksX9_clears_4 5 rfl rfl)
theorem dX9_clears_99 : decode cX9_clears 99 = .ok (.istore 5, 2) := dk_54 5 (dk_at dksX9_clears_4 6 rfl rfl)
theorem dX9_clears_101 : decode cX9_clears 101 = .ok (.iload 5, 2) := dk_21 5 (dk_at dksX9_clears_4 8 rfl rfl)
theorem dX9_clears_103 : decode cX9_clears 103 = .ok (.aload_n 0, 1) := dk_42 (dk_at dksX9_clears_4 10 rfl rfl)
theorem dX9_clears_104 : decode cX9_clears 104 = .ok (.getfield 19, 3) := dk_180 0 19 (dk_at dksX9_clears_4 11 rfl rfl)
theorem dX9_clears_107 : decode cX9_clears 107 = .ok (.if_icmp .ge 26, 3) := dk_162 0 26 (dk_at dksX9_clears_4 14 rfl rfl)
theorem dX9_clears_110 : decode cX9_clears 110 = .ok (.aload_n 3, 1) := dk_45 (dk_at dksX9_clears_4 17 rfl rfl)
theorem dX9_clears_111 : decode cX9_clears 111 = .ok (.iload 5, 2) := dk_21 5 (dk_at dksX9_clears_4 18 rfl rfl)
theorem dX9_clears_113 : decode cX9_clears 113 = .ok (.aload_n 0, 1) := dk_42 (dk_at dksX9_clears_4 20 rfl rfl)
theorem dX9_clears_114 : decode cX9_clears 114 = .ok (.getfield 13, 3) := dk_180 0 13 (dk_at dksX9_clears_4 21 rfl rfl)
theorem dX9_clears_117 : decode cX9_clears 117 = .ok (.iload 4, 2) := dk_21 4 (dk_at dksX9_clears_5 0 rfl rfl)
theorem dX9_clears_119 : decode cX9_clears 119 = .ok (.aload_n 3, 1) := dk_45 (dk_at dksX9_clears_5 2 rfl rfl)
theorem dX9_clears_120 : decode cX9_clears 120 = .ok (.iload 5, 2) := dk_21 5 (dk_at dksX9_clears_5 3 rfl rfl)
theorem dX9_clears_122 : decode cX9_clears 122 = .ok (.iaload, 1) := dk_46 (dk_at dksX9_clears_5 5 rfl rfl)
theorem dX9_clears_123 : decode cX9_clears 123 = .ok (.invokestatic 52, 3) := dk_184 0 52 (dk_at dksX9_clears_5 6 rfl rfl)
theorem dX9_clears_126 : decode cX9_clears 126 = .ok (.iastore, 1) := dk_79 (dk_at dksX9_clears_5 9 rfl rfl)
theorem dX9_clears_127 : decode cX9_clears 127 = .ok (.iinc 5 1, 3) := dk_132 5 1 (dk_at dksX9_clears_5 10 rfl rfl)
theorem dX9_clears_130 : decode cX9_clears 130 = .ok (.goto (-29), 3) := dk_167 255 227 (dk_at dksX9_clears_5 13 rfl rfl)
theorem dX9_clears_133 : decode cX9_clears 133 = .ok (.iconst 0, 1) := dk_3 (dk_at dksX9_clears_5 16 rfl rfl)
theorem dX9_clears_134 : decode cX9_clears 134 = .ok (.istore 5, 2) := dk_54 5 (dk_at dksX9_clears_5 17 rfl rfl)
theorem dX9_clears_136 : decode cX9_clears 136 = .ok (.iload 5, 2) := dk_21 5 (dk_at dksX9_clears_5 19 rfl rfl)
theorem dX9_clears_138 : decode cX9_clears 138 = .ok (.aload_n 0, 1) := dk_42 (dk_at dksX9_clears_5 21 rfl rfl)
theorem dX9_clears_139 : decode cX9_clears 139 = .ok (.getfield 25, 3) := dk_180 0 25 (dk_at dksX9_clears_6 0 rfl rfl)
theorem dX9_clears_142 : decode cX9_clears 142 = .ok (.arraylength, 1) := dk_190 (dk_at dksX9_clears_6 3 rfl rfl)
theorem dX9_clears_143 : decode cX9_clears 143 = .ok (.if_icmp .ge 39, 3) := dk_162 0 39 (dk_at dksX9_clears_6 4 rfl rfl)
theorem dX9_clears_146 : decode cX9_clears 146 = .ok (.iload 5, 2) := dk_21 5 (dk_at dksX9_clears_6 7 rfl rfl)
theorem dX9_clears_148 : decode cX9_clears 148 = .ok (.aload_n 0, 1) := dk_42 (dk_at dksX9_clears_6 9 rfl rfl)
theorem dX9_clears_149 : decode cX9_clears 149 = .ok (.getfield 45, 3) := dk_180 0 45 (dk_at dksX9_clears_6 10 rfl rfl)
theorem dX9_clears_152 : decode cX9_clears 152 = .ok (.if_icmp .eq 24, 3) := dk_159 0 24 (dk_at dksX9_clears_6 13 rfl rfl)
theorem dX9_clears_155 : decode cX9_clears 155 = .ok (.aload_n 0, 1) := dk_42 (dk_at dksX9_clears_6 16 rfl rfl)
theorem dX9_clears_156 : decode cX9_clears 156 = .ok (.aload_n 0, 1) := dk_42 (dk_at dksX9_clears_6 17 rfl rfl)
theorem dX9_clears_157 : decode cX9_clears 157 = .ok (.getfield 25, 3) := dk_180 0 25 (dk_at dksX9_clears_6 18 rfl rfl)
theorem dX9_clears_160 : decode cX9_clears 160 = .ok (.iload 5, 2) := dk_21 5 (dk_at dksX9_clears_6 21 rfl rfl)
theorem dX9_clears_162 : decode cX9_clears 162 = .ok (.aaload, 1) := dk_50 (dk_at dksX9_clears_6 23 rfl rfl)
theorem dX9_clears_163 : decode cX9_clears 163 = .ok (.aload_n 3, 1) := dk_45 (dk_at dksX9_clears_7 0 rfl rfl)
theorem dX9_clears_164 : decode cX9_clears 164 = .ok (.aload_n 0, 1) := dk_42 (dk_at dksX9_clears_7 1 rfl rfl)
theorem dX9_clears_165 : decode cX9_clears 165 = .ok (.getfield 25, 3) := dk_180 0 25 (dk_at dksX9_clears_7 2 rfl rfl)
theorem dX9_clears_168 : decode cX9_clears 168 = .ok (.iload 5, 2) := dk_21 5 (dk_at dksX9_clears_7 5 rfl rfl)
theorem dX9_clears_170 : decode cX9_clears 170 = .ok (.aaload, 1) := dk_50 (dk_at dksX9_clears_7 7 rfl rfl)
theorem dX9_clears_171 : decode cX9_clears 171 = .ok (.iload_n 1, 1) := dk_27 (dk_at dksX9_clears_7 8 rfl rfl)
theorem dX9_clears_172 : decode cX9_clears 172 = .ok (.iaload, 1) := dk_46 (dk_at dksX9_clears_7 9 rfl rfl)
theorem dX9_clears_173 : decode cX9_clears 173 = .ok (.invokevirtual 56, 3) := dk_182 0 56 (dk_at dksX9_clears_7 10 rfl rfl)
theorem dX9_clears_176 : decode cX9_clears 176 = .ok (.iinc 5 1, 3) := dk_132 5 1 (dk_at dksX9_clears_7 13 rfl rfl)
theorem dX9_clears_179 : decode cX9_clears 179 = .ok (.goto (-43), 3) := dk_167 255 213 (dk_at dksX9_clears_7 16 rfl rfl)
theorem dX9_clears_182 : decode cX9_clears 182 = .ok (.aload_n 0, 1) := dk_42 (dk_at dksX9_clears_7 19 rfl rfl)
theorem dX9_clears_183 : decode cX9_clears 183 = .ok (.getfield 29, 3) := dk_180 0 29 (dk_at dksX9_clears_7 20 rfl rfl)
theorem dX9_clears_186 : decode cX9_clears 186 = .ok (.aload_n 0, 1) := dk_42 (dk_at dksX9_clears_7 23 rfl rfl)
theorem dX9_clears_187 : decode cX9_clears 187 = .ok (.getfield 45, 3) := dk_180 0 45 (dk_at dksX9_clears_8 0 rfl rfl)
theorem dX9_clears_190 : decode cX9_clears 190 = .ok (.iload_n 1, 1) := dk_27 (dk_at dksX9_clears_8 3 rfl rfl)
theorem dX9_clears_191 : decode cX9_clears 191 = .ok (.iastore, 1) := dk_79 (dk_at dksX9_clears_8 4 rfl rfl)
theorem dX9_clears_192 : decode cX9_clears 192 = .ok (.aload_n 0, 1) := dk_42 (dk_at dksX9_clears_8 5 rfl rfl)
theorem dX9_clears_193 : decode cX9_clears 193 = .ok (.dup, 1) := dk_89 (dk_at dksX9_clears_8 6 rfl rfl)
theorem dX9_clears_194 : decode cX9_clears 194 = .ok (.getfield 45, 3) := dk_180 0 45 (dk_at dksX9_clears_8 7 rfl rfl)
theorem dX9_clears_197 : decode cX9_clears 197 = .ok (.iconst 1, 1) := dk_4 (dk_at dksX9_clears_8 10 rfl rfl)
theorem dX9_clears_198 : decode cX9_clears 198 = .ok (.iadd, 1) := dk_96 (dk_at dksX9_clears_8 11 rfl rfl)
theorem dX9_clears_199 : decode cX9_clears 199 = .ok (.putfield 45, 3) := dk_181 0 45 (dk_at dksX9_clears_8 12 rfl rfl)
theorem dX9_clears_202 : decode cX9_clears 202 = .ok (.return_, 1) := dk_177 (dk_at dksX9_clears_8 15 rfl rfl)
abbrev cX9_takes : ByteArray := prog_3_method_3_code
def yX9_takes : MethodName := ⟨RX9, "takes", "([I[II)V"⟩
def dkwX9_takes_2 : List UInt8 := [184, 0, 63, 79, 132, 5, 1, 167, 255, 216, 177]
abbrev dktX9_takes_2 : List UInt8 := dkwX9_takes_2 ++ []
def dkwX9_takes_1 : List UInt8 := [21, 5, 42, 180, 0, 13, 43, 21, 5, 46, 42, 180, 0, 13, 21, 4, 44, 21, 5, 46, 184, 0, 52]
abbrev dktX9_takes_1 : List UInt8 := dkwX9_takes_1 ++ dktX9_takes_2
def dkwX9_takes_0 : List UInt8 := [42, 180, 0, 13, 29, 184, 0, 60, 54, 4, 3, 54, 5, 21, 5, 42, 180, 0, 19, 162, 0, 37, 43]
abbrev dktX9_takes_0 : List UInt8 := dkwX9_takes_0 ++ dktX9_takes_1
theorem dksX9_takes_0 : cX9_takes.data.toList.drop 0 = dktX9_takes_0 := by decide +kernel
theorem dksX9_takes_1 : cX9_takes.data.toList.drop 23 = dktX9_takes_1 := dk_seg dksX9_takes_0 23 rfl rfl
theorem dksX9_takes_2 : cX9_takes.data.toList.drop 46 = dktX9_takes_2 := dk_seg dksX9_takes_1 23 rfl rfl
theorem dX9_takes_0 : decode cX9_takes 0 = .ok (.aload_n 0, 1) := dk_42 (dk_at dksX9_takes_0 0 rfl rfl)
theorem dX9_takes_1 : decode cX9_takes 1 = .ok (.getfield 13, 3) := dk_180 0 13 (dk_at dksX9_takes_0 1 rfl rfl)
theorem dX9_takes_4 : decode cX9_takes 4 = .ok (.iload_n 3, 1) := dk_29 (dk_at dksX9_takes_0 4 rfl rfl)
theorem dX9_takes_5 : decode cX9_takes 5 = .ok (.invokestatic 60, 3) := dk_184 0 60 (dk_at dksX9_takes_0 5 rfl rfl)
theorem dX9_takes_8 : decode cX9_takes 8 = .ok (.istore 4, 2) := dk_54 4 (dk_at dksX9_takes_0 8 rfl rfl)
theorem dX9_takes_10 : decode cX9_takes 10 = .ok (.iconst 0, 1) := dk_3 (dk_at dksX9_takes_0 10 rfl rfl)
theorem dX9_takes_11 : decode cX9_takes 11 = .ok (.istore 5, 2) := dk_54 5 (dk_at dksX9_takes_0 11 rfl rfl)
theorem dX9_takes_13 : decode cX9_takes 13 = .ok (.iload 5, 2) := dk_21 5 (dk_at dksX9_takes_0 13 rfl rfl)
theorem dX9_takes_15 : decode cX9_takes 15 = .ok (.aload_n 0, 1) := dk_42 (dk_at dksX9_takes_0 15 rfl rfl)
theorem dX9_takes_16 : decode cX9_takes 16 = .ok (.getfield 19, 3) := dk_180 0 19 (dk_at dksX9_takes_0 16 rfl rfl)
theorem dX9_takes_19 : decode cX9_takes 19 = .ok (.if_icmp .ge 37, 3) := dk_162 0 37 (dk_at dksX9_takes_0 19 rfl rfl)
theorem dX9_takes_22 : decode cX9_takes 22 = .ok (.aload_n 1, 1) := dk_43 (dk_at dksX9_takes_0 22 rfl rfl)
theorem dX9_takes_23 : decode cX9_takes 23 = .ok (.iload 5, 2) := dk_21 5 (dk_at dksX9_takes_1 0 rfl rfl)
theorem dX9_takes_25 : decode cX9_takes 25 = .ok (.aload_n 0, 1) := dk_42 (dk_at dksX9_takes_1 2 rfl rfl)
theorem dX9_takes_26 : decode cX9_takes 26 = .ok (.getfield 13, 3) := dk_180 0 13 (dk_at dksX9_takes_1 3 rfl rfl)
theorem dX9_takes_29 : decode cX9_takes 29 = .ok (.aload_n 1, 1) := dk_43 (dk_at dksX9_takes_1 6 rfl rfl)
theorem dX9_takes_30 : decode cX9_takes 30 = .ok (.iload 5, 2) := dk_21 5 (dk_at dksX9_takes_1 7 rfl rfl)
theorem dX9_takes_32 : decode cX9_takes 32 = .ok (.iaload, 1) := dk_46 (dk_at dksX9_takes_1 9 rfl rfl)
theorem dX9_takes_33 : decode cX9_takes 33 = .ok (.aload_n 0, 1) := dk_42 (dk_at dksX9_takes_1 10 rfl rfl)
theorem dX9_takes_34 : decode cX9_takes 34 = .ok (.getfield 13, 3) := dk_180 0 13 (dk_at dksX9_takes_1 11 rfl rfl)
theorem dX9_takes_37 : decode cX9_takes 37 = .ok (.iload 4, 2) := dk_21 4 (dk_at dksX9_takes_1 14 rfl rfl)
theorem dX9_takes_39 : decode cX9_takes 39 = .ok (.aload_n 2, 1) := dk_44 (dk_at dksX9_takes_1 16 rfl rfl)
theorem dX9_takes_40 : decode cX9_takes 40 = .ok (.iload 5, 2) := dk_21 5 (dk_at dksX9_takes_1 17 rfl rfl)
theorem dX9_takes_42 : decode cX9_takes 42 = .ok (.iaload, 1) := dk_46 (dk_at dksX9_takes_1 19 rfl rfl)
theorem dX9_takes_43 : decode cX9_takes 43 = .ok (.invokestatic 52, 3) := dk_184 0 52 (dk_at dksX9_takes_1 20 rfl rfl)
theorem dX9_takes_46 : decode cX9_takes 46 = .ok (.invokestatic 63, 3) := dk_184 0 63 (dk_at dksX9_takes_2 0 rfl rfl)
theorem dX9_takes_49 : decode cX9_takes 49 = .ok (.iastore, 1) := dk_79 (dk_at dksX9_takes_2 3 rfl rfl)
theorem dX9_takes_50 : decode cX9_takes 50 = .ok (.iinc 5 1, 3) := dk_132 5 1 (dk_at dksX9_takes_2 4 rfl rfl)
theorem dX9_takes_53 : decode cX9_takes 53 = .ok (.goto (-40), 3) := dk_167 255 216 (dk_at dksX9_takes_2 7 rfl rfl)
theorem dX9_takes_56 : decode cX9_takes 56 = .ok (.return_, 1) := dk_177 (dk_at dksX9_takes_2 10 rfl rfl)
abbrev cX9_has : ByteArray := prog_3_method_5_code
def yX9_has : MethodName := ⟨RX9, "has", "(J)Z"⟩
def dkwX9_has_3 : List UInt8 := [167, 0, 4, 3, 172]
abbrev dktX9_has_3 : List UInt8 := dkwX9_has_3 ++ []
def dkwX9_has_2 : List UInt8 := [46, 184, 0, 74, 184, 0, 60, 184, 0, 78, 66, 132, 5, 1, 167, 255, 199, 33, 9, 148, 154, 0, 7, 4]
abbrev dktX9_has_2 : List UInt8 := dkwX9_has_2 ++ dktX9_has_3
def dkwX9_has_1 : List UInt8 := [21, 5, 182, 0, 70, 42, 180, 0, 13, 42, 180, 0, 13, 42, 180, 0, 19, 33, 42, 180, 0, 29, 21, 5]
abbrev dktX9_has_1 : List UInt8 := dkwX9_has_1 ++ dktX9_has_2
def dkwX9_has_0 : List UInt8 := [31, 66, 3, 54, 5, 21, 5, 42, 180, 0, 45, 162, 0, 54, 42, 180, 0, 13, 42, 180, 0, 19, 33, 42]
abbrev dktX9_has_0 : List UInt8 := dkwX9_has_0 ++ dktX9_has_1
theorem dksX9_has_0 : cX9_has.data.toList.drop 0 = dktX9_has_0 := by decide +kernel
theorem dksX9_has_1 : cX9_has.data.toList.drop 24 = dktX9_has_1 := dk_seg dksX9_has_0 24 rfl rfl
theorem dksX9_has_2 : cX9_has.data.toList.drop 48 = dktX9_has_2 := dk_seg dksX9_has_1 24 rfl rfl
theorem dksX9_has_3 : cX9_has.data.toList.drop 72 = dktX9_has_3 := dk_seg dksX9_has_2 24 rfl rfl
theorem dX9_has_0 : decode cX9_has 0 = .ok (.lload_n 1, 1) := dk_31 (dk_at dksX9_has_0 0 rfl rfl)
theorem dX9_has_1 : decode cX9_has 1 = .ok (.lstore_n 3, 1) := dk_66 (dk_at dksX9_has_0 1 rfl rfl)
theorem dX9_has_2 : decode cX9_has 2 = .ok (.iconst 0, 1) := dk_3 (dk_at dksX9_has_0 2 rfl rfl)
theorem dX9_has_3 : decode cX9_has 3 = .ok (.istore 5, 2) := dk_54 5 (dk_at dksX9_has_0 3 rfl rfl)
theorem dX9_has_5 : decode cX9_has 5 = .ok (.iload 5, 2) := dk_21 5 (dk_at dksX9_has_0 5 rfl rfl)
theorem dX9_has_7 : decode cX9_has 7 = .ok (.aload_n 0, 1) := dk_42 (dk_at dksX9_has_0 7 rfl rfl)
theorem dX9_has_8 : decode cX9_has 8 = .ok (.getfield 45, 3) := dk_180 0 45 (dk_at dksX9_has_0 8 rfl rfl)
theorem dX9_has_11 : decode cX9_has 11 = .ok (.if_icmp .ge 54, 3) := dk_162 0 54 (dk_at dksX9_has_0 11 rfl rfl)
theorem dX9_has_14 : decode cX9_has 14 = .ok (.aload_n 0, 1) := dk_42 (dk_at dksX9_has_0 14 rfl rfl)
theorem dX9_has_15 : decode cX9_has 15 = .ok (.getfield 13, 3) := dk_180 0 13 (dk_at dksX9_has_0 15 rfl rfl)
theorem dX9_has_18 : decode cX9_has 18 = .ok (.aload_n 0, 1) := dk_42 (dk_at dksX9_has_0 18 rfl rfl)
theorem dX9_has_19 : decode cX9_has 19 = .ok (.getfield 19, 3) := dk_180 0 19 (dk_at dksX9_has_0 19 rfl rfl)
theorem dX9_has_22 : decode cX9_has 22 = .ok (.lload_n 3, 1) := dk_33 (dk_at dksX9_has_0 22 rfl rfl)
theorem dX9_has_23 : decode cX9_has 23 = .ok (.aload_n 0, 1) := dk_42 (dk_at dksX9_has_0 23 rfl rfl)
theorem dX9_has_24 : decode cX9_has 24 = .ok (.iload 5, 2) := dk_21 5 (dk_at dksX9_has_1 0 rfl rfl)
theorem dX9_has_26 : decode cX9_has 26 = .ok (.invokevirtual 70, 3) := dk_182 0 70 (dk_at dksX9_has_1 2 rfl rfl)
theorem dX9_has_29 : decode cX9_has 29 = .ok (.aload_n 0, 1) := dk_42 (dk_at dksX9_has_1 5 rfl rfl)
theorem dX9_has_30 : decode cX9_has 30 = .ok (.getfield 13, 3) := dk_180 0 13 (dk_at dksX9_has_1 6 rfl rfl)
theorem dX9_has_33 : decode cX9_has 33 = .ok (.aload_n 0, 1) := dk_42 (dk_at dksX9_has_1 9 rfl rfl)
theorem dX9_has_34 : decode cX9_has 34 = .ok (.getfield 13, 3) := dk_180 0 13 (dk_at dksX9_has_1 10 rfl rfl)
theorem dX9_has_37 : decode cX9_has 37 = .ok (.aload_n 0, 1) := dk_42 (dk_at dksX9_has_1 13 rfl rfl)
theorem dX9_has_38 : decode cX9_has 38 = .ok (.getfield 19, 3) := dk_180 0 19 (dk_at dksX9_has_1 14 rfl rfl)
theorem dX9_has_41 : decode cX9_has 41 = .ok (.lload_n 3, 1) := dk_33 (dk_at dksX9_has_1 17 rfl rfl)
theorem dX9_has_42 : decode cX9_has 42 = .ok (.aload_n 0, 1) := dk_42 (dk_at dksX9_has_1 18 rfl rfl)
theorem dX9_has_43 : decode cX9_has 43 = .ok (.getfield 29, 3) := dk_180 0 29 (dk_at dksX9_has_1 19 rfl rfl)
theorem dX9_has_46 : decode cX9_has 46 = .ok (.iload 5, 2) := dk_21 5 (dk_at dksX9_has_1 22 rfl rfl)
theorem dX9_has_48 : decode cX9_has 48 = .ok (.iaload, 1) := dk_46 (dk_at dksX9_has_2 0 rfl rfl)
theorem dX9_has_49 : decode cX9_has 49 = .ok (.invokestatic 74, 3) := dk_184 0 74 (dk_at dksX9_has_2 1 rfl rfl)
theorem dX9_has_52 : decode cX9_has 52 = .ok (.invokestatic 60, 3) := dk_184 0 60 (dk_at dksX9_has_2 4 rfl rfl)
theorem dX9_has_55 : decode cX9_has 55 = .ok (.invokestatic 78, 3) := dk_184 0 78 (dk_at dksX9_has_2 7 rfl rfl)
theorem dX9_has_58 : decode cX9_has 58 = .ok (.lstore_n 3, 1) := dk_66 (dk_at dksX9_has_2 10 rfl rfl)
theorem dX9_has_59 : decode cX9_has 59 = .ok (.iinc 5 1, 3) := dk_132 5 1 (dk_at dksX9_has_2 11 rfl rfl)
theorem dX9_has_62 : decode cX9_has 62 = .ok (.goto (-57), 3) := dk_167 255 199 (dk_at dksX9_has_2 14 rfl rfl)
theorem dX9_has_65 : decode cX9_has 65 = .ok (.lload_n 3, 1) := dk_33 (dk_at dksX9_has_2 17 rfl rfl)
theorem dX9_has_66 : decode cX9_has 66 = .ok (.lconst 0, 1) := dk_9 (dk_at dksX9_has_2 18 rfl rfl)
theorem dX9_has_67 : decode cX9_has 67 = .ok (.lcmp, 1) := dk_148 (dk_at dksX9_has_2 19 rfl rfl)
theorem dX9_has_68 : decode cX9_has 68 = .ok (.ifCond .ne 7, 3) := dk_154 0 7 (dk_at dksX9_has_2 20 rfl rfl)
theorem dX9_has_71 : decode cX9_has 71 = .ok (.iconst 1, 1) := dk_4 (dk_at dksX9_has_2 23 rfl rfl)
theorem dX9_has_72 : decode cX9_has 72 = .ok (.goto 4, 3) := dk_167 0 4 (dk_at dksX9_has_3 0 rfl rfl)
theorem dX9_has_75 : decode cX9_has 75 = .ok (.iconst 0, 1) := dk_3 (dk_at dksX9_has_3 3 rfl rfl)
theorem dX9_has_76 : decode cX9_has 76 = .ok (.ireturn, 1) := dk_172 (dk_at dksX9_has_3 4 rfl rfl)
abbrev cX9_row : ByteArray := prog_3_method_4_code
def yX9_row : MethodName := ⟨RX9, "row", "(I)J"⟩
def dkwX9_row_0 : List UInt8 := [42, 180, 0, 13, 42, 180, 0, 25, 27, 50, 184, 0, 66, 173]
abbrev dktX9_row_0 : List UInt8 := dkwX9_row_0 ++ []
theorem dksX9_row_0 : cX9_row.data.toList.drop 0 = dktX9_row_0 := by decide +kernel
theorem dX9_row_0 : decode cX9_row 0 = .ok (.aload_n 0, 1) := dk_42 (dk_at dksX9_row_0 0 rfl rfl)
theorem dX9_row_1 : decode cX9_row 1 = .ok (.getfield 13, 3) := dk_180 0 13 (dk_at dksX9_row_0 1 rfl rfl)
theorem dX9_row_4 : decode cX9_row 4 = .ok (.aload_n 0, 1) := dk_42 (dk_at dksX9_row_0 4 rfl rfl)
theorem dX9_row_5 : decode cX9_row 5 = .ok (.getfield 25, 3) := dk_180 0 25 (dk_at dksX9_row_0 5 rfl rfl)
theorem dX9_row_8 : decode cX9_row 8 = .ok (.iload_n 1, 1) := dk_27 (dk_at dksX9_row_0 8 rfl rfl)
theorem dX9_row_9 : decode cX9_row 9 = .ok (.aaload, 1) := dk_50 (dk_at dksX9_row_0 9 rfl rfl)
theorem dX9_row_10 : decode cX9_row 10 = .ok (.invokestatic 66, 3) := dk_184 0 66 (dk_at dksX9_row_0 10 rfl rfl)
theorem dX9_row_13 : decode cX9_row 13 = .ok (.lreturn, 1) := dk_173 (dk_at dksX9_row_0 13 rfl rfl)
abbrev cX9_dual : ByteArray := prog_3_method_7_code
def yX9_dual : MethodName := ⟨RX9, "dual", "()LWordBench$Code;"⟩
def dkwX9_dual_5 : List UInt8 := [184, 0, 66, 182, 0, 87, 132, 3, 1, 167, 255, 151, 43, 176]
abbrev dktX9_dual_5 : List UInt8 := dkwX9_dual_5 ++ []
def dkwX9_dual_4 : List UInt8 := [21, 5, 50, 29, 46, 184, 0, 60, 79, 132, 5, 1, 167, 255, 218, 43, 42, 180, 0, 13, 25, 4]
abbrev dktX9_dual_4 : List UInt8 := dkwX9_dual_4 ++ dktX9_dual_5
def dkwX9_dual_3 : List UInt8 := [42, 180, 0, 45, 162, 0, 35, 25, 4, 42, 180, 0, 29, 21, 5, 46, 42, 180, 0, 13, 42, 180, 0, 25]
abbrev dktX9_dual_3 : List UInt8 := dkwX9_dual_3 ++ dktX9_dual_4
def dkwX9_dual_2 : List UInt8 := [132, 2, 1, 167, 0, 73, 42, 180, 0, 19, 188, 10, 58, 4, 25, 4, 29, 4, 79, 3, 54, 5, 21, 5]
abbrev dktX9_dual_2 : List UInt8 := dkwX9_dual_2 ++ dktX9_dual_3
def dkwX9_dual_1 : List UInt8 := [180, 0, 19, 162, 0, 103, 28, 42, 180, 0, 45, 162, 0, 19, 42, 180, 0, 29, 28, 46, 29, 160, 0, 9]
abbrev dktX9_dual_1 : List UInt8 := dkwX9_dual_1 ++ dktX9_dual_2
def dkwX9_dual_0 : List UInt8 := [187, 0, 82, 89, 42, 180, 0, 13, 42, 180, 0, 19, 183, 0, 84, 76, 3, 61, 3, 62, 29, 42]
abbrev dktX9_dual_0 : List UInt8 := dkwX9_dual_0 ++ dktX9_dual_1
theorem dksX9_dual_0 : cX9_dual.data.toList.drop 0 = dktX9_dual_0 := by decide +kernel
theorem dksX9_dual_1 : cX9_dual.data.toList.drop 22 = dktX9_dual_1 := dk_seg dksX9_dual_0 22 rfl rfl
theorem dksX9_dual_2 : cX9_dual.data.toList.drop 46 = dktX9_dual_2 := dk_seg dksX9_dual_1 24 rfl rfl
theorem dksX9_dual_3 : cX9_dual.data.toList.drop 70 = dktX9_dual_3 := dk_seg dksX9_dual_2 24 rfl rfl
theorem dksX9_dual_4 : cX9_dual.data.toList.drop 94 = dktX9_dual_4 := dk_seg dksX9_dual_3 24 rfl rfl
theorem dksX9_dual_5 : cX9_dual.data.toList.drop 116 = dktX9_dual_5 := dk_seg dksX9_dual_4 22 rfl rfl
theorem dX9_dual_0 : decode cX9_dual 0 = .ok (.new 82, 3) := dk_187 0 82 (dk_at dksX9_dual_0 0 rfl rfl)
theorem dX9_dual_3 : decode cX9_dual 3 = .ok (.dup, 1) := dk_89 (dk_at dksX9_dual_0 3 rfl rfl)
theorem dX9_dual_4 : decode cX9_dual 4 = .ok (.aload_n 0, 1) := dk_42 (dk_at dksX9_dual_0 4 rfl rfl)
theorem dX9_dual_5 : decode cX9_dual 5 = .ok (.getfield 13, 3) := dk_180 0 13 (dk_at dksX9_dual_0 5 rfl rfl)
theorem dX9_dual_8 : decode cX9_dual 8 = .ok (.aload_n 0, 1) := dk_42 (dk_at dksX9_dual_0 8 rfl rfl)
theorem dX9_dual_9 : decode cX9_dual 9 = .ok (.getfield 19, 3) := dk_180 0 19 (dk_at dksX9_dual_0 9 rfl rfl)
theorem dX9_dual_12 : decode cX9_dual 12 = .ok (.invokespecial 84, 3) := dk_183 0 84 (dk_at dksX9_dual_0 12 rfl rfl)
theorem dX9_dual_15 : decode cX9_dual 15 = .ok (.astore_n 1, 1) := dk_76 (dk_at dksX9_dual_0 15 rfl rfl)
theorem dX9_dual_16 : decode cX9_dual 16 = .ok (.iconst 0, 1) := dk_3 (dk_at dksX9_dual_0 16 rfl rfl)
theorem dX9_dual_17 : decode cX9_dual 17 = .ok (.istore_n 2, 1) := dk_61 (dk_at dksX9_dual_0 17 rfl rfl)
theorem dX9_dual_18 : decode cX9_dual 18 = .ok (.iconst 0, 1) := dk_3 (dk_at dksX9_dual_0 18 rfl rfl)
theorem dX9_dual_19 : decode cX9_dual 19 = .ok (.istore_n 3, 1) := dk_62 (dk_at dksX9_dual_0 19 rfl rfl)
theorem dX9_dual_20 : decode cX9_dual 20 = .ok (.iload_n 3, 1) := dk_29 (dk_at dksX9_dual_0 20 rfl rfl)
theorem dX9_dual_21 : decode cX9_dual 21 = .ok (.aload_n 0, 1) := dk_42 (dk_at dksX9_dual_0 21 rfl rfl)
theorem dX9_dual_22 : decode cX9_dual 22 = .ok (.getfield 19, 3) := dk_180 0 19 (dk_at dksX9_dual_1 0 rfl rfl)
theorem dX9_dual_25 : decode cX9_dual 25 = .ok (.if_icmp .ge 103, 3) := dk_162 0 103 (dk_at dksX9_dual_1 3 rfl rfl)
theorem dX9_dual_28 : decode cX9_dual 28 = .ok (.iload_n 2, 1) := dk_28 (dk_at dksX9_dual_1 6 rfl rfl)
theorem dX9_dual_29 : decode cX9_dual 29 = .ok (.aload_n 0, 1) := dk_42 (dk_at dksX9_dual_1 7 rfl rfl)
theorem dX9_dual_30 : decode cX9_dual 30 = .ok (.getfield 45, 3) := dk_180 0 45 (dk_at dksX9_dual_1 8 rfl rfl)
theorem dX9_dual_33 : decode cX9_dual 33 = .ok (.if_icmp .ge 19, 3) := dk_162 0 19 (dk_at dksX9_dual_1 11 rfl rfl)
theorem dX9_dual_36 : decode cX9_dual 36 = .ok (.aload_n 0, 1) := dk_42 (dk_at dksX9_dual_1 14 rfl rfl)
theorem dX9_dual_37 : decode cX9_dual 37 = .ok (.getfield 29, 3) := dk_180 0 29 (dk_at dksX9_dual_1 15 rfl rfl)
theorem dX9_dual_40 : decode cX9_dual 40 = .ok (.iload_n 2, 1) := dk_28 (dk_at dksX9_dual_1 18 rfl rfl)
theorem dX9_dual_41 : decode cX9_dual 41 = .ok (.iaload, 1) := dk_46 (dk_at dksX9_dual_1 19 rfl rfl)
theorem dX9_dual_42 : decode cX9_dual 42 = .ok (.iload_n 3, 1) := dk_29 (dk_at dksX9_dual_1 20 rfl rfl)
theorem dX9_dual_43 : decode cX9_dual 43 = .ok (.if_icmp .ne 9, 3) := dk_160 0 9 (dk_at dksX9_dual_1 21 rfl rfl)
theorem dX9_dual_46 : decode cX9_dual 46 = .ok (.iinc 2 1, 3) := dk_132 2 1 (dk_at dksX9_dual_2 0 rfl rfl)
theorem dX9_dual_49 : decode cX9_dual 49 = .ok (.goto 73, 3) := dk_167 0 73 (dk_at dksX9_dual_2 3 rfl rfl)
theorem dX9_dual_52 : decode cX9_dual 52 = .ok (.aload_n 0, 1) := dk_42 (dk_at dksX9_dual_2 6 rfl rfl)
theorem dX9_dual_53 : decode cX9_dual 53 = .ok (.getfield 19, 3) := dk_180 0 19 (dk_at dksX9_dual_2 7 rfl rfl)
theorem dX9_dual_56 : decode cX9_dual 56 = .ok (.newarray .int, 2) := dk_188_10 (dk_at dksX9_dual_2 10 rfl rfl)
theorem dX9_dual_58 : decode cX9_dual 58 = .ok (.astore 4, 2) := dk_58 4 (dk_at dksX9_dual_2 12 rfl rfl)
theorem dX9_dual_60 : decode cX9_dual 60 = .ok (.aload 4, 2) := dk_25 4 (dk_at dksX9_dual_2 14 rfl rfl)
theorem dX9_dual_62 : decode cX9_dual 62 = .ok (.iload_n 3, 1) := dk_29 (dk_at dksX9_dual_2 16 rfl rfl)
theorem dX9_dual_63 : decode cX9_dual 63 = .ok (.iconst 1, 1) := dk_4 (dk_at dksX9_dual_2 17 rfl rfl)
theorem dX9_dual_64 : decode cX9_dual 64 = .ok (.iastore, 1) := dk_79 (dk_at dksX9_dual_2 18 rfl rfl)
theorem dX9_dual_65 : decode cX9_dual 65 = .ok (.iconst 0, 1) := dk_3 (dk_at dksX9_dual_2 19 rfl rfl)
theorem dX9_dual_66 : decode cX9_dual 66 = .ok (.istore 5, 2) := dk_54 5 (dk_at dksX9_dual_2 20 rfl rfl)
theorem dX9_dual_68 : decode cX9_dual 68 = .ok (.iload 5, 2) := dk_21 5 (dk_at dksX9_dual_2 22 rfl rfl)
theorem dX9_dual_70 : decode cX9_dual 70 = .ok (.aload_n 0, 1) := dk_42 (dk_at dksX9_dual_3 0 rfl rfl)
theorem dX9_dual_71 : decode cX9_dual 71 = .ok (.getfield 45, 3) := dk_180 0 45 (dk_at dksX9_dual_3 1 rfl rfl)
theorem dX9_dual_74 : decode cX9_dual 74 = .ok (.if_icmp .ge 35, 3) := dk_162 0 35 (dk_at dksX9_dual_3 4 rfl rfl)
theorem dX9_dual_77 : decode cX9_dual 77 = .ok (.aload 4, 2) := dk_25 4 (dk_at dksX9_dual_3 7 rfl rfl)
theorem dX9_dual_79 : decode cX9_dual 79 = .ok (.aload_n 0, 1) := dk_42 (dk_at dksX9_dual_3 9 rfl rfl)
theorem dX9_dual_80 : decode cX9_dual 80 = .ok (.getfield 29, 3) := dk_180 0 29 (dk_at dksX9_dual_3 10 rfl rfl)
theorem dX9_dual_83 : decode cX9_dual 83 = .ok (.iload 5, 2) := dk_21 5 (dk_at dksX9_dual_3 13 rfl rfl)
theorem dX9_dual_85 : decode cX9_dual 85 = .ok (.iaload, 1) := dk_46 (dk_at dksX9_dual_3 15 rfl rfl)
theorem dX9_dual_86 : decode cX9_dual 86 = .ok (.aload_n 0, 1) := dk_42 (dk_at dksX9_dual_3 16 rfl rfl)
theorem dX9_dual_87 : decode cX9_dual 87 = .ok (.getfield 13, 3) := dk_180 0 13 (dk_at dksX9_dual_3 17 rfl rfl)
theorem dX9_dual_90 : decode cX9_dual 90 = .ok (.aload_n 0, 1) := dk_42 (dk_at dksX9_dual_3 20 rfl rfl)
theorem dX9_dual_91 : decode cX9_dual 91 = .ok (.getfield 25, 3) := dk_180 0 25 (dk_at dksX9_dual_3 21 rfl rfl)
theorem dX9_dual_94 : decode cX9_dual 94 = .ok (.iload 5, 2) := dk_21 5 (dk_at dksX9_dual_4 0 rfl rfl)
theorem dX9_dual_96 : decode cX9_dual 96 = .ok (.aaload, 1) := dk_50 (dk_at dksX9_dual_4 2 rfl rfl)
theorem dX9_dual_97 : decode cX9_dual 97 = .ok (.iload_n 3, 1) := dk_29 (dk_at dksX9_dual_4 3 rfl rfl)
theorem dX9_dual_98 : decode cX9_dual 98 = .ok (.iaload, 1) := dk_46 (dk_at dksX9_dual_4 4 rfl rfl)
theorem dX9_dual_99 : decode cX9_dual 99 = .ok (.invokestatic 60, 3) := dk_184 0 60 (dk_at dksX9_dual_4 5 rfl rfl)
theorem dX9_dual_102 : decode cX9_dual 102 = .ok (.iastore, 1) := dk_79 (dk_at dksX9_dual_4 8 rfl rfl)
theorem dX9_dual_103 : decode cX9_dual 103 = .ok (.iinc 5 1, 3) := dk_132 5 1 (dk_at dksX9_dual_4 9 rfl rfl)
theorem dX9_dual_106 : decode cX9_dual 106 = .ok (.goto (-38), 3) := dk_167 255 218 (dk_at dksX9_dual_4 12 rfl rfl)
theorem dX9_dual_109 : decode cX9_dual 109 = .ok (.aload_n 1, 1) := dk_43 (dk_at dksX9_dual_4 15 rfl rfl)
theorem dX9_dual_110 : decode cX9_dual 110 = .ok (.aload_n 0, 1) := dk_42 (dk_at dksX9_dual_4 16 rfl rfl)
theorem dX9_dual_111 : decode cX9_dual 111 = .ok (.getfield 13, 3) := dk_180 0 13 (dk_at dksX9_dual_4 17 rfl rfl)
theorem dX9_dual_114 : decode cX9_dual 114 = .ok (.aload 4, 2) := dk_25 4 (dk_at dksX9_dual_4 20 rfl rfl)
theorem dX9_dual_116 : decode cX9_dual 116 = .ok (.invokestatic 66, 3) := dk_184 0 66 (dk_at dksX9_dual_5 0 rfl rfl)
theorem dX9_dual_119 : decode cX9_dual 119 = .ok (.invokevirtual 87, 3) := dk_182 0 87 (dk_at dksX9_dual_5 3 rfl rfl)
theorem dX9_dual_122 : decode cX9_dual 122 = .ok (.iinc 3 1, 3) := dk_132 3 1 (dk_at dksX9_dual_5 6 rfl rfl)
theorem dX9_dual_125 : decode cX9_dual 125 = .ok (.goto (-105), 3) := dk_167 255 151 (dk_at dksX9_dual_5 9 rfl rfl)
theorem dX9_dual_128 : decode cX9_dual 128 = .ok (.aload_n 1, 1) := dk_43 (dk_at dksX9_dual_5 12 rfl rfl)
theorem dX9_dual_129 : decode cX9_dual 129 = .ok (.areturn, 1) := dk_176 (dk_at dksX9_dual_5 13 rfl rfl)
abbrev cX9_isLike : ByteArray := prog_3_method_6_code
def yX9_isLike : MethodName := ⟨RX9, "isLike", "(LWordBench$Form;)Z"⟩
def dkwX9_isLike_2 : List UInt8 := [167, 0, 4, 3, 61, 132, 3, 1, 167, 255, 221, 28, 172]
abbrev dktX9_isLike_2 : List UInt8 := dkwX9_isLike_2 ++ []
def dkwX9_isLike_1 : List UInt8 := [162, 0, 33, 28, 153, 0, 29, 42, 29, 182, 0, 70, 43, 29, 182, 0, 70, 148, 154, 0, 7, 4]
abbrev dktX9_isLike_1 : List UInt8 := dkwX9_isLike_1 ++ dktX9_isLike_2
def dkwX9_isLike_0 : List UInt8 := [42, 180, 0, 45, 43, 180, 0, 45, 160, 0, 7, 4, 167, 0, 4, 3, 61, 3, 62, 29, 42, 180, 0, 45]
abbrev dktX9_isLike_0 : List UInt8 := dkwX9_isLike_0 ++ dktX9_isLike_1
theorem dksX9_isLike_0 : cX9_isLike.data.toList.drop 0 = dktX9_isLike_0 := by decide +kernel
theorem dksX9_isLike_1 : cX9_isLike.data.toList.drop 24 = dktX9_isLike_1 := dk_seg dksX9_isLike_0 24 rfl rfl
theorem dksX9_isLike_2 : cX9_isLike.data.toList.drop 46 = dktX9_isLike_2 := dk_seg dksX9_isLike_1 22 rfl rfl
theorem dX9_isLike_0 : decode cX9_isLike 0 = .ok (.aload_n 0, 1) := dk_42 (dk_at dksX9_isLike_0 0 rfl rfl)
theorem dX9_isLike_1 : decode cX9_isLike 1 = .ok (.getfield 45, 3) := dk_180 0 45 (dk_at dksX9_isLike_0 1 rfl rfl)
theorem dX9_isLike_4 : decode cX9_isLike 4 = .ok (.aload_n 1, 1) := dk_43 (dk_at dksX9_isLike_0 4 rfl rfl)
theorem dX9_isLike_5 : decode cX9_isLike 5 = .ok (.getfield 45, 3) := dk_180 0 45 (dk_at dksX9_isLike_0 5 rfl rfl)
theorem dX9_isLike_8 : decode cX9_isLike 8 = .ok (.if_icmp .ne 7, 3) := dk_160 0 7 (dk_at dksX9_isLike_0 8 rfl rfl)
theorem dX9_isLike_11 : decode cX9_isLike 11 = .ok (.iconst 1, 1) := dk_4 (dk_at dksX9_isLike_0 11 rfl rfl)
theorem dX9_isLike_12 : decode cX9_isLike 12 = .ok (.goto 4, 3) := dk_167 0 4 (dk_at dksX9_isLike_0 12 rfl rfl)
theorem dX9_isLike_15 : decode cX9_isLike 15 = .ok (.iconst 0, 1) := dk_3 (dk_at dksX9_isLike_0 15 rfl rfl)
theorem dX9_isLike_16 : decode cX9_isLike 16 = .ok (.istore_n 2, 1) := dk_61 (dk_at dksX9_isLike_0 16 rfl rfl)
theorem dX9_isLike_17 : decode cX9_isLike 17 = .ok (.iconst 0, 1) := dk_3 (dk_at dksX9_isLike_0 17 rfl rfl)
theorem dX9_isLike_18 : decode cX9_isLike 18 = .ok (.istore_n 3, 1) := dk_62 (dk_at dksX9_isLike_0 18 rfl rfl)
theorem dX9_isLike_19 : decode cX9_isLike 19 = .ok (.iload_n 3, 1) := dk_29 (dk_at dksX9_isLike_0 19 rfl rfl)
theorem dX9_isLike_20 : decode cX9_isLike 20 = .ok (.aload_n 0, 1) := dk_42 (dk_at dksX9_isLike_0 20 rfl rfl)
theorem dX9_isLike_21 : decode cX9_isLike 21 = .ok (.getfield 45, 3) := dk_180 0 45 (dk_at dksX9_isLike_0 21 rfl rfl)
theorem dX9_isLike_24 : decode cX9_isLike 24 = .ok (.if_icmp .ge 33, 3) := dk_162 0 33 (dk_at dksX9_isLike_1 0 rfl rfl)
theorem dX9_isLike_27 : decode cX9_isLike 27 = .ok (.iload_n 2, 1) := dk_28 (dk_at dksX9_isLike_1 3 rfl rfl)
theorem dX9_isLike_28 : decode cX9_isLike 28 = .ok (.ifCond .eq 29, 3) := dk_153 0 29 (dk_at dksX9_isLike_1 4 rfl rfl)
theorem dX9_isLike_31 : decode cX9_isLike 31 = .ok (.aload_n 0, 1) := dk_42 (dk_at dksX9_isLike_1 7 rfl rfl)
theorem dX9_isLike_32 : decode cX9_isLike 32 = .ok (.iload_n 3, 1) := dk_29 (dk_at dksX9_isLike_1 8 rfl rfl)
theorem dX9_isLike_33 : decode cX9_isLike 33 = .ok (.invokevirtual 70, 3) := dk_182 0 70 (dk_at dksX9_isLike_1 9 rfl rfl)
theorem dX9_isLike_36 : decode cX9_isLike 36 = .ok (.aload_n 1, 1) := dk_43 (dk_at dksX9_isLike_1 12 rfl rfl)
theorem dX9_isLike_37 : decode cX9_isLike 37 = .ok (.iload_n 3, 1) := dk_29 (dk_at dksX9_isLike_1 13 rfl rfl)
theorem dX9_isLike_38 : decode cX9_isLike 38 = .ok (.invokevirtual 70, 3) := dk_182 0 70 (dk_at dksX9_isLike_1 14 rfl rfl)
theorem dX9_isLike_41 : decode cX9_isLike 41 = .ok (.lcmp, 1) := dk_148 (dk_at dksX9_isLike_1 17 rfl rfl)
theorem dX9_isLike_42 : decode cX9_isLike 42 = .ok (.ifCond .ne 7, 3) := dk_154 0 7 (dk_at dksX9_isLike_1 18 rfl rfl)
theorem dX9_isLike_45 : decode cX9_isLike 45 = .ok (.iconst 1, 1) := dk_4 (dk_at dksX9_isLike_1 21 rfl rfl)
theorem dX9_isLike_46 : decode cX9_isLike 46 = .ok (.goto 4, 3) := dk_167 0 4 (dk_at dksX9_isLike_2 0 rfl rfl)
theorem dX9_isLike_49 : decode cX9_isLike 49 = .ok (.iconst 0, 1) := dk_3 (dk_at dksX9_isLike_2 3 rfl rfl)
theorem dX9_isLike_50 : decode cX9_isLike 50 = .ok (.istore_n 2, 1) := dk_61 (dk_at dksX9_isLike_2 4 rfl rfl)
theorem dX9_isLike_51 : decode cX9_isLike 51 = .ok (.iinc 3 1, 3) := dk_132 3 1 (dk_at dksX9_isLike_2 5 rfl rfl)
theorem dX9_isLike_54 : decode cX9_isLike 54 = .ok (.goto (-35), 3) := dk_167 255 221 (dk_at dksX9_isLike_2 8 rfl rfl)
theorem dX9_isLike_57 : decode cX9_isLike 57 = .ok (.iload_n 2, 1) := dk_28 (dk_at dksX9_isLike_2 11 rfl rfl)
theorem dX9_isLike_58 : decode cX9_isLike 58 = .ok (.ireturn, 1) := dk_172 (dk_at dksX9_isLike_2 12 rfl rfl)
theorem q63 : (Jvm.Cond.initialized "WordBench$Form") ∈ lw_all := lw_g (lw_at lw_m1 16 rfl) rfl
theorem q107 : (Jvm.Cond.fieldLink "WordBench$Form" (7 : Nat) "WordBench$Code" "q" "I") ∈ lw_all := lw_g (lw_at lw_m1 60 rfl) rfl
theorem q118 : (Jvm.Cond.fieldLink "WordBench$Form" (16 : Nat) "WordBench$Code" "n" "I") ∈ lw_all := lw_g (lw_at lw_m1 71 rfl) rfl
theorem q125 : (Jvm.Cond.fieldLink "WordBench$Form" (32 : Nat) "WordBench$Code" "rows" "[J") ∈ lw_all := lw_g (lw_at lw_m1 78 rfl) rfl
theorem q133 : (Jvm.Cond.fieldLink "WordBench$Form" (20 : Nat) "WordBench$Code" "size" "I") ∈ lw_all := lw_g (lw_at lw_m1 86 rfl) rfl
theorem q280 : (Jvm.Cond.instantiable "WordBench$Form" (5 : Nat)) ∈ lw_all := lw_g (lw_at lw_m1 233 rfl) rfl
theorem q282 : (Jvm.Cond.instanceMethod ({ cls := "WordBench$Form", name := "<init>", desc := "(LWordBench$Code;)V" } : Jvm.MethodName)) ∈ lw_all := lw_g (lw_at lw_m1 235 rfl) rfl
theorem q283 : (Jvm.Cond.code ({ cls := "WordBench$Form", name := "<init>", desc := "(LWordBench$Code;)V" } : Jvm.MethodName) prog_3_method_1_code (3 : Nat) (Option.none : Option Jvm.ClassFile.FieldType)) ∈ lw_all := lw_g (lw_at lw_m1 236 rfl) rfl
theorem q284 : (Jvm.Cond.methodLink "WordBench$Form" (1 : Nat) ({ cls := "java/lang/Object", name := "<init>", desc := "()V" } : Jvm.MethodName)) ∈ lw_all := lw_g (lw_at lw_m1 237 rfl) rfl
theorem q285 : (Jvm.Cond.classLink "WordBench$Form" (23 : Nat) "[I") ∈ lw_all := lw_g (lw_at lw_m1 238 rfl) rfl
theorem q287 : (Jvm.Cond.methodLinkNest "WordBench$Form" (35 : Nat) ({ cls := "WordBench", name := "letters", desc := "(IIJ)[I" } : Jvm.MethodName) "WordBench") ∈ lw_tbl := lw_at lw_m2 0 rfl
theorem q290 : (Jvm.Cond.methodLink "WordBench$Form" (41 : Nat) ({ cls := "WordBench$Form", name := "clears", desc := "(I)V" } : Jvm.MethodName)) ∈ lw_all := lw_g (lw_at lw_m2 3 rfl) rfl
theorem q291 : (Jvm.Cond.privateMethod ({ cls := "WordBench$Form", name := "clears", desc := "(I)V" } : Jvm.MethodName)) ∈ lw_tbl := lw_at lw_m2 4 rfl
theorem q292 : (Jvm.Cond.instanceMethod ({ cls := "WordBench$Form", name := "clears", desc := "(I)V" } : Jvm.MethodName)) ∈ lw_all := lw_g (lw_at lw_m2 5 rfl) rfl
theorem q293 : (Jvm.Cond.code ({ cls := "WordBench$Form", name := "clears", desc := "(I)V" } : Jvm.MethodName) prog_3_method_2_code (6 : Nat) (Option.none : Option Jvm.ClassFile.FieldType)) ∈ lw_all := lw_g (lw_at lw_m2 6 rfl) rfl
theorem q294 : (Jvm.Cond.methodLinkNest "WordBench$Form" (48 : Nat) ({ cls := "WordBench", name := "inverse", desc := "(II)I" } : Jvm.MethodName) "WordBench") ∈ lw_tbl := lw_at lw_m2 7 rfl
theorem q297 : (Jvm.Cond.methodLinkNest "WordBench$Form" (52 : Nat) ({ cls := "WordBench", name := "times", desc := "(III)I" } : Jvm.MethodName) "WordBench") ∈ lw_tbl := lw_at lw_m2 10 rfl
theorem q298 : (Jvm.Cond.methodLink "WordBench$Form" (56 : Nat) ({ cls := "WordBench$Form", name := "takes", desc := "([I[II)V" } : Jvm.MethodName)) ∈ lw_all := lw_g (lw_at lw_m2 11 rfl) rfl
theorem q299 : (Jvm.Cond.privateMethod ({ cls := "WordBench$Form", name := "takes", desc := "([I[II)V" } : Jvm.MethodName)) ∈ lw_tbl := lw_at lw_m2 12 rfl
theorem q300 : (Jvm.Cond.instanceMethod ({ cls := "WordBench$Form", name := "takes", desc := "([I[II)V" } : Jvm.MethodName)) ∈ lw_all := lw_g (lw_at lw_m2 13 rfl) rfl
theorem q301 : (Jvm.Cond.code ({ cls := "WordBench$Form", name := "takes", desc := "([I[II)V" } : Jvm.MethodName) prog_3_method_3_code (6 : Nat) (Option.none : Option Jvm.ClassFile.FieldType)) ∈ lw_all := lw_g (lw_at lw_m2 14 rfl) rfl
theorem q302 : (Jvm.Cond.methodLinkNest "WordBench$Form" (60 : Nat) ({ cls := "WordBench", name := "against", desc := "(II)I" } : Jvm.MethodName) "WordBench") ∈ lw_tbl := lw_at lw_m2 15 rfl
theorem q305 : (Jvm.Cond.methodLinkNest "WordBench$Form" (63 : Nat) ({ cls := "WordBench", name := "added", desc := "(III)I" } : Jvm.MethodName) "WordBench") ∈ lw_tbl := lw_at lw_m2 18 rfl
theorem q306 : (Jvm.Cond.fieldLink "WordBench$Form" (13 : Nat) "WordBench$Form" "q" "I") ∈ lw_all := lw_g (lw_at lw_m2 19 rfl) rfl
theorem q307 : (Jvm.Cond.fieldLink "WordBench$Form" (19 : Nat) "WordBench$Form" "n" "I") ∈ lw_all := lw_g (lw_at lw_m2 20 rfl) rfl
theorem q308 : (Jvm.Cond.fieldLink "WordBench$Form" (25 : Nat) "WordBench$Form" "rows" "[[I") ∈ lw_all := lw_g (lw_at lw_m2 21 rfl) rfl
theorem q309 : (Jvm.Cond.fieldLink "WordBench$Form" (29 : Nat) "WordBench$Form" "heads" "[I") ∈ lw_all := lw_g (lw_at lw_m2 22 rfl) rfl
theorem q311 : (Jvm.Cond.fieldLink "WordBench$Form" (45 : Nat) "WordBench$Form" "rank" "I") ∈ lw_all := lw_g (lw_at lw_m2 24 rfl) rfl
theorem q313 : (Jvm.Cond.laysFinal "WordBench$Form" "WordBench$Form" "q" "I") ∈ lw_all := lw_g (lw_at lw_m2 26 rfl) rfl
theorem q314 : (Jvm.Cond.soleField "WordBench$Form" "q") ∈ lw_all := lw_g (lw_at lw_m2 27 rfl) rfl
theorem q315 : (Jvm.Cond.laysFinal "WordBench$Form" "WordBench$Form" "n" "I") ∈ lw_all := lw_g (lw_at lw_m2 28 rfl) rfl
theorem q316 : (Jvm.Cond.soleField "WordBench$Form" "n") ∈ lw_all := lw_g (lw_at lw_m2 29 rfl) rfl
theorem q317 : (Jvm.Cond.laysFinal "WordBench$Form" "WordBench$Form" "rows" "[[I") ∈ lw_all := lw_g (lw_at lw_m2 30 rfl) rfl
theorem q318 : (Jvm.Cond.soleField "WordBench$Form" "rows") ∈ lw_all := lw_g (lw_at lw_m2 31 rfl) rfl
theorem q319 : (Jvm.Cond.laysFinal "WordBench$Form" "WordBench$Form" "heads" "[I") ∈ lw_all := lw_g (lw_at lw_m2 32 rfl) rfl
theorem q320 : (Jvm.Cond.soleField "WordBench$Form" "heads") ∈ lw_all := lw_g (lw_at lw_m2 33 rfl) rfl
theorem q321 : (Jvm.Cond.lays "WordBench$Form" "WordBench$Form" "rank" "I") ∈ lw_all := lw_g (lw_at lw_m2 34 rfl) rfl
theorem q322 : (Jvm.Cond.soleField "WordBench$Form" "rank") ∈ lw_all := lw_g (lw_at lw_m2 35 rfl) rfl
theorem q323 : (Jvm.Cond.superclass "WordBench$Form" "java/lang/Object") ∈ lw_all := lw_g (lw_at lw_m2 36 rfl) rfl
theorem q351 : (Jvm.Cond.instanceMethod ({ cls := "WordBench$Form", name := "has", desc := "(J)Z" } : Jvm.MethodName)) ∈ lw_all := lw_g (lw_at lw_m2 64 rfl) rfl
theorem q352 : (Jvm.Cond.selects "WordBench$Form" ({ cls := "WordBench$Form", name := "has", desc := "(J)Z" } : Jvm.MethodName) ({ cls := "WordBench$Form", name := "has", desc := "(J)Z" } : Jvm.MethodName)) ∈ lw_all := lw_g (lw_at lw_m2 65 rfl) rfl
theorem q353 : (Jvm.Cond.code ({ cls := "WordBench$Form", name := "has", desc := "(J)Z" } : Jvm.MethodName) prog_3_method_5_code (6 : Nat) (Option.some Jvm.ClassFile.FieldType.boolean)) ∈ lw_all := lw_g (lw_at lw_m2 66 rfl) rfl
theorem q354 : (Jvm.Cond.methodLink "WordBench$Form" (70 : Nat) ({ cls := "WordBench$Form", name := "row", desc := "(I)J" } : Jvm.MethodName)) ∈ lw_all := lw_g (lw_at lw_m2 67 rfl) rfl
theorem q355 : (Jvm.Cond.instanceMethod ({ cls := "WordBench$Form", name := "row", desc := "(I)J" } : Jvm.MethodName)) ∈ lw_all := lw_g (lw_at lw_m2 68 rfl) rfl
theorem q356 : (Jvm.Cond.selects "WordBench$Form" ({ cls := "WordBench$Form", name := "row", desc := "(I)J" } : Jvm.MethodName) ({ cls := "WordBench$Form", name := "row", desc := "(I)J" } : Jvm.MethodName)) ∈ lw_all := lw_g (lw_at lw_m2 69 rfl) rfl
theorem q357 : (Jvm.Cond.code ({ cls := "WordBench$Form", name := "row", desc := "(I)J" } : Jvm.MethodName) prog_3_method_4_code (2 : Nat) (Option.some Jvm.ClassFile.FieldType.long)) ∈ lw_all := lw_g (lw_at lw_m2 70 rfl) rfl
theorem q358 : (Jvm.Cond.methodLinkNest "WordBench$Form" (66 : Nat) ({ cls := "WordBench", name := "wordOf", desc := "(I[I)J" } : Jvm.MethodName) "WordBench") ∈ lw_tbl := lw_at lw_m2 71 rfl
theorem q359 : (Jvm.Cond.methodLinkNest "WordBench$Form" (74 : Nat) ({ cls := "WordBench", name := "letter", desc := "(IIJI)I" } : Jvm.MethodName) "WordBench") ∈ lw_tbl := lw_at lw_m2 72 rfl
theorem q362 : (Jvm.Cond.methodLinkNest "WordBench$Form" (78 : Nat) ({ cls := "WordBench", name := "sumOf", desc := "(IIJJI)J" } : Jvm.MethodName) "WordBench") ∈ lw_tbl := lw_at lw_m2 75 rfl
theorem q401 : (Jvm.Cond.instanceMethod ({ cls := "WordBench$Form", name := "dual", desc := "()LWordBench$Code;" } : Jvm.MethodName)) ∈ lw_all := lw_g (lw_at lw_m2 114 rfl) rfl
theorem q402 : (Jvm.Cond.selects "WordBench$Form" ({ cls := "WordBench$Form", name := "dual", desc := "()LWordBench$Code;" } : Jvm.MethodName) ({ cls := "WordBench$Form", name := "dual", desc := "()LWordBench$Code;" } : Jvm.MethodName)) ∈ lw_all := lw_g (lw_at lw_m2 115 rfl) rfl
theorem q403 : (Jvm.Cond.code ({ cls := "WordBench$Form", name := "dual", desc := "()LWordBench$Code;" } : Jvm.MethodName) prog_3_method_7_code (6 : Nat) (Option.some (Jvm.ClassFile.FieldType.object "WordBench$Code"))) ∈ lw_all := lw_g (lw_at lw_m2 116 rfl) rfl
theorem q404 : (Jvm.Cond.classLink "WordBench$Form" (82 : Nat) "WordBench$Line") ∈ lw_all := lw_g (lw_at lw_m2 117 rfl) rfl
theorem q405 : (Jvm.Cond.methodLink "WordBench$Form" (84 : Nat) ({ cls := "WordBench$Line", name := "<init>", desc := "(II)V" } : Jvm.MethodName)) ∈ lw_all := lw_g (lw_at lw_m2 118 rfl) rfl
theorem q406 : (Jvm.Cond.methodLink "WordBench$Form" (87 : Nat) ({ cls := "WordBench$Line", name := "add", desc := "(J)V" } : Jvm.MethodName)) ∈ lw_all := lw_g (lw_at lw_m2 119 rfl) rfl
theorem q538 : (Jvm.Cond.instanceMethod ({ cls := "WordBench$Form", name := "isLike", desc := "(LWordBench$Form;)Z" } : Jvm.MethodName)) ∈ lw_all := lw_g (lw_at lw_m3 11 rfl) rfl
theorem q539 : (Jvm.Cond.selects "WordBench$Form" ({ cls := "WordBench$Form", name := "isLike", desc := "(LWordBench$Form;)Z" } : Jvm.MethodName) ({ cls := "WordBench$Form", name := "isLike", desc := "(LWordBench$Form;)Z" } : Jvm.MethodName)) ∈ lw_all := lw_g (lw_at lw_m3 12 rfl) rfl
theorem q540 : (Jvm.Cond.code ({ cls := "WordBench$Form", name := "isLike", desc := "(LWordBench$Form;)Z" } : Jvm.MethodName) prog_3_method_6_code (4 : Nat) (Option.some Jvm.ClassFile.FieldType.boolean)) ∈ lw_all := lw_g (lw_at lw_m3 13 rfl) rfl
theorem q621 : (Jvm.Cond.selects "WordBench$Form" ({ cls := "java/lang/Object", name := "getClass", desc := "()Ljava/lang/Class;" } : Jvm.MethodName) ({ cls := "java/lang/Object", name := "getClass", desc := "()Ljava/lang/Class;" } : Jvm.MethodName)) ∈ lw_all := lw_g (lw_at lw_m3 94 rfl) rfl
theorem q1437 : (Jvm.Cond.castable "WordBench$Form" "java/lang/Object") ∈ lw_tbl := lw_at lw_m6 190 rfl
theorem in_X9 : ∀ w ∈ wsX90, w ∈ lw_all := lw_in wsX90 [313, 315, 317, 319, 321] (by decide +kernel) (by decide +kernel)

/-! WordBench$Tossed -/
set_option maxRecDepth 100000
def RX10 : String := "WordBench$Tossed"
def TX10 : u_T := fun k => match k with
  | 0 => ("java/lang/Throwable", "cause", "Ljava/lang/Throwable;", false)
  | 1 => ("java/lang/Throwable", "stackTrace", "[Ljava/lang/StackTraceElement;", false)
  | 2 => ("java/lang/Throwable", "suppressedExceptions", "Ljava/util/List;", false)
  | 3 => ("java/lang/Throwable", "detailMessage", "Ljava/lang/String;", false)
  | 4 => ("java/lang/Throwable", "backtrace", "Ljava/lang/Object;", false)
  | 5 => ("java/lang/Throwable", "depth", "I", false)
  | _ => ("WordBench$Tossed", "n", "I", true)
def tyX10 : Nat → FieldType := fun k => match k with
  | 0 => .object "java/lang/Throwable"
  | 1 => .array (.object "java/lang/StackTraceElement")
  | 2 => .object "java/util/List"
  | 3 => .object "java/lang/String"
  | 4 => .object "java/lang/Object"
  | 5 => .int
  | _ => .int
abbrev wsX100 : List Cond := u_ws RX10 TX10 7
theorem nmX10 : ∀ a, a < 7 → ∀ b, b < 7 → a ≠ b → (TX10 a).2.1 ≠ (TX10 b).2.1 := by decide +kernel
theorem tyX10_ok : ∀ k, k < 7 → parseFieldDescriptor (TX10 k).2.2.1 = some (tyX10 k) := by decide +kernel
abbrev cX10_init : ByteArray := prog_9_method_1_code
def yX10_init : MethodName := ⟨RX10, "<init>", "(I)V"⟩
def dkwX10_init_0 : List UInt8 := [42, 183, 0, 1, 42, 27, 181, 0, 7, 177]
abbrev dktX10_init_0 : List UInt8 := dkwX10_init_0 ++ []
theorem dksX10_init_0 : cX10_init.data.toList.drop 0 = dktX10_init_0 := by decide +kernel
theorem dX10_init_0 : decode cX10_init 0 = .ok (.aload_n 0, 1) := dk_42 (dk_at dksX10_init_0 0 rfl rfl)
theorem dX10_init_1 : decode cX10_init 1 = .ok (.invokespecial 1, 3) := dk_183 0 1 (dk_at dksX10_init_0 1 rfl rfl)
theorem dX10_init_4 : decode cX10_init 4 = .ok (.aload_n 0, 1) := dk_42 (dk_at dksX10_init_0 4 rfl rfl)
theorem dX10_init_5 : decode cX10_init 5 = .ok (.iload_n 1, 1) := dk_27 (dk_at dksX10_init_0 5 rfl rfl)
theorem dX10_init_6 : decode cX10_init 6 = .ok (.putfield 7, 3) := dk_181 0 7 (dk_at dksX10_init_0 6 rfl rfl)
theorem dX10_init_9 : decode cX10_init 9 = .ok (.return_, 1) := dk_177 (dk_at dksX10_init_0 9 rfl rfl)
theorem q77 : (Jvm.Cond.initialized "WordBench$Tossed") ∈ lw_all := lw_g (lw_at lw_m1 30 rfl) rfl
theorem q627 : (Jvm.Cond.selects "WordBench$Tossed" ({ cls := "java/lang/Object", name := "getClass", desc := "()Ljava/lang/Class;" } : Jvm.MethodName) ({ cls := "java/lang/Object", name := "getClass", desc := "()Ljava/lang/Class;" } : Jvm.MethodName)) ∈ lw_all := lw_g (lw_at lw_m3 100 rfl) rfl
theorem q752 : (Jvm.Cond.selects "WordBench$Tossed" ({ cls := "java/lang/Throwable", name := "fillInStackTrace", desc := "()Ljava/lang/Throwable;" } : Jvm.MethodName) ({ cls := "java/lang/Throwable", name := "fillInStackTrace", desc := "()Ljava/lang/Throwable;" } : Jvm.MethodName)) ∈ lw_all := lw_g (lw_at lw_m3 225 rfl) rfl
theorem q923 : (Jvm.Cond.instantiable "WordBench$Tossed" (7 : Nat)) ∈ lw_all := lw_g (lw_at lw_m4 156 rfl) rfl
theorem q924 : (Jvm.Cond.castable "WordBench$Tossed" "WordBench$Tossed") ∈ lw_tbl := lw_at lw_m4 157 rfl
theorem q925 : (Jvm.Cond.selects "WordBench$Tossed" ({ cls := "java/lang/Throwable", name := "fillInStackTrace", desc := "(I)Ljava/lang/Throwable;" } : Jvm.MethodName) ({ cls := "java/lang/Throwable", name := "fillInStackTrace", desc := "(I)Ljava/lang/Throwable;" } : Jvm.MethodName)) ∈ lw_all := lw_g (lw_at lw_m4 158 rfl) rfl
theorem q926 : (Jvm.Cond.lays "WordBench$Tossed" "java/lang/Throwable" "cause" "Ljava/lang/Throwable;") ∈ lw_all := lw_g (lw_at lw_m4 159 rfl) rfl
theorem q927 : (Jvm.Cond.lays "WordBench$Tossed" "java/lang/Throwable" "stackTrace" "[Ljava/lang/StackTraceElement;") ∈ lw_all := lw_g (lw_at lw_m4 160 rfl) rfl
theorem q928 : (Jvm.Cond.lays "WordBench$Tossed" "java/lang/Throwable" "suppressedExceptions" "Ljava/util/List;") ∈ lw_all := lw_g (lw_at lw_m4 161 rfl) rfl
theorem q929 : (Jvm.Cond.lays "WordBench$Tossed" "java/lang/Throwable" "detailMessage" "Ljava/lang/String;") ∈ lw_all := lw_g (lw_at lw_m4 162 rfl) rfl
theorem q930 : (Jvm.Cond.lays "WordBench$Tossed" "java/lang/Throwable" "backtrace" "Ljava/lang/Object;") ∈ lw_all := lw_g (lw_at lw_m4 163 rfl) rfl
theorem q932 : (Jvm.Cond.instanceMethod ({ cls := "WordBench$Tossed", name := "<init>", desc := "(I)V" } : Jvm.MethodName)) ∈ lw_all := lw_g (lw_at lw_m4 165 rfl) rfl
theorem q933 : (Jvm.Cond.code ({ cls := "WordBench$Tossed", name := "<init>", desc := "(I)V" } : Jvm.MethodName) prog_9_method_1_code (2 : Nat) (Option.none : Option Jvm.ClassFile.FieldType)) ∈ lw_all := lw_g (lw_at lw_m4 166 rfl) rfl
theorem q934 : (Jvm.Cond.methodLink "WordBench$Tossed" (1 : Nat) ({ cls := "java/lang/RuntimeException", name := "<init>", desc := "()V" } : Jvm.MethodName)) ∈ lw_all := lw_g (lw_at lw_m4 167 rfl) rfl
theorem q935 : (Jvm.Cond.fieldLink "WordBench$Tossed" (7 : Nat) "WordBench$Tossed" "n" "I") ∈ lw_all := lw_g (lw_at lw_m4 168 rfl) rfl
theorem q937 : (Jvm.Cond.laysFinal "WordBench$Tossed" "WordBench$Tossed" "n" "I") ∈ lw_all := lw_g (lw_at lw_m4 170 rfl) rfl
theorem q938 : (Jvm.Cond.soleField "WordBench$Tossed" "n") ∈ lw_all := lw_g (lw_at lw_m4 171 rfl) rfl
theorem q939 : (Jvm.Cond.lays "WordBench$Tossed" "java/lang/Throwable" "depth" "I") ∈ lw_all := lw_g (lw_at lw_m4 172 rfl) rfl
theorem q940 : (Jvm.Cond.superclass "WordBench$Tossed" "java/lang/RuntimeException") ∈ lw_all := lw_g (lw_at lw_m4 173 rfl) rfl
theorem q1444 : (Jvm.Cond.castable "WordBench$Tossed" "java/lang/Object") ∈ lw_tbl := lw_at lw_m6 197 rfl
theorem in_X10 : ∀ w ∈ wsX100, w ∈ lw_all := lw_in wsX100 [926, 927, 928, 929, 930, 939, 937] (by decide +kernel) (by decide +kernel)

/-! java/util/AbstractCollection -/
set_option maxRecDepth 100000
def RJ0 : String := "java/util/AbstractCollection"
abbrev cJ0_init : ByteArray := prog_28_method_1_code
def yJ0_init : MethodName := ⟨RJ0, "<init>", "()V"⟩
theorem dJ0_init_0 : decode cJ0_init 0 = .ok (.aload_n 0, 1) := by decide +kernel
theorem dJ0_init_1 : decode cJ0_init 1 = .ok (.invokespecial 1, 3) := by decide +kernel
theorem dJ0_init_4 : decode cJ0_init 4 = .ok (.return_, 1) := by decide +kernel
theorem q49 : (Jvm.Cond.initialized "java/util/AbstractCollection") ∈ lw_all := lw_g (lw_at lw_m1 2 rfl) rfl
theorem q561 : (Jvm.Cond.instanceMethod ({ cls := "java/util/AbstractCollection", name := "<init>", desc := "()V" } : Jvm.MethodName)) ∈ lw_all := lw_g (lw_at lw_m3 34 rfl) rfl
theorem q562 : (Jvm.Cond.code ({ cls := "java/util/AbstractCollection", name := "<init>", desc := "()V" } : Jvm.MethodName) prog_28_method_1_code (1 : Nat) (Option.none : Option Jvm.ClassFile.FieldType)) ∈ lw_all := lw_g (lw_at lw_m3 35 rfl) rfl
theorem q563 : (Jvm.Cond.methodLink "java/util/AbstractCollection" (1 : Nat) ({ cls := "java/lang/Object", name := "<init>", desc := "()V" } : Jvm.MethodName)) ∈ lw_all := lw_g (lw_at lw_m3 36 rfl) rfl

/-! java/util/AbstractList -/
set_option maxRecDepth 100000
def RJ1 : String := "java/util/AbstractList"
abbrev cJ1_init : ByteArray := prog_29_method_1_code
def yJ1_init : MethodName := ⟨RJ1, "<init>", "()V"⟩
def dkwJ1_init_0 : List UInt8 := [42, 183, 0, 1, 42, 3, 181, 0, 7, 177]
abbrev dktJ1_init_0 : List UInt8 := dkwJ1_init_0 ++ []
theorem dksJ1_init_0 : cJ1_init.data.toList.drop 0 = dktJ1_init_0 := by decide +kernel
theorem dJ1_init_0 : decode cJ1_init 0 = .ok (.aload_n 0, 1) := dk_42 (dk_at dksJ1_init_0 0 rfl rfl)
theorem dJ1_init_1 : decode cJ1_init 1 = .ok (.invokespecial 1, 3) := dk_183 0 1 (dk_at dksJ1_init_0 1 rfl rfl)
theorem dJ1_init_4 : decode cJ1_init 4 = .ok (.aload_n 0, 1) := dk_42 (dk_at dksJ1_init_0 4 rfl rfl)
theorem dJ1_init_5 : decode cJ1_init 5 = .ok (.iconst 0, 1) := dk_3 (dk_at dksJ1_init_0 5 rfl rfl)
theorem dJ1_init_6 : decode cJ1_init 6 = .ok (.putfield 7, 3) := dk_181 0 7 (dk_at dksJ1_init_0 6 rfl rfl)
theorem dJ1_init_9 : decode cJ1_init 9 = .ok (.return_, 1) := dk_177 (dk_at dksJ1_init_0 9 rfl rfl)
theorem q50 : (Jvm.Cond.initialized "java/util/AbstractList") ∈ lw_all := lw_g (lw_at lw_m1 3 rfl) rfl
theorem q558 : (Jvm.Cond.instanceMethod ({ cls := "java/util/AbstractList", name := "<init>", desc := "()V" } : Jvm.MethodName)) ∈ lw_all := lw_g (lw_at lw_m3 31 rfl) rfl
theorem q559 : (Jvm.Cond.code ({ cls := "java/util/AbstractList", name := "<init>", desc := "()V" } : Jvm.MethodName) prog_29_method_1_code (1 : Nat) (Option.none : Option Jvm.ClassFile.FieldType)) ∈ lw_all := lw_g (lw_at lw_m3 32 rfl) rfl
theorem q560 : (Jvm.Cond.methodLink "java/util/AbstractList" (1 : Nat) ({ cls := "java/util/AbstractCollection", name := "<init>", desc := "()V" } : Jvm.MethodName)) ∈ lw_all := lw_g (lw_at lw_m3 33 rfl) rfl
theorem q568 : (Jvm.Cond.fieldLink "java/util/AbstractList" (7 : Nat) "java/util/AbstractList" "modCount" "I") ∈ lw_all := lw_g (lw_at lw_m3 41 rfl) rfl
theorem q576 : (Jvm.Cond.soleField "java/util/AbstractList" "modCount") ∈ lw_all := lw_g (lw_at lw_m3 49 rfl) rfl

/-! java/util/ArrayList -/
set_option maxRecDepth 100000
def RJ2 : String := "java/util/ArrayList"
def TJ2 : u_T := fun k => match k with
  | 0 => ("java/util/AbstractList", "modCount", "I", false)
  | 1 => ("java/util/ArrayList", "elementData", "[Ljava/lang/Object;", false)
  | _ => ("java/util/ArrayList", "size", "I", false)
def tyJ2 : Nat → FieldType := fun k => match k with
  | 0 => .int
  | 1 => .array (.object "java/lang/Object")
  | _ => .int
abbrev wsJ20 : List Cond := u_ws RJ2 TJ2 3
theorem nmJ2 : ∀ a, a < 3 → ∀ b, b < 3 → a ≠ b → (TJ2 a).2.1 ≠ (TJ2 b).2.1 := by decide +kernel
theorem tyJ2_ok : ∀ k, k < 3 → parseFieldDescriptor (TJ2 k).2.2.1 = some (tyJ2 k) := by decide +kernel
abbrev cJ2_init : ByteArray := prog_30_method_2_code
def yJ2_init : MethodName := ⟨RJ2, "<init>", "()V"⟩
def dkwJ2_init_0 : List UInt8 := [42, 183, 0, 1, 42, 178, 0, 39, 181, 0, 9, 177]
abbrev dktJ2_init_0 : List UInt8 := dkwJ2_init_0 ++ []
theorem dksJ2_init_0 : cJ2_init.data.toList.drop 0 = dktJ2_init_0 := by decide +kernel
theorem dJ2_init_0 : decode cJ2_init 0 = .ok (.aload_n 0, 1) := dk_42 (dk_at dksJ2_init_0 0 rfl rfl)
theorem dJ2_init_1 : decode cJ2_init 1 = .ok (.invokespecial 1, 3) := dk_183 0 1 (dk_at dksJ2_init_0 1 rfl rfl)
theorem dJ2_init_4 : decode cJ2_init 4 = .ok (.aload_n 0, 1) := dk_42 (dk_at dksJ2_init_0 4 rfl rfl)
theorem dJ2_init_5 : decode cJ2_init 5 = .ok (.getstatic 39, 3) := dk_178 0 39 (dk_at dksJ2_init_0 5 rfl rfl)
theorem dJ2_init_8 : decode cJ2_init 8 = .ok (.putfield 9, 3) := dk_181 0 9 (dk_at dksJ2_init_0 8 rfl rfl)
theorem dJ2_init_11 : decode cJ2_init 11 = .ok (.return_, 1) := dk_177 (dk_at dksJ2_init_0 11 rfl rfl)
abbrev cJ2_add : ByteArray := prog_30_method_25_code
def yJ2_add : MethodName := ⟨RJ2, "add", "(Ljava/lang/Object;)Z"⟩
def dkwJ2_add_1 : List UInt8 := [172]
abbrev dktJ2_add_1 : List UInt8 := dkwJ2_add_1 ++ []
def dkwJ2_add_0 : List UInt8 := [42, 89, 180, 0, 63, 4, 96, 181, 0, 63, 42, 43, 42, 180, 0, 9, 42, 180, 0, 48, 182, 0, 131, 4]
abbrev dktJ2_add_0 : List UInt8 := dkwJ2_add_0 ++ dktJ2_add_1
theorem dksJ2_add_0 : cJ2_add.data.toList.drop 0 = dktJ2_add_0 := by decide +kernel
theorem dksJ2_add_1 : cJ2_add.data.toList.drop 24 = dktJ2_add_1 := dk_seg dksJ2_add_0 24 rfl rfl
theorem dJ2_add_0 : decode cJ2_add 0 = .ok (.aload_n 0, 1) := dk_42 (dk_at dksJ2_add_0 0 rfl rfl)
theorem dJ2_add_1 : decode cJ2_add 1 = .ok (.dup, 1) := dk_89 (dk_at dksJ2_add_0 1 rfl rfl)
theorem dJ2_add_2 : decode cJ2_add 2 = .ok (.getfield 63, 3) := dk_180 0 63 (dk_at dksJ2_add_0 2 rfl rfl)
theorem dJ2_add_5 : decode cJ2_add 5 = .ok (.iconst 1, 1) := dk_4 (dk_at dksJ2_add_0 5 rfl rfl)
theorem dJ2_add_6 : decode cJ2_add 6 = .ok (.iadd, 1) := dk_96 (dk_at dksJ2_add_0 6 rfl rfl)
theorem dJ2_add_7 : decode cJ2_add 7 = .ok (.putfield 63, 3) := dk_181 0 63 (dk_at dksJ2_add_0 7 rfl rfl)
theorem dJ2_add_10 : decode cJ2_add 10 = .ok (.aload_n 0, 1) := dk_42 (dk_at dksJ2_add_0 10 rfl rfl)
theorem dJ2_add_11 : decode cJ2_add 11 = .ok (.aload_n 1, 1) := dk_43 (dk_at dksJ2_add_0 11 rfl rfl)
theorem dJ2_add_12 : decode cJ2_add 12 = .ok (.aload_n 0, 1) := dk_42 (dk_at dksJ2_add_0 12 rfl rfl)
theorem dJ2_add_13 : decode cJ2_add 13 = .ok (.getfield 9, 3) := dk_180 0 9 (dk_at dksJ2_add_0 13 rfl rfl)
theorem dJ2_add_16 : decode cJ2_add 16 = .ok (.aload_n 0, 1) := dk_42 (dk_at dksJ2_add_0 16 rfl rfl)
theorem dJ2_add_17 : decode cJ2_add 17 = .ok (.getfield 48, 3) := dk_180 0 48 (dk_at dksJ2_add_0 17 rfl rfl)
theorem dJ2_add_20 : decode cJ2_add 20 = .ok (.invokevirtual 131, 3) := dk_182 0 131 (dk_at dksJ2_add_0 20 rfl rfl)
theorem dJ2_add_23 : decode cJ2_add 23 = .ok (.iconst 1, 1) := dk_4 (dk_at dksJ2_add_0 23 rfl rfl)
theorem dJ2_add_24 : decode cJ2_add 24 = .ok (.ireturn, 1) := dk_172 (dk_at dksJ2_add_1 0 rfl rfl)
abbrev cJ2_add_2 : ByteArray := prog_30_method_24_code
def yJ2_add_2 : MethodName := ⟨RJ2, "add", "(Ljava/lang/Object;[Ljava/lang/Object;I)V"⟩
def dkwJ2_add_2_0 : List UInt8 := [29, 44, 190, 160, 0, 8, 42, 182, 0, 129, 77, 44, 29, 43, 83, 42, 29, 4, 96, 181, 0, 48, 177]
abbrev dktJ2_add_2_0 : List UInt8 := dkwJ2_add_2_0 ++ []
theorem dksJ2_add_2_0 : cJ2_add_2.data.toList.drop 0 = dktJ2_add_2_0 := by decide +kernel
theorem dJ2_add_2_0 : decode cJ2_add_2 0 = .ok (.iload_n 3, 1) := dk_29 (dk_at dksJ2_add_2_0 0 rfl rfl)
theorem dJ2_add_2_1 : decode cJ2_add_2 1 = .ok (.aload_n 2, 1) := dk_44 (dk_at dksJ2_add_2_0 1 rfl rfl)
theorem dJ2_add_2_2 : decode cJ2_add_2 2 = .ok (.arraylength, 1) := dk_190 (dk_at dksJ2_add_2_0 2 rfl rfl)
theorem dJ2_add_2_3 : decode cJ2_add_2 3 = .ok (.if_icmp .ne 8, 3) := dk_160 0 8 (dk_at dksJ2_add_2_0 3 rfl rfl)
theorem dJ2_add_2_6 : decode cJ2_add_2 6 = .ok (.aload_n 0, 1) := dk_42 (dk_at dksJ2_add_2_0 6 rfl rfl)
theorem dJ2_add_2_7 : decode cJ2_add_2 7 = .ok (.invokevirtual 129, 3) := dk_182 0 129 (dk_at dksJ2_add_2_0 7 rfl rfl)
theorem dJ2_add_2_10 : decode cJ2_add_2 10 = .ok (.astore_n 2, 1) := dk_77 (dk_at dksJ2_add_2_0 10 rfl rfl)
theorem dJ2_add_2_11 : decode cJ2_add_2 11 = .ok (.aload_n 2, 1) := dk_44 (dk_at dksJ2_add_2_0 11 rfl rfl)
theorem dJ2_add_2_12 : decode cJ2_add_2 12 = .ok (.iload_n 3, 1) := dk_29 (dk_at dksJ2_add_2_0 12 rfl rfl)
theorem dJ2_add_2_13 : decode cJ2_add_2 13 = .ok (.aload_n 1, 1) := dk_43 (dk_at dksJ2_add_2_0 13 rfl rfl)
theorem dJ2_add_2_14 : decode cJ2_add_2 14 = .ok (.aastore, 1) := dk_83 (dk_at dksJ2_add_2_0 14 rfl rfl)
theorem dJ2_add_2_15 : decode cJ2_add_2 15 = .ok (.aload_n 0, 1) := dk_42 (dk_at dksJ2_add_2_0 15 rfl rfl)
theorem dJ2_add_2_16 : decode cJ2_add_2 16 = .ok (.iload_n 3, 1) := dk_29 (dk_at dksJ2_add_2_0 16 rfl rfl)
theorem dJ2_add_2_17 : decode cJ2_add_2 17 = .ok (.iconst 1, 1) := dk_4 (dk_at dksJ2_add_2_0 17 rfl rfl)
theorem dJ2_add_2_18 : decode cJ2_add_2 18 = .ok (.iadd, 1) := dk_96 (dk_at dksJ2_add_2_0 18 rfl rfl)
theorem dJ2_add_2_19 : decode cJ2_add_2 19 = .ok (.putfield 48, 3) := dk_181 0 48 (dk_at dksJ2_add_2_0 19 rfl rfl)
theorem dJ2_add_2_22 : decode cJ2_add_2 22 = .ok (.return_, 1) := dk_177 (dk_at dksJ2_add_2_0 22 rfl rfl)
abbrev cJ2_grow : ByteArray := prog_30_method_7_code
def yJ2_grow : MethodName := ⟨RJ2, "grow", "()[Ljava/lang/Object;"⟩
def dkwJ2_grow_0 : List UInt8 := [42, 42, 180, 0, 48, 4, 96, 182, 0, 69, 176]
abbrev dktJ2_grow_0 : List UInt8 := dkwJ2_grow_0 ++ []
theorem dksJ2_grow_0 : cJ2_grow.data.toList.drop 0 = dktJ2_grow_0 := by decide +kernel
theorem dJ2_grow_0 : decode cJ2_grow 0 = .ok (.aload_n 0, 1) := dk_42 (dk_at dksJ2_grow_0 0 rfl rfl)
theorem dJ2_grow_1 : decode cJ2_grow 1 = .ok (.aload_n 0, 1) := dk_42 (dk_at dksJ2_grow_0 1 rfl rfl)
theorem dJ2_grow_2 : decode cJ2_grow 2 = .ok (.getfield 48, 3) := dk_180 0 48 (dk_at dksJ2_grow_0 2 rfl rfl)
theorem dJ2_grow_5 : decode cJ2_grow 5 = .ok (.iconst 1, 1) := dk_4 (dk_at dksJ2_grow_0 5 rfl rfl)
theorem dJ2_grow_6 : decode cJ2_grow 6 = .ok (.iadd, 1) := dk_96 (dk_at dksJ2_grow_0 6 rfl rfl)
theorem dJ2_grow_7 : decode cJ2_grow 7 = .ok (.invokevirtual 69, 3) := dk_182 0 69 (dk_at dksJ2_grow_0 7 rfl rfl)
theorem dJ2_grow_10 : decode cJ2_grow 10 = .ok (.areturn, 1) := dk_176 (dk_at dksJ2_grow_0 10 rfl rfl)
abbrev cJ2_grow_2 : ByteArray := prog_30_method_6_code
def yJ2_grow_2 : MethodName := ⟨RJ2, "grow", "(I)[Ljava/lang/Object;"⟩
def dkwJ2_grow_2_2 : List UInt8 := [27, 184, 0, 79, 189, 0, 7, 90, 181, 0, 9, 176]
abbrev dktJ2_grow_2_2 : List UInt8 := dkwJ2_grow_2_2 ++ []
def dkwJ2_grow_2_1 : List UInt8 := [28, 4, 122, 184, 0, 73, 62, 42, 42, 180, 0, 9, 29, 184, 0, 66, 90, 181, 0, 9, 176, 42, 16, 10]
abbrev dktJ2_grow_2_1 : List UInt8 := dkwJ2_grow_2_1 ++ dktJ2_grow_2_2
def dkwJ2_grow_2_0 : List UInt8 := [42, 180, 0, 9, 190, 61, 28, 157, 0, 13, 42, 180, 0, 9, 178, 0, 39, 165, 0, 28, 28, 27, 28, 100]
abbrev dktJ2_grow_2_0 : List UInt8 := dkwJ2_grow_2_0 ++ dktJ2_grow_2_1
theorem dksJ2_grow_2_0 : cJ2_grow_2.data.toList.drop 0 = dktJ2_grow_2_0 := by decide +kernel
theorem dksJ2_grow_2_1 : cJ2_grow_2.data.toList.drop 24 = dktJ2_grow_2_1 := dk_seg dksJ2_grow_2_0 24 rfl rfl
theorem dksJ2_grow_2_2 : cJ2_grow_2.data.toList.drop 48 = dktJ2_grow_2_2 := dk_seg dksJ2_grow_2_1 24 rfl rfl
theorem dJ2_grow_2_0 : decode cJ2_grow_2 0 = .ok (.aload_n 0, 1) := dk_42 (dk_at dksJ2_grow_2_0 0 rfl rfl)
theorem dJ2_grow_2_1 : decode cJ2_grow_2 1 = .ok (.getfield 9, 3) := dk_180 0 9 (dk_at dksJ2_grow_2_0 1 rfl rfl)
theorem dJ2_grow_2_4 : decode cJ2_grow_2 4 = .ok (.arraylength, 1) := dk_190 (dk_at dksJ2_grow_2_0 4 rfl rfl)
theorem dJ2_grow_2_5 : decode cJ2_grow_2 5 = .ok (.istore_n 2, 1) := dk_61 (dk_at dksJ2_grow_2_0 5 rfl rfl)
theorem dJ2_grow_2_6 : decode cJ2_grow_2 6 = .ok (.iload_n 2, 1) := dk_28 (dk_at dksJ2_grow_2_0 6 rfl rfl)
theorem dJ2_grow_2_7 : decode cJ2_grow_2 7 = .ok (.ifCond .gt 13, 3) := dk_157 0 13 (dk_at dksJ2_grow_2_0 7 rfl rfl)
theorem dJ2_grow_2_10 : decode cJ2_grow_2 10 = .ok (.aload_n 0, 1) := dk_42 (dk_at dksJ2_grow_2_0 10 rfl rfl)
theorem dJ2_grow_2_11 : decode cJ2_grow_2 11 = .ok (.getfield 9, 3) := dk_180 0 9 (dk_at dksJ2_grow_2_0 11 rfl rfl)
theorem dJ2_grow_2_14 : decode cJ2_grow_2 14 = .ok (.getstatic 39, 3) := dk_178 0 39 (dk_at dksJ2_grow_2_0 14 rfl rfl)
theorem dJ2_grow_2_17 : decode cJ2_grow_2 17 = .ok (.if_acmp .eq 28, 3) := dk_165 0 28 (dk_at dksJ2_grow_2_0 17 rfl rfl)
theorem dJ2_grow_2_20 : decode cJ2_grow_2 20 = .ok (.iload_n 2, 1) := dk_28 (dk_at dksJ2_grow_2_0 20 rfl rfl)
theorem dJ2_grow_2_21 : decode cJ2_grow_2 21 = .ok (.iload_n 1, 1) := dk_27 (dk_at dksJ2_grow_2_0 21 rfl rfl)
theorem dJ2_grow_2_22 : decode cJ2_grow_2 22 = .ok (.iload_n 2, 1) := dk_28 (dk_at dksJ2_grow_2_0 22 rfl rfl)
theorem dJ2_grow_2_23 : decode cJ2_grow_2 23 = .ok (.isub, 1) := dk_100 (dk_at dksJ2_grow_2_0 23 rfl rfl)
theorem dJ2_grow_2_24 : decode cJ2_grow_2 24 = .ok (.iload_n 2, 1) := dk_28 (dk_at dksJ2_grow_2_1 0 rfl rfl)
theorem dJ2_grow_2_25 : decode cJ2_grow_2 25 = .ok (.iconst 1, 1) := dk_4 (dk_at dksJ2_grow_2_1 1 rfl rfl)
theorem dJ2_grow_2_26 : decode cJ2_grow_2 26 = .ok (.ishr, 1) := dk_122 (dk_at dksJ2_grow_2_1 2 rfl rfl)
theorem dJ2_grow_2_27 : decode cJ2_grow_2 27 = .ok (.invokestatic 73, 3) := dk_184 0 73 (dk_at dksJ2_grow_2_1 3 rfl rfl)
theorem dJ2_grow_2_30 : decode cJ2_grow_2 30 = .ok (.istore_n 3, 1) := dk_62 (dk_at dksJ2_grow_2_1 6 rfl rfl)
theorem dJ2_grow_2_31 : decode cJ2_grow_2 31 = .ok (.aload_n 0, 1) := dk_42 (dk_at dksJ2_grow_2_1 7 rfl rfl)
theorem dJ2_grow_2_32 : decode cJ2_grow_2 32 = .ok (.aload_n 0, 1) := dk_42 (dk_at dksJ2_grow_2_1 8 rfl rfl)
theorem dJ2_grow_2_33 : decode cJ2_grow_2 33 = .ok (.getfield 9, 3) := dk_180 0 9 (dk_at dksJ2_grow_2_1 9 rfl rfl)
theorem dJ2_grow_2_36 : decode cJ2_grow_2 36 = .ok (.iload_n 3, 1) := dk_29 (dk_at dksJ2_grow_2_1 12 rfl rfl)
theorem dJ2_grow_2_37 : decode cJ2_grow_2 37 = .ok (.invokestatic 66, 3) := dk_184 0 66 (dk_at dksJ2_grow_2_1 13 rfl rfl)
theorem dJ2_grow_2_40 : decode cJ2_grow_2 40 = .ok (.dup_x1, 1) := dk_90 (dk_at dksJ2_grow_2_1 16 rfl rfl)
theorem dJ2_grow_2_41 : decode cJ2_grow_2 41 = .ok (.putfield 9, 3) := dk_181 0 9 (dk_at dksJ2_grow_2_1 17 rfl rfl)
theorem dJ2_grow_2_44 : decode cJ2_grow_2 44 = .ok (.areturn, 1) := dk_176 (dk_at dksJ2_grow_2_1 20 rfl rfl)
theorem dJ2_grow_2_45 : decode cJ2_grow_2 45 = .ok (.aload_n 0, 1) := dk_42 (dk_at dksJ2_grow_2_1 21 rfl rfl)
theorem dJ2_grow_2_46 : decode cJ2_grow_2 46 = .ok (.bipush 10, 2) := dk_16 10 (dk_at dksJ2_grow_2_1 22 rfl rfl)
theorem dJ2_grow_2_48 : decode cJ2_grow_2 48 = .ok (.iload_n 1, 1) := dk_27 (dk_at dksJ2_grow_2_2 0 rfl rfl)
theorem dJ2_grow_2_49 : decode cJ2_grow_2 49 = .ok (.invokestatic 79, 3) := dk_184 0 79 (dk_at dksJ2_grow_2_2 1 rfl rfl)
theorem dJ2_grow_2_52 : decode cJ2_grow_2 52 = .ok (.anewarray 7, 3) := dk_189 0 7 (dk_at dksJ2_grow_2_2 4 rfl rfl)
theorem dJ2_grow_2_55 : decode cJ2_grow_2 55 = .ok (.dup_x1, 1) := dk_90 (dk_at dksJ2_grow_2_2 7 rfl rfl)
theorem dJ2_grow_2_56 : decode cJ2_grow_2 56 = .ok (.putfield 9, 3) := dk_181 0 9 (dk_at dksJ2_grow_2_2 8 rfl rfl)
theorem dJ2_grow_2_59 : decode cJ2_grow_2 59 = .ok (.areturn, 1) := dk_176 (dk_at dksJ2_grow_2_2 11 rfl rfl)
abbrev cJ2_get : ByteArray := prog_30_method_20_code
def yJ2_get : MethodName := ⟨RJ2, "get", "(I)Ljava/lang/Object;"⟩
def dkwJ2_get_0 : List UInt8 := [27, 42, 180, 0, 48, 184, 0, 118, 87, 42, 27, 182, 0, 123, 176]
abbrev dktJ2_get_0 : List UInt8 := dkwJ2_get_0 ++ []
theorem dksJ2_get_0 : cJ2_get.data.toList.drop 0 = dktJ2_get_0 := by decide +kernel
theorem dJ2_get_0 : decode cJ2_get 0 = .ok (.iload_n 1, 1) := dk_27 (dk_at dksJ2_get_0 0 rfl rfl)
theorem dJ2_get_1 : decode cJ2_get 1 = .ok (.aload_n 0, 1) := dk_42 (dk_at dksJ2_get_0 1 rfl rfl)
theorem dJ2_get_2 : decode cJ2_get 2 = .ok (.getfield 48, 3) := dk_180 0 48 (dk_at dksJ2_get_0 2 rfl rfl)
theorem dJ2_get_5 : decode cJ2_get 5 = .ok (.invokestatic 118, 3) := dk_184 0 118 (dk_at dksJ2_get_0 5 rfl rfl)
theorem dJ2_get_8 : decode cJ2_get 8 = .ok (.pop, 1) := dk_87 (dk_at dksJ2_get_0 8 rfl rfl)
theorem dJ2_get_9 : decode cJ2_get 9 = .ok (.aload_n 0, 1) := dk_42 (dk_at dksJ2_get_0 9 rfl rfl)
theorem dJ2_get_10 : decode cJ2_get 10 = .ok (.iload_n 1, 1) := dk_27 (dk_at dksJ2_get_0 10 rfl rfl)
theorem dJ2_get_11 : decode cJ2_get 11 = .ok (.invokevirtual 123, 3) := dk_182 0 123 (dk_at dksJ2_get_0 11 rfl rfl)
theorem dJ2_get_14 : decode cJ2_get 14 = .ok (.areturn, 1) := dk_176 (dk_at dksJ2_get_0 14 rfl rfl)
abbrev cJ2_elementData : ByteArray := prog_30_method_18_code
def yJ2_elementData : MethodName := ⟨RJ2, "elementData", "(I)Ljava/lang/Object;"⟩
def dkwJ2_elementData_0 : List UInt8 := [42, 180, 0, 9, 27, 50, 176]
abbrev dktJ2_elementData_0 : List UInt8 := dkwJ2_elementData_0 ++ []
theorem dksJ2_elementData_0 : cJ2_elementData.data.toList.drop 0 = dktJ2_elementData_0 := by decide +kernel
theorem dJ2_elementData_0 : decode cJ2_elementData 0 = .ok (.aload_n 0, 1) := dk_42 (dk_at dksJ2_elementData_0 0 rfl rfl)
theorem dJ2_elementData_1 : decode cJ2_elementData 1 = .ok (.getfield 9, 3) := dk_180 0 9 (dk_at dksJ2_elementData_0 1 rfl rfl)
theorem dJ2_elementData_4 : decode cJ2_elementData 4 = .ok (.iload_n 1, 1) := dk_27 (dk_at dksJ2_elementData_0 4 rfl rfl)
theorem dJ2_elementData_5 : decode cJ2_elementData 5 = .ok (.aaload, 1) := dk_50 (dk_at dksJ2_elementData_0 5 rfl rfl)
theorem dJ2_elementData_6 : decode cJ2_elementData 6 = .ok (.areturn, 1) := dk_176 (dk_at dksJ2_elementData_0 6 rfl rfl)
theorem q51 : (Jvm.Cond.initialized "java/util/ArrayList") ∈ lw_all := lw_g (lw_at lw_m1 4 rfl) rfl
theorem q553 : (Jvm.Cond.instantiable "java/util/ArrayList" (3 : Nat)) ∈ lw_all := lw_g (lw_at lw_m3 26 rfl) rfl
theorem q555 : (Jvm.Cond.instanceMethod ({ cls := "java/util/ArrayList", name := "<init>", desc := "()V" } : Jvm.MethodName)) ∈ lw_all := lw_g (lw_at lw_m3 28 rfl) rfl
theorem q556 : (Jvm.Cond.code ({ cls := "java/util/ArrayList", name := "<init>", desc := "()V" } : Jvm.MethodName) prog_30_method_2_code (1 : Nat) (Option.none : Option Jvm.ClassFile.FieldType)) ∈ lw_all := lw_g (lw_at lw_m3 29 rfl) rfl
theorem q557 : (Jvm.Cond.methodLink "java/util/ArrayList" (1 : Nat) ({ cls := "java/util/AbstractList", name := "<init>", desc := "()V" } : Jvm.MethodName)) ∈ lw_all := lw_g (lw_at lw_m3 30 rfl) rfl
theorem q564 : (Jvm.Cond.fieldLink "java/util/ArrayList" (39 : Nat) "java/util/ArrayList" "DEFAULTCAPACITY_EMPTY_ELEMENTDATA" "[Ljava/lang/Object;") ∈ lw_all := lw_g (lw_at lw_m3 37 rfl) rfl
theorem q565 : (Jvm.Cond.laysStatic "java/util/ArrayList" "DEFAULTCAPACITY_EMPTY_ELEMENTDATA" "[Ljava/lang/Object;") ∈ lw_tbl := lw_at lw_m3 38 rfl
theorem q566 : (Jvm.Cond.fieldLink "java/util/ArrayList" (9 : Nat) "java/util/ArrayList" "elementData" "[Ljava/lang/Object;") ∈ lw_all := lw_g (lw_at lw_m3 39 rfl) rfl
theorem q567 : (Jvm.Cond.fieldLink "java/util/ArrayList" (48 : Nat) "java/util/ArrayList" "size" "I") ∈ lw_all := lw_g (lw_at lw_m3 40 rfl) rfl
theorem q569 : (Jvm.Cond.fieldLink "java/util/ArrayList" (63 : Nat) "java/util/ArrayList" "modCount" "I") ∈ lw_all := lw_g (lw_at lw_m3 42 rfl) rfl
theorem q570 : (Jvm.Cond.sameField "java/util/ArrayList" "java/util/AbstractList" "modCount" "I") ∈ lw_all := lw_g (lw_at lw_m3 43 rfl) rfl
theorem q571 : (Jvm.Cond.lays "java/util/ArrayList" "java/util/ArrayList" "elementData" "[Ljava/lang/Object;") ∈ lw_all := lw_g (lw_at lw_m3 44 rfl) rfl
theorem q572 : (Jvm.Cond.soleField "java/util/ArrayList" "elementData") ∈ lw_all := lw_g (lw_at lw_m3 45 rfl) rfl
theorem q573 : (Jvm.Cond.lays "java/util/ArrayList" "java/util/ArrayList" "size" "I") ∈ lw_all := lw_g (lw_at lw_m3 46 rfl) rfl
theorem q574 : (Jvm.Cond.soleField "java/util/ArrayList" "size") ∈ lw_all := lw_g (lw_at lw_m3 47 rfl) rfl
theorem q575 : (Jvm.Cond.lays "java/util/ArrayList" "java/util/AbstractList" "modCount" "I") ∈ lw_all := lw_g (lw_at lw_m3 48 rfl) rfl
theorem q577 : (Jvm.Cond.superclass "java/util/ArrayList" "java/util/AbstractList") ∈ lw_all := lw_g (lw_at lw_m3 50 rfl) rfl
theorem q589 : (Jvm.Cond.instanceMethod ({ cls := "java/util/ArrayList", name := "add", desc := "(Ljava/lang/Object;)Z" } : Jvm.MethodName)) ∈ lw_all := lw_g (lw_at lw_m3 62 rfl) rfl
theorem q590 : (Jvm.Cond.selects "java/util/ArrayList" ({ cls := "java/util/ArrayList", name := "add", desc := "(Ljava/lang/Object;)Z" } : Jvm.MethodName) ({ cls := "java/util/ArrayList", name := "add", desc := "(Ljava/lang/Object;)Z" } : Jvm.MethodName)) ∈ lw_all := lw_g (lw_at lw_m3 63 rfl) rfl
theorem q591 : (Jvm.Cond.code ({ cls := "java/util/ArrayList", name := "add", desc := "(Ljava/lang/Object;)Z" } : Jvm.MethodName) prog_30_method_25_code (2 : Nat) (Option.some Jvm.ClassFile.FieldType.boolean)) ∈ lw_all := lw_g (lw_at lw_m3 64 rfl) rfl
theorem q592 : (Jvm.Cond.methodLink "java/util/ArrayList" (131 : Nat) ({ cls := "java/util/ArrayList", name := "add", desc := "(Ljava/lang/Object;[Ljava/lang/Object;I)V" } : Jvm.MethodName)) ∈ lw_all := lw_g (lw_at lw_m3 65 rfl) rfl
theorem q593 : (Jvm.Cond.privateMethod ({ cls := "java/util/ArrayList", name := "add", desc := "(Ljava/lang/Object;[Ljava/lang/Object;I)V" } : Jvm.MethodName)) ∈ lw_tbl := lw_at lw_m3 66 rfl
theorem q594 : (Jvm.Cond.instanceMethod ({ cls := "java/util/ArrayList", name := "add", desc := "(Ljava/lang/Object;[Ljava/lang/Object;I)V" } : Jvm.MethodName)) ∈ lw_all := lw_g (lw_at lw_m3 67 rfl) rfl
theorem q595 : (Jvm.Cond.code ({ cls := "java/util/ArrayList", name := "add", desc := "(Ljava/lang/Object;[Ljava/lang/Object;I)V" } : Jvm.MethodName) prog_30_method_24_code (4 : Nat) (Option.none : Option Jvm.ClassFile.FieldType)) ∈ lw_all := lw_g (lw_at lw_m3 68 rfl) rfl
theorem q596 : (Jvm.Cond.methodLink "java/util/ArrayList" (129 : Nat) ({ cls := "java/util/ArrayList", name := "grow", desc := "()[Ljava/lang/Object;" } : Jvm.MethodName)) ∈ lw_all := lw_g (lw_at lw_m3 69 rfl) rfl
theorem q597 : (Jvm.Cond.privateMethod ({ cls := "java/util/ArrayList", name := "grow", desc := "()[Ljava/lang/Object;" } : Jvm.MethodName)) ∈ lw_tbl := lw_at lw_m3 70 rfl
theorem q598 : (Jvm.Cond.instanceMethod ({ cls := "java/util/ArrayList", name := "grow", desc := "()[Ljava/lang/Object;" } : Jvm.MethodName)) ∈ lw_all := lw_g (lw_at lw_m3 71 rfl) rfl
theorem q599 : (Jvm.Cond.code ({ cls := "java/util/ArrayList", name := "grow", desc := "()[Ljava/lang/Object;" } : Jvm.MethodName) prog_30_method_7_code (1 : Nat) (Option.some (Jvm.ClassFile.FieldType.array (Jvm.ClassFile.FieldType.object "java/lang/Object")))) ∈ lw_all := lw_g (lw_at lw_m3 72 rfl) rfl
theorem q600 : (Jvm.Cond.methodLink "java/util/ArrayList" (69 : Nat) ({ cls := "java/util/ArrayList", name := "grow", desc := "(I)[Ljava/lang/Object;" } : Jvm.MethodName)) ∈ lw_all := lw_g (lw_at lw_m3 73 rfl) rfl
theorem q601 : (Jvm.Cond.privateMethod ({ cls := "java/util/ArrayList", name := "grow", desc := "(I)[Ljava/lang/Object;" } : Jvm.MethodName)) ∈ lw_tbl := lw_at lw_m3 74 rfl
theorem q602 : (Jvm.Cond.instanceMethod ({ cls := "java/util/ArrayList", name := "grow", desc := "(I)[Ljava/lang/Object;" } : Jvm.MethodName)) ∈ lw_all := lw_g (lw_at lw_m3 75 rfl) rfl
theorem q603 : (Jvm.Cond.code ({ cls := "java/util/ArrayList", name := "grow", desc := "(I)[Ljava/lang/Object;" } : Jvm.MethodName) prog_30_method_6_code (4 : Nat) (Option.some (Jvm.ClassFile.FieldType.array (Jvm.ClassFile.FieldType.object "java/lang/Object")))) ∈ lw_all := lw_g (lw_at lw_m3 76 rfl) rfl
theorem q604 : (Jvm.Cond.methodLink "java/util/ArrayList" (73 : Nat) ({ cls := "jdk/internal/util/ArraysSupport", name := "newLength", desc := "(III)I" } : Jvm.MethodName)) ∈ lw_all := lw_g (lw_at lw_m3 77 rfl) rfl
theorem q614 : (Jvm.Cond.methodLink "java/util/ArrayList" (66 : Nat) ({ cls := "java/util/Arrays", name := "copyOf", desc := "([Ljava/lang/Object;I)[Ljava/lang/Object;" } : Jvm.MethodName)) ∈ lw_all := lw_g (lw_at lw_m3 87 rfl) rfl
theorem q635 : (Jvm.Cond.selects "java/util/ArrayList" ({ cls := "java/lang/Object", name := "getClass", desc := "()Ljava/lang/Class;" } : Jvm.MethodName) ({ cls := "java/lang/Object", name := "getClass", desc := "()Ljava/lang/Class;" } : Jvm.MethodName)) ∈ lw_all := lw_g (lw_at lw_m3 108 rfl) rfl
theorem q647 : (Jvm.Cond.methodLink "java/util/ArrayList" (79 : Nat) ({ cls := "java/lang/Math", name := "max", desc := "(II)I" } : Jvm.MethodName)) ∈ lw_all := lw_g (lw_at lw_m3 120 rfl) rfl
theorem q648 : (Jvm.Cond.classLink "java/util/ArrayList" (7 : Nat) "java/lang/Object") ∈ lw_all := lw_g (lw_at lw_m3 121 rfl) rfl
theorem q677 : (Jvm.Cond.instanceMethod ({ cls := "java/util/ArrayList", name := "get", desc := "(I)Ljava/lang/Object;" } : Jvm.MethodName)) ∈ lw_all := lw_g (lw_at lw_m3 150 rfl) rfl
theorem q678 : (Jvm.Cond.selects "java/util/ArrayList" ({ cls := "java/util/ArrayList", name := "get", desc := "(I)Ljava/lang/Object;" } : Jvm.MethodName) ({ cls := "java/util/ArrayList", name := "get", desc := "(I)Ljava/lang/Object;" } : Jvm.MethodName)) ∈ lw_all := lw_g (lw_at lw_m3 151 rfl) rfl
theorem q679 : (Jvm.Cond.code ({ cls := "java/util/ArrayList", name := "get", desc := "(I)Ljava/lang/Object;" } : Jvm.MethodName) prog_30_method_20_code (2 : Nat) (Option.some (Jvm.ClassFile.FieldType.object "java/lang/Object"))) ∈ lw_all := lw_g (lw_at lw_m3 152 rfl) rfl
theorem q680 : (Jvm.Cond.methodLink "java/util/ArrayList" (118 : Nat) ({ cls := "java/util/Objects", name := "checkIndex", desc := "(II)I" } : Jvm.MethodName)) ∈ lw_all := lw_g (lw_at lw_m3 153 rfl) rfl
theorem q686 : (Jvm.Cond.methodLink "java/util/ArrayList" (123 : Nat) ({ cls := "java/util/ArrayList", name := "elementData", desc := "(I)Ljava/lang/Object;" } : Jvm.MethodName)) ∈ lw_all := lw_g (lw_at lw_m3 159 rfl) rfl
theorem q687 : (Jvm.Cond.instanceMethod ({ cls := "java/util/ArrayList", name := "elementData", desc := "(I)Ljava/lang/Object;" } : Jvm.MethodName)) ∈ lw_all := lw_g (lw_at lw_m3 160 rfl) rfl
theorem q688 : (Jvm.Cond.selects "java/util/ArrayList" ({ cls := "java/util/ArrayList", name := "elementData", desc := "(I)Ljava/lang/Object;" } : Jvm.MethodName) ({ cls := "java/util/ArrayList", name := "elementData", desc := "(I)Ljava/lang/Object;" } : Jvm.MethodName)) ∈ lw_all := lw_g (lw_at lw_m3 161 rfl) rfl
theorem q689 : (Jvm.Cond.code ({ cls := "java/util/ArrayList", name := "elementData", desc := "(I)Ljava/lang/Object;" } : Jvm.MethodName) prog_30_method_18_code (2 : Nat) (Option.some (Jvm.ClassFile.FieldType.object "java/lang/Object"))) ∈ lw_all := lw_g (lw_at lw_m3 162 rfl) rfl
theorem q1430 : (Jvm.Cond.castable "java/util/ArrayList" "java/lang/Object") ∈ lw_tbl := lw_at lw_m6 183 rfl
theorem in_J2 : ∀ w ∈ wsJ20, w ∈ lw_all := lw_in wsJ20 [575, 571, 573] (by decide +kernel) (by decide +kernel)

/-! jdk/internal/util/ArraysSupport -/
set_option maxRecDepth 100000
def RJ3 : String := "jdk/internal/util/ArraysSupport"
abbrev cJ3_newLength : ByteArray := prog_37_method_27_code
def yJ3_newLength : MethodName := ⟨RJ3, "newLength", "(III)I"⟩
def dkwJ3_newLength_1 : List UInt8 := [184, 0, 201, 172]
abbrev dktJ3_newLength_1 : List UInt8 := dkwJ3_newLength_1 ++ []
def dkwJ3_newLength_0 : List UInt8 := [26, 27, 28, 184, 0, 194, 96, 62, 3, 29, 162, 0, 11, 29, 18, 200, 163, 0, 5, 29, 172, 26, 27]
abbrev dktJ3_newLength_0 : List UInt8 := dkwJ3_newLength_0 ++ dktJ3_newLength_1
theorem dksJ3_newLength_0 : cJ3_newLength.data.toList.drop 0 = dktJ3_newLength_0 := by decide +kernel
theorem dksJ3_newLength_1 : cJ3_newLength.data.toList.drop 23 = dktJ3_newLength_1 := dk_seg dksJ3_newLength_0 23 rfl rfl
theorem dJ3_newLength_0 : decode cJ3_newLength 0 = .ok (.iload_n 0, 1) := dk_26 (dk_at dksJ3_newLength_0 0 rfl rfl)
theorem dJ3_newLength_1 : decode cJ3_newLength 1 = .ok (.iload_n 1, 1) := dk_27 (dk_at dksJ3_newLength_0 1 rfl rfl)
theorem dJ3_newLength_2 : decode cJ3_newLength 2 = .ok (.iload_n 2, 1) := dk_28 (dk_at dksJ3_newLength_0 2 rfl rfl)
theorem dJ3_newLength_3 : decode cJ3_newLength 3 = .ok (.invokestatic 194, 3) := dk_184 0 194 (dk_at dksJ3_newLength_0 3 rfl rfl)
theorem dJ3_newLength_6 : decode cJ3_newLength 6 = .ok (.iadd, 1) := dk_96 (dk_at dksJ3_newLength_0 6 rfl rfl)
theorem dJ3_newLength_7 : decode cJ3_newLength 7 = .ok (.istore_n 3, 1) := dk_62 (dk_at dksJ3_newLength_0 7 rfl rfl)
theorem dJ3_newLength_8 : decode cJ3_newLength 8 = .ok (.iconst 0, 1) := dk_3 (dk_at dksJ3_newLength_0 8 rfl rfl)
theorem dJ3_newLength_9 : decode cJ3_newLength 9 = .ok (.iload_n 3, 1) := dk_29 (dk_at dksJ3_newLength_0 9 rfl rfl)
theorem dJ3_newLength_10 : decode cJ3_newLength 10 = .ok (.if_icmp .ge 11, 3) := dk_162 0 11 (dk_at dksJ3_newLength_0 10 rfl rfl)
theorem dJ3_newLength_13 : decode cJ3_newLength 13 = .ok (.iload_n 3, 1) := dk_29 (dk_at dksJ3_newLength_0 13 rfl rfl)
theorem dJ3_newLength_14 : decode cJ3_newLength 14 = .ok (.ldc 200, 2) := dk_18 200 (dk_at dksJ3_newLength_0 14 rfl rfl)
theorem dJ3_newLength_16 : decode cJ3_newLength 16 = .ok (.if_icmp .gt 5, 3) := dk_163 0 5 (dk_at dksJ3_newLength_0 16 rfl rfl)
theorem dJ3_newLength_19 : decode cJ3_newLength 19 = .ok (.iload_n 3, 1) := dk_29 (dk_at dksJ3_newLength_0 19 rfl rfl)
theorem dJ3_newLength_20 : decode cJ3_newLength 20 = .ok (.ireturn, 1) := dk_172 (dk_at dksJ3_newLength_0 20 rfl rfl)
theorem dJ3_newLength_21 : decode cJ3_newLength 21 = .ok (.iload_n 0, 1) := dk_26 (dk_at dksJ3_newLength_0 21 rfl rfl)
theorem dJ3_newLength_22 : decode cJ3_newLength 22 = .ok (.iload_n 1, 1) := dk_27 (dk_at dksJ3_newLength_0 22 rfl rfl)
theorem dJ3_newLength_23 : decode cJ3_newLength 23 = .ok (.invokestatic 201, 3) := dk_184 0 201 (dk_at dksJ3_newLength_1 0 rfl rfl)
theorem dJ3_newLength_26 : decode cJ3_newLength 26 = .ok (.ireturn, 1) := dk_172 (dk_at dksJ3_newLength_1 3 rfl rfl)
abbrev cJ3_hugeLength : ByteArray := prog_37_method_28_code
def yJ3_hugeLength : MethodName := ⟨RJ3, "hugeLength", "(II)I"⟩
def dkwJ3_hugeLength_2 : List UInt8 := [191, 28, 18, 200, 163, 0, 6, 18, 200, 172, 28, 172]
abbrev dktJ3_hugeLength_2 : List UInt8 := dkwJ3_hugeLength_2 ++ []
def dkwJ3_hugeLength_1 : List UInt8 := [26, 182, 0, 98, 18, 208, 182, 0, 94, 27, 182, 0, 98, 18, 210, 182, 0, 94, 182, 0, 101, 183, 0, 212]
abbrev dktJ3_hugeLength_1 : List UInt8 := dkwJ3_hugeLength_1 ++ dktJ3_hugeLength_2
def dkwJ3_hugeLength_0 : List UInt8 := [26, 27, 96, 61, 28, 156, 0, 44, 187, 0, 204, 89, 187, 0, 89, 89, 183, 0, 91, 18, 206, 182, 0, 94]
abbrev dktJ3_hugeLength_0 : List UInt8 := dkwJ3_hugeLength_0 ++ dktJ3_hugeLength_1
theorem dksJ3_hugeLength_0 : cJ3_hugeLength.data.toList.drop 0 = dktJ3_hugeLength_0 := by decide +kernel
theorem dksJ3_hugeLength_1 : cJ3_hugeLength.data.toList.drop 24 = dktJ3_hugeLength_1 := dk_seg dksJ3_hugeLength_0 24 rfl rfl
theorem dksJ3_hugeLength_2 : cJ3_hugeLength.data.toList.drop 48 = dktJ3_hugeLength_2 := dk_seg dksJ3_hugeLength_1 24 rfl rfl
theorem dJ3_hugeLength_0 : decode cJ3_hugeLength 0 = .ok (.iload_n 0, 1) := dk_26 (dk_at dksJ3_hugeLength_0 0 rfl rfl)
theorem dJ3_hugeLength_1 : decode cJ3_hugeLength 1 = .ok (.iload_n 1, 1) := dk_27 (dk_at dksJ3_hugeLength_0 1 rfl rfl)
theorem dJ3_hugeLength_2 : decode cJ3_hugeLength 2 = .ok (.iadd, 1) := dk_96 (dk_at dksJ3_hugeLength_0 2 rfl rfl)
theorem dJ3_hugeLength_3 : decode cJ3_hugeLength 3 = .ok (.istore_n 2, 1) := dk_61 (dk_at dksJ3_hugeLength_0 3 rfl rfl)
theorem dJ3_hugeLength_4 : decode cJ3_hugeLength 4 = .ok (.iload_n 2, 1) := dk_28 (dk_at dksJ3_hugeLength_0 4 rfl rfl)
theorem dJ3_hugeLength_5 : decode cJ3_hugeLength 5 = .ok (.ifCond .ge 44, 3) := dk_156 0 44 (dk_at dksJ3_hugeLength_0 5 rfl rfl)
theorem dJ3_hugeLength_8 : decode cJ3_hugeLength 8 = .ok (.new 204, 3) := dk_187 0 204 (dk_at dksJ3_hugeLength_0 8 rfl rfl)
theorem dJ3_hugeLength_11 : decode cJ3_hugeLength 11 = .ok (.dup, 1) := dk_89 (dk_at dksJ3_hugeLength_0 11 rfl rfl)
theorem dJ3_hugeLength_12 : decode cJ3_hugeLength 12 = .ok (.new 89, 3) := dk_187 0 89 (dk_at dksJ3_hugeLength_0 12 rfl rfl)
theorem dJ3_hugeLength_15 : decode cJ3_hugeLength 15 = .ok (.dup, 1) := dk_89 (dk_at dksJ3_hugeLength_0 15 rfl rfl)
theorem dJ3_hugeLength_16 : decode cJ3_hugeLength 16 = .ok (.invokespecial 91, 3) := dk_183 0 91 (dk_at dksJ3_hugeLength_0 16 rfl rfl)
theorem dJ3_hugeLength_19 : decode cJ3_hugeLength 19 = .ok (.ldc 206, 2) := dk_18 206 (dk_at dksJ3_hugeLength_0 19 rfl rfl)
theorem dJ3_hugeLength_21 : decode cJ3_hugeLength 21 = .ok (.invokevirtual 94, 3) := dk_182 0 94 (dk_at dksJ3_hugeLength_0 21 rfl rfl)
theorem dJ3_hugeLength_24 : decode cJ3_hugeLength 24 = .ok (.iload_n 0, 1) := dk_26 (dk_at dksJ3_hugeLength_1 0 rfl rfl)
theorem dJ3_hugeLength_25 : decode cJ3_hugeLength 25 = .ok (.invokevirtual 98, 3) := dk_182 0 98 (dk_at dksJ3_hugeLength_1 1 rfl rfl)
theorem dJ3_hugeLength_28 : decode cJ3_hugeLength 28 = .ok (.ldc 208, 2) := dk_18 208 (dk_at dksJ3_hugeLength_1 4 rfl rfl)
theorem dJ3_hugeLength_30 : decode cJ3_hugeLength 30 = .ok (.invokevirtual 94, 3) := dk_182 0 94 (dk_at dksJ3_hugeLength_1 6 rfl rfl)
theorem dJ3_hugeLength_33 : decode cJ3_hugeLength 33 = .ok (.iload_n 1, 1) := dk_27 (dk_at dksJ3_hugeLength_1 9 rfl rfl)
theorem dJ3_hugeLength_34 : decode cJ3_hugeLength 34 = .ok (.invokevirtual 98, 3) := dk_182 0 98 (dk_at dksJ3_hugeLength_1 10 rfl rfl)
theorem dJ3_hugeLength_37 : decode cJ3_hugeLength 37 = .ok (.ldc 210, 2) := dk_18 210 (dk_at dksJ3_hugeLength_1 13 rfl rfl)
theorem dJ3_hugeLength_39 : decode cJ3_hugeLength 39 = .ok (.invokevirtual 94, 3) := dk_182 0 94 (dk_at dksJ3_hugeLength_1 15 rfl rfl)
theorem dJ3_hugeLength_42 : decode cJ3_hugeLength 42 = .ok (.invokevirtual 101, 3) := dk_182 0 101 (dk_at dksJ3_hugeLength_1 18 rfl rfl)
theorem dJ3_hugeLength_45 : decode cJ3_hugeLength 45 = .ok (.invokespecial 212, 3) := dk_183 0 212 (dk_at dksJ3_hugeLength_1 21 rfl rfl)
theorem dJ3_hugeLength_48 : decode cJ3_hugeLength 48 = .ok (.athrow, 1) := dk_191 (dk_at dksJ3_hugeLength_2 0 rfl rfl)
theorem dJ3_hugeLength_49 : decode cJ3_hugeLength 49 = .ok (.iload_n 2, 1) := dk_28 (dk_at dksJ3_hugeLength_2 1 rfl rfl)
theorem dJ3_hugeLength_50 : decode cJ3_hugeLength 50 = .ok (.ldc 200, 2) := dk_18 200 (dk_at dksJ3_hugeLength_2 2 rfl rfl)
theorem dJ3_hugeLength_52 : decode cJ3_hugeLength 52 = .ok (.if_icmp .gt 6, 3) := dk_163 0 6 (dk_at dksJ3_hugeLength_2 4 rfl rfl)
theorem dJ3_hugeLength_55 : decode cJ3_hugeLength 55 = .ok (.ldc 200, 2) := dk_18 200 (dk_at dksJ3_hugeLength_2 7 rfl rfl)
theorem dJ3_hugeLength_57 : decode cJ3_hugeLength 57 = .ok (.ireturn, 1) := dk_172 (dk_at dksJ3_hugeLength_2 9 rfl rfl)
theorem dJ3_hugeLength_58 : decode cJ3_hugeLength 58 = .ok (.iload_n 2, 1) := dk_28 (dk_at dksJ3_hugeLength_2 10 rfl rfl)
theorem dJ3_hugeLength_59 : decode cJ3_hugeLength 59 = .ok (.ireturn, 1) := dk_172 (dk_at dksJ3_hugeLength_2 11 rfl rfl)
theorem q53 : (Jvm.Cond.initialized "jdk/internal/util/ArraysSupport") ∈ lw_all := lw_g (lw_at lw_m1 6 rfl) rfl
theorem q605 : (Jvm.Cond.static ({ cls := "jdk/internal/util/ArraysSupport", name := "newLength", desc := "(III)I" } : Jvm.MethodName)) ∈ lw_all := lw_g (lw_at lw_m3 78 rfl) rfl
theorem q606 : (Jvm.Cond.code ({ cls := "jdk/internal/util/ArraysSupport", name := "newLength", desc := "(III)I" } : Jvm.MethodName) prog_37_method_27_code (4 : Nat) (Option.some Jvm.ClassFile.FieldType.int)) ∈ lw_all := lw_g (lw_at lw_m3 79 rfl) rfl
theorem q607 : (Jvm.Cond.methodLink "jdk/internal/util/ArraysSupport" (194 : Nat) ({ cls := "java/lang/Math", name := "max", desc := "(II)I" } : Jvm.MethodName)) ∈ lw_all := lw_g (lw_at lw_m3 80 rfl) rfl
theorem q610 : (Jvm.Cond.constant "jdk/internal/util/ArraysSupport" (200 : Nat) (2147483639 : Int32)) ∈ lw_all := lw_g (lw_at lw_m3 83 rfl) rfl
theorem q611 : (Jvm.Cond.methodLink "jdk/internal/util/ArraysSupport" (201 : Nat) ({ cls := "jdk/internal/util/ArraysSupport", name := "hugeLength", desc := "(II)I" } : Jvm.MethodName)) ∈ lw_all := lw_g (lw_at lw_m3 84 rfl) rfl
theorem q612 : (Jvm.Cond.static ({ cls := "jdk/internal/util/ArraysSupport", name := "hugeLength", desc := "(II)I" } : Jvm.MethodName)) ∈ lw_all := lw_g (lw_at lw_m3 85 rfl) rfl
theorem q613 : (Jvm.Cond.code ({ cls := "jdk/internal/util/ArraysSupport", name := "hugeLength", desc := "(II)I" } : Jvm.MethodName) prog_37_method_28_code (3 : Nat) (Option.some Jvm.ClassFile.FieldType.int)) ∈ lw_all := lw_g (lw_at lw_m3 86 rfl) rfl

/-! java/lang/Math -/
set_option maxRecDepth 100000
def RJ4 : String := "java/lang/Math"
abbrev cJ4_max : ByteArray := prog_21_method_65_code
def yJ4_max : MethodName := ⟨RJ4, "max", "(II)I"⟩
def dkwJ4_max_0 : List UInt8 := [26, 27, 161, 0, 7, 26, 167, 0, 4, 27, 172]
abbrev dktJ4_max_0 : List UInt8 := dkwJ4_max_0 ++ []
theorem dksJ4_max_0 : cJ4_max.data.toList.drop 0 = dktJ4_max_0 := by decide +kernel
theorem dJ4_max_0 : decode cJ4_max 0 = .ok (.iload_n 0, 1) := dk_26 (dk_at dksJ4_max_0 0 rfl rfl)
theorem dJ4_max_1 : decode cJ4_max 1 = .ok (.iload_n 1, 1) := dk_27 (dk_at dksJ4_max_0 1 rfl rfl)
theorem dJ4_max_2 : decode cJ4_max 2 = .ok (.if_icmp .lt 7, 3) := dk_161 0 7 (dk_at dksJ4_max_0 2 rfl rfl)
theorem dJ4_max_5 : decode cJ4_max 5 = .ok (.iload_n 0, 1) := dk_26 (dk_at dksJ4_max_0 5 rfl rfl)
theorem dJ4_max_6 : decode cJ4_max 6 = .ok (.goto 4, 3) := dk_167 0 4 (dk_at dksJ4_max_0 6 rfl rfl)
theorem dJ4_max_9 : decode cJ4_max 9 = .ok (.iload_n 1, 1) := dk_27 (dk_at dksJ4_max_0 9 rfl rfl)
theorem dJ4_max_10 : decode cJ4_max 10 = .ok (.ireturn, 1) := dk_172 (dk_at dksJ4_max_0 10 rfl rfl)
abbrev cJ4_min : ByteArray := prog_21_method_69_code
def yJ4_min : MethodName := ⟨RJ4, "min", "(II)I"⟩
def dkwJ4_min_0 : List UInt8 := [26, 27, 163, 0, 7, 26, 167, 0, 4, 27, 172]
abbrev dktJ4_min_0 : List UInt8 := dkwJ4_min_0 ++ []
theorem dksJ4_min_0 : cJ4_min.data.toList.drop 0 = dktJ4_min_0 := by decide +kernel
theorem dJ4_min_0 : decode cJ4_min 0 = .ok (.iload_n 0, 1) := dk_26 (dk_at dksJ4_min_0 0 rfl rfl)
theorem dJ4_min_1 : decode cJ4_min 1 = .ok (.iload_n 1, 1) := dk_27 (dk_at dksJ4_min_0 1 rfl rfl)
theorem dJ4_min_2 : decode cJ4_min 2 = .ok (.if_icmp .gt 7, 3) := dk_163 0 7 (dk_at dksJ4_min_0 2 rfl rfl)
theorem dJ4_min_5 : decode cJ4_min 5 = .ok (.iload_n 0, 1) := dk_26 (dk_at dksJ4_min_0 5 rfl rfl)
theorem dJ4_min_6 : decode cJ4_min 6 = .ok (.goto 4, 3) := dk_167 0 4 (dk_at dksJ4_min_0 6 rfl rfl)
theorem dJ4_min_9 : decode cJ4_min 9 = .ok (.iload_n 1, 1) := dk_27 (dk_at dksJ4_min_0 9 rfl rfl)
theorem dJ4_min_10 : decode cJ4_min 10 = .ok (.ireturn, 1) := dk_172 (dk_at dksJ4_min_0 10 rfl rfl)
theorem q54 : (Jvm.Cond.initialized "java/lang/Math") ∈ lw_all := lw_g (lw_at lw_m1 7 rfl) rfl
theorem q608 : (Jvm.Cond.static ({ cls := "java/lang/Math", name := "max", desc := "(II)I" } : Jvm.MethodName)) ∈ lw_all := lw_g (lw_at lw_m3 81 rfl) rfl
theorem q609 : (Jvm.Cond.code ({ cls := "java/lang/Math", name := "max", desc := "(II)I" } : Jvm.MethodName) prog_21_method_65_code (2 : Nat) (Option.some Jvm.ClassFile.FieldType.int)) ∈ lw_all := lw_g (lw_at lw_m3 82 rfl) rfl
theorem q644 : (Jvm.Cond.static ({ cls := "java/lang/Math", name := "min", desc := "(II)I" } : Jvm.MethodName)) ∈ lw_all := lw_g (lw_at lw_m3 117 rfl) rfl
theorem q645 : (Jvm.Cond.code ({ cls := "java/lang/Math", name := "min", desc := "(II)I" } : Jvm.MethodName) prog_21_method_69_code (2 : Nat) (Option.some Jvm.ClassFile.FieldType.int)) ∈ lw_all := lw_g (lw_at lw_m3 118 rfl) rfl

/-! java/util/Arrays -/
set_option maxRecDepth 100000
def RJ5 : String := "java/util/Arrays"
abbrev cJ5_copyOf : ByteArray := prog_31_method_119_code
def yJ5_copyOf : MethodName := ⟨RJ5, "copyOf", "([Ljava/lang/Object;I)[Ljava/lang/Object;"⟩
def dkwJ5_copyOf_0 : List UInt8 := [42, 27, 42, 182, 0, 86, 184, 1, 44, 176]
abbrev dktJ5_copyOf_0 : List UInt8 := dkwJ5_copyOf_0 ++ []
theorem dksJ5_copyOf_0 : cJ5_copyOf.data.toList.drop 0 = dktJ5_copyOf_0 := by decide +kernel
theorem dJ5_copyOf_0 : decode cJ5_copyOf 0 = .ok (.aload_n 0, 1) := dk_42 (dk_at dksJ5_copyOf_0 0 rfl rfl)
theorem dJ5_copyOf_1 : decode cJ5_copyOf 1 = .ok (.iload_n 1, 1) := dk_27 (dk_at dksJ5_copyOf_0 1 rfl rfl)
theorem dJ5_copyOf_2 : decode cJ5_copyOf 2 = .ok (.aload_n 0, 1) := dk_42 (dk_at dksJ5_copyOf_0 2 rfl rfl)
theorem dJ5_copyOf_3 : decode cJ5_copyOf 3 = .ok (.invokevirtual 86, 3) := dk_182 0 86 (dk_at dksJ5_copyOf_0 3 rfl rfl)
theorem dJ5_copyOf_6 : decode cJ5_copyOf 6 = .ok (.invokestatic 300, 3) := dk_184 1 44 (dk_at dksJ5_copyOf_0 6 rfl rfl)
theorem dJ5_copyOf_9 : decode cJ5_copyOf 9 = .ok (.areturn, 1) := dk_176 (dk_at dksJ5_copyOf_0 9 rfl rfl)
abbrev cJ5_copyOf_2 : ByteArray := prog_31_method_120_code
def yJ5_copyOf_2 : MethodName := ⟨RJ5, "copyOf", "([Ljava/lang/Object;ILjava/lang/Class;)[Ljava/lang/Object;"⟩
def dkwJ5_copyOf_2_1 : List UInt8 := [78, 42, 3, 45, 3, 42, 190, 27, 184, 1, 48, 184, 0, 150, 45, 176]
abbrev dktJ5_copyOf_2_1 : List UInt8 := dkwJ5_copyOf_2_1 ++ []
def dkwJ5_copyOf_2_0 : List UInt8 := [44, 18, 110, 166, 0, 10, 27, 189, 0, 2, 167, 0, 14, 44, 182, 0, 90, 27, 184, 0, 95, 192, 0, 110]
abbrev dktJ5_copyOf_2_0 : List UInt8 := dkwJ5_copyOf_2_0 ++ dktJ5_copyOf_2_1
theorem dksJ5_copyOf_2_0 : cJ5_copyOf_2.data.toList.drop 0 = dktJ5_copyOf_2_0 := by decide +kernel
theorem dksJ5_copyOf_2_1 : cJ5_copyOf_2.data.toList.drop 24 = dktJ5_copyOf_2_1 := dk_seg dksJ5_copyOf_2_0 24 rfl rfl
theorem dJ5_copyOf_2_0 : decode cJ5_copyOf_2 0 = .ok (.aload_n 2, 1) := dk_44 (dk_at dksJ5_copyOf_2_0 0 rfl rfl)
theorem dJ5_copyOf_2_1 : decode cJ5_copyOf_2 1 = .ok (.ldc 110, 2) := dk_18 110 (dk_at dksJ5_copyOf_2_0 1 rfl rfl)
theorem dJ5_copyOf_2_3 : decode cJ5_copyOf_2 3 = .ok (.if_acmp .ne 10, 3) := dk_166 0 10 (dk_at dksJ5_copyOf_2_0 3 rfl rfl)
theorem dJ5_copyOf_2_6 : decode cJ5_copyOf_2 6 = .ok (.iload_n 1, 1) := dk_27 (dk_at dksJ5_copyOf_2_0 6 rfl rfl)
theorem dJ5_copyOf_2_7 : decode cJ5_copyOf_2 7 = .ok (.anewarray 2, 3) := dk_189 0 2 (dk_at dksJ5_copyOf_2_0 7 rfl rfl)
theorem dJ5_copyOf_2_10 : decode cJ5_copyOf_2 10 = .ok (.goto 14, 3) := dk_167 0 14 (dk_at dksJ5_copyOf_2_0 10 rfl rfl)
theorem dJ5_copyOf_2_13 : decode cJ5_copyOf_2 13 = .ok (.aload_n 2, 1) := dk_44 (dk_at dksJ5_copyOf_2_0 13 rfl rfl)
theorem dJ5_copyOf_2_14 : decode cJ5_copyOf_2 14 = .ok (.invokevirtual 90, 3) := dk_182 0 90 (dk_at dksJ5_copyOf_2_0 14 rfl rfl)
theorem dJ5_copyOf_2_17 : decode cJ5_copyOf_2 17 = .ok (.iload_n 1, 1) := dk_27 (dk_at dksJ5_copyOf_2_0 17 rfl rfl)
theorem dJ5_copyOf_2_18 : decode cJ5_copyOf_2 18 = .ok (.invokestatic 95, 3) := dk_184 0 95 (dk_at dksJ5_copyOf_2_0 18 rfl rfl)
theorem dJ5_copyOf_2_21 : decode cJ5_copyOf_2 21 = .ok (.checkcast 110, 3) := dk_192 0 110 (dk_at dksJ5_copyOf_2_0 21 rfl rfl)
theorem dJ5_copyOf_2_24 : decode cJ5_copyOf_2 24 = .ok (.astore_n 3, 1) := dk_78 (dk_at dksJ5_copyOf_2_1 0 rfl rfl)
theorem dJ5_copyOf_2_25 : decode cJ5_copyOf_2 25 = .ok (.aload_n 0, 1) := dk_42 (dk_at dksJ5_copyOf_2_1 1 rfl rfl)
theorem dJ5_copyOf_2_26 : decode cJ5_copyOf_2 26 = .ok (.iconst 0, 1) := dk_3 (dk_at dksJ5_copyOf_2_1 2 rfl rfl)
theorem dJ5_copyOf_2_27 : decode cJ5_copyOf_2 27 = .ok (.aload_n 3, 1) := dk_45 (dk_at dksJ5_copyOf_2_1 3 rfl rfl)
theorem dJ5_copyOf_2_28 : decode cJ5_copyOf_2 28 = .ok (.iconst 0, 1) := dk_3 (dk_at dksJ5_copyOf_2_1 4 rfl rfl)
theorem dJ5_copyOf_2_29 : decode cJ5_copyOf_2 29 = .ok (.aload_n 0, 1) := dk_42 (dk_at dksJ5_copyOf_2_1 5 rfl rfl)
theorem dJ5_copyOf_2_30 : decode cJ5_copyOf_2 30 = .ok (.arraylength, 1) := dk_190 (dk_at dksJ5_copyOf_2_1 6 rfl rfl)
theorem dJ5_copyOf_2_31 : decode cJ5_copyOf_2 31 = .ok (.iload_n 1, 1) := dk_27 (dk_at dksJ5_copyOf_2_1 7 rfl rfl)
theorem dJ5_copyOf_2_32 : decode cJ5_copyOf_2 32 = .ok (.invokestatic 304, 3) := dk_184 1 48 (dk_at dksJ5_copyOf_2_1 8 rfl rfl)
theorem dJ5_copyOf_2_35 : decode cJ5_copyOf_2 35 = .ok (.invokestatic 150, 3) := dk_184 0 150 (dk_at dksJ5_copyOf_2_1 11 rfl rfl)
theorem dJ5_copyOf_2_38 : decode cJ5_copyOf_2 38 = .ok (.aload_n 3, 1) := dk_45 (dk_at dksJ5_copyOf_2_1 14 rfl rfl)
theorem dJ5_copyOf_2_39 : decode cJ5_copyOf_2 39 = .ok (.areturn, 1) := dk_176 (dk_at dksJ5_copyOf_2_1 15 rfl rfl)
theorem q55 : (Jvm.Cond.initialized "java/util/Arrays") ∈ lw_all := lw_g (lw_at lw_m1 8 rfl) rfl
theorem q615 : (Jvm.Cond.static ({ cls := "java/util/Arrays", name := "copyOf", desc := "([Ljava/lang/Object;I)[Ljava/lang/Object;" } : Jvm.MethodName)) ∈ lw_all := lw_g (lw_at lw_m3 88 rfl) rfl
theorem q616 : (Jvm.Cond.code ({ cls := "java/util/Arrays", name := "copyOf", desc := "([Ljava/lang/Object;I)[Ljava/lang/Object;" } : Jvm.MethodName) prog_31_method_119_code (2 : Nat) (Option.some (Jvm.ClassFile.FieldType.array (Jvm.ClassFile.FieldType.object "java/lang/Object")))) ∈ lw_all := lw_g (lw_at lw_m3 89 rfl) rfl
theorem q617 : (Jvm.Cond.methodLink "java/util/Arrays" (86 : Nat) ({ cls := "java/lang/Object", name := "getClass", desc := "()Ljava/lang/Class;" } : Jvm.MethodName)) ∈ lw_all := lw_g (lw_at lw_m3 90 rfl) rfl
theorem q637 : (Jvm.Cond.methodLink "java/util/Arrays" (300 : Nat) ({ cls := "java/util/Arrays", name := "copyOf", desc := "([Ljava/lang/Object;ILjava/lang/Class;)[Ljava/lang/Object;" } : Jvm.MethodName)) ∈ lw_all := lw_g (lw_at lw_m3 110 rfl) rfl
theorem q638 : (Jvm.Cond.static ({ cls := "java/util/Arrays", name := "copyOf", desc := "([Ljava/lang/Object;ILjava/lang/Class;)[Ljava/lang/Object;" } : Jvm.MethodName)) ∈ lw_all := lw_g (lw_at lw_m3 111 rfl) rfl
theorem q639 : (Jvm.Cond.code ({ cls := "java/util/Arrays", name := "copyOf", desc := "([Ljava/lang/Object;ILjava/lang/Class;)[Ljava/lang/Object;" } : Jvm.MethodName) prog_31_method_120_code (4 : Nat) (Option.some (Jvm.ClassFile.FieldType.array (Jvm.ClassFile.FieldType.object "java/lang/Object")))) ∈ lw_all := lw_g (lw_at lw_m3 112 rfl) rfl
theorem q640 : (Jvm.Cond.classLink "java/util/Arrays" (110 : Nat) "[Ljava/lang/Object;") ∈ lw_all := lw_g (lw_at lw_m3 113 rfl) rfl
theorem q642 : (Jvm.Cond.classLink "java/util/Arrays" (2 : Nat) "java/lang/Object") ∈ lw_all := lw_g (lw_at lw_m3 115 rfl) rfl
theorem q643 : (Jvm.Cond.methodLink "java/util/Arrays" (304 : Nat) ({ cls := "java/lang/Math", name := "min", desc := "(II)I" } : Jvm.MethodName)) ∈ lw_all := lw_g (lw_at lw_m3 116 rfl) rfl
theorem q646 : (Jvm.Cond.methodLink "java/util/Arrays" (150 : Nat) ({ cls := "java/lang/System", name := "arraycopy", desc := "(Ljava/lang/Object;ILjava/lang/Object;II)V" } : Jvm.MethodName)) ∈ lw_all := lw_g (lw_at lw_m3 119 rfl) rfl

/-! java/lang/Throwable -/
set_option maxRecDepth 100000
def RJ6 : String := "java/lang/Throwable"
def TJ6 : u_T := fun k => match k with
  | 0 => ("java/lang/Throwable", "cause", "Ljava/lang/Throwable;", false)
  | 1 => ("java/lang/Throwable", "stackTrace", "[Ljava/lang/StackTraceElement;", false)
  | 2 => ("java/lang/Throwable", "suppressedExceptions", "Ljava/util/List;", false)
  | 3 => ("java/lang/Throwable", "detailMessage", "Ljava/lang/String;", false)
  | _ => ("java/lang/Throwable", "backtrace", "Ljava/lang/Object;", false)
def tyJ6 : Nat → FieldType := fun k => match k with
  | 0 => .object "java/lang/Throwable"
  | 1 => .array (.object "java/lang/StackTraceElement")
  | 2 => .object "java/util/List"
  | 3 => .object "java/lang/String"
  | _ => .object "java/lang/Object"
abbrev wsJ60 : List Cond := u_ws RJ6 TJ6 5
theorem nmJ6 : ∀ a, a < 5 → ∀ b, b < 5 → a ≠ b → (TJ6 a).2.1 ≠ (TJ6 b).2.1 := by decide +kernel
theorem tyJ6_ok : ∀ k, k < 5 → parseFieldDescriptor (TJ6 k).2.2.1 = some (tyJ6 k) := by decide +kernel
abbrev cJ6_init : ByteArray := prog_27_method_2_code
def yJ6_init : MethodName := ⟨RJ6, "<init>", "(Ljava/lang/String;)V"⟩
def dkwJ6_init_1 : List UInt8 := [182, 0, 27, 87, 42, 43, 181, 0, 31, 177]
abbrev dktJ6_init_1 : List UInt8 := dkwJ6_init_1 ++ []
def dkwJ6_init_0 : List UInt8 := [42, 183, 0, 1, 42, 42, 181, 0, 7, 42, 178, 0, 13, 181, 0, 17, 42, 178, 0, 20, 181, 0, 24, 42]
abbrev dktJ6_init_0 : List UInt8 := dkwJ6_init_0 ++ dktJ6_init_1
theorem dksJ6_init_0 : cJ6_init.data.toList.drop 0 = dktJ6_init_0 := by decide +kernel
theorem dksJ6_init_1 : cJ6_init.data.toList.drop 24 = dktJ6_init_1 := dk_seg dksJ6_init_0 24 rfl rfl
theorem dJ6_init_0 : decode cJ6_init 0 = .ok (.aload_n 0, 1) := dk_42 (dk_at dksJ6_init_0 0 rfl rfl)
theorem dJ6_init_1 : decode cJ6_init 1 = .ok (.invokespecial 1, 3) := dk_183 0 1 (dk_at dksJ6_init_0 1 rfl rfl)
theorem dJ6_init_4 : decode cJ6_init 4 = .ok (.aload_n 0, 1) := dk_42 (dk_at dksJ6_init_0 4 rfl rfl)
theorem dJ6_init_5 : decode cJ6_init 5 = .ok (.aload_n 0, 1) := dk_42 (dk_at dksJ6_init_0 5 rfl rfl)
theorem dJ6_init_6 : decode cJ6_init 6 = .ok (.putfield 7, 3) := dk_181 0 7 (dk_at dksJ6_init_0 6 rfl rfl)
theorem dJ6_init_9 : decode cJ6_init 9 = .ok (.aload_n 0, 1) := dk_42 (dk_at dksJ6_init_0 9 rfl rfl)
theorem dJ6_init_10 : decode cJ6_init 10 = .ok (.getstatic 13, 3) := dk_178 0 13 (dk_at dksJ6_init_0 10 rfl rfl)
theorem dJ6_init_13 : decode cJ6_init 13 = .ok (.putfield 17, 3) := dk_181 0 17 (dk_at dksJ6_init_0 13 rfl rfl)
theorem dJ6_init_16 : decode cJ6_init 16 = .ok (.aload_n 0, 1) := dk_42 (dk_at dksJ6_init_0 16 rfl rfl)
theorem dJ6_init_17 : decode cJ6_init 17 = .ok (.getstatic 20, 3) := dk_178 0 20 (dk_at dksJ6_init_0 17 rfl rfl)
theorem dJ6_init_20 : decode cJ6_init 20 = .ok (.putfield 24, 3) := dk_181 0 24 (dk_at dksJ6_init_0 20 rfl rfl)
theorem dJ6_init_23 : decode cJ6_init 23 = .ok (.aload_n 0, 1) := dk_42 (dk_at dksJ6_init_0 23 rfl rfl)
theorem dJ6_init_24 : decode cJ6_init 24 = .ok (.invokevirtual 27, 3) := dk_182 0 27 (dk_at dksJ6_init_1 0 rfl rfl)
theorem dJ6_init_27 : decode cJ6_init 27 = .ok (.pop, 1) := dk_87 (dk_at dksJ6_init_1 3 rfl rfl)
theorem dJ6_init_28 : decode cJ6_init 28 = .ok (.aload_n 0, 1) := dk_42 (dk_at dksJ6_init_1 4 rfl rfl)
theorem dJ6_init_29 : decode cJ6_init 29 = .ok (.aload_n 1, 1) := dk_43 (dk_at dksJ6_init_1 5 rfl rfl)
theorem dJ6_init_30 : decode cJ6_init 30 = .ok (.putfield 31, 3) := dk_181 0 31 (dk_at dksJ6_init_1 6 rfl rfl)
theorem dJ6_init_33 : decode cJ6_init 33 = .ok (.return_, 1) := dk_177 (dk_at dksJ6_init_1 9 rfl rfl)
abbrev cJ6_init_2 : ByteArray := prog_27_method_1_code
def yJ6_init_2 : MethodName := ⟨RJ6, "<init>", "()V"⟩
def dkwJ6_init_2_1 : List UInt8 := [182, 0, 27, 87, 177]
abbrev dktJ6_init_2_1 : List UInt8 := dkwJ6_init_2_1 ++ []
def dkwJ6_init_2_0 : List UInt8 := [42, 183, 0, 1, 42, 42, 181, 0, 7, 42, 178, 0, 13, 181, 0, 17, 42, 178, 0, 20, 181, 0, 24, 42]
abbrev dktJ6_init_2_0 : List UInt8 := dkwJ6_init_2_0 ++ dktJ6_init_2_1
theorem dksJ6_init_2_0 : cJ6_init_2.data.toList.drop 0 = dktJ6_init_2_0 := by decide +kernel
theorem dksJ6_init_2_1 : cJ6_init_2.data.toList.drop 24 = dktJ6_init_2_1 := dk_seg dksJ6_init_2_0 24 rfl rfl
theorem dJ6_init_2_0 : decode cJ6_init_2 0 = .ok (.aload_n 0, 1) := dk_42 (dk_at dksJ6_init_2_0 0 rfl rfl)
theorem dJ6_init_2_1 : decode cJ6_init_2 1 = .ok (.invokespecial 1, 3) := dk_183 0 1 (dk_at dksJ6_init_2_0 1 rfl rfl)
theorem dJ6_init_2_4 : decode cJ6_init_2 4 = .ok (.aload_n 0, 1) := dk_42 (dk_at dksJ6_init_2_0 4 rfl rfl)
theorem dJ6_init_2_5 : decode cJ6_init_2 5 = .ok (.aload_n 0, 1) := dk_42 (dk_at dksJ6_init_2_0 5 rfl rfl)
theorem dJ6_init_2_6 : decode cJ6_init_2 6 = .ok (.putfield 7, 3) := dk_181 0 7 (dk_at dksJ6_init_2_0 6 rfl rfl)
theorem dJ6_init_2_9 : decode cJ6_init_2 9 = .ok (.aload_n 0, 1) := dk_42 (dk_at dksJ6_init_2_0 9 rfl rfl)
theorem dJ6_init_2_10 : decode cJ6_init_2 10 = .ok (.getstatic 13, 3) := dk_178 0 13 (dk_at dksJ6_init_2_0 10 rfl rfl)
theorem dJ6_init_2_13 : decode cJ6_init_2 13 = .ok (.putfield 17, 3) := dk_181 0 17 (dk_at dksJ6_init_2_0 13 rfl rfl)
theorem dJ6_init_2_16 : decode cJ6_init_2 16 = .ok (.aload_n 0, 1) := dk_42 (dk_at dksJ6_init_2_0 16 rfl rfl)
theorem dJ6_init_2_17 : decode cJ6_init_2 17 = .ok (.getstatic 20, 3) := dk_178 0 20 (dk_at dksJ6_init_2_0 17 rfl rfl)
theorem dJ6_init_2_20 : decode cJ6_init_2 20 = .ok (.putfield 24, 3) := dk_181 0 24 (dk_at dksJ6_init_2_0 20 rfl rfl)
theorem dJ6_init_2_23 : decode cJ6_init_2 23 = .ok (.aload_n 0, 1) := dk_42 (dk_at dksJ6_init_2_0 23 rfl rfl)
theorem dJ6_init_2_24 : decode cJ6_init_2 24 = .ok (.invokevirtual 27, 3) := dk_182 0 27 (dk_at dksJ6_init_2_1 0 rfl rfl)
theorem dJ6_init_2_27 : decode cJ6_init_2 27 = .ok (.pop, 1) := dk_87 (dk_at dksJ6_init_2_1 3 rfl rfl)
theorem dJ6_init_2_28 : decode cJ6_init_2 28 = .ok (.return_, 1) := dk_177 (dk_at dksJ6_init_2_1 4 rfl rfl)
theorem q64 : (Jvm.Cond.initialized "java/lang/Throwable") ∈ lw_all := lw_g (lw_at lw_m1 17 rfl) rfl
theorem q742 : (Jvm.Cond.instanceMethod ({ cls := "java/lang/Throwable", name := "<init>", desc := "(Ljava/lang/String;)V" } : Jvm.MethodName)) ∈ lw_all := lw_g (lw_at lw_m3 215 rfl) rfl
theorem q743 : (Jvm.Cond.code ({ cls := "java/lang/Throwable", name := "<init>", desc := "(Ljava/lang/String;)V" } : Jvm.MethodName) prog_27_method_2_code (2 : Nat) (Option.none : Option Jvm.ClassFile.FieldType)) ∈ lw_all := lw_g (lw_at lw_m3 216 rfl) rfl
theorem q744 : (Jvm.Cond.methodLink "java/lang/Throwable" (1 : Nat) ({ cls := "java/lang/Object", name := "<init>", desc := "()V" } : Jvm.MethodName)) ∈ lw_all := lw_g (lw_at lw_m3 217 rfl) rfl
theorem q745 : (Jvm.Cond.fieldLink "java/lang/Throwable" (13 : Nat) "java/lang/Throwable" "UNASSIGNED_STACK" "[Ljava/lang/StackTraceElement;") ∈ lw_all := lw_g (lw_at lw_m3 218 rfl) rfl
theorem q746 : (Jvm.Cond.laysStatic "java/lang/Throwable" "UNASSIGNED_STACK" "[Ljava/lang/StackTraceElement;") ∈ lw_tbl := lw_at lw_m3 219 rfl
theorem q747 : (Jvm.Cond.fieldLink "java/lang/Throwable" (20 : Nat) "java/lang/Throwable" "SUPPRESSED_SENTINEL" "Ljava/util/List;") ∈ lw_all := lw_g (lw_at lw_m3 220 rfl) rfl
theorem q748 : (Jvm.Cond.laysStatic "java/lang/Throwable" "SUPPRESSED_SENTINEL" "Ljava/util/List;") ∈ lw_tbl := lw_at lw_m3 221 rfl
theorem q749 : (Jvm.Cond.methodLink "java/lang/Throwable" (27 : Nat) ({ cls := "java/lang/Throwable", name := "fillInStackTrace", desc := "()Ljava/lang/Throwable;" } : Jvm.MethodName)) ∈ lw_all := lw_g (lw_at lw_m3 222 rfl) rfl
theorem q750 : (Jvm.Cond.instanceMethod ({ cls := "java/lang/Throwable", name := "fillInStackTrace", desc := "()Ljava/lang/Throwable;" } : Jvm.MethodName)) ∈ lw_all := lw_g (lw_at lw_m3 223 rfl) rfl
theorem q751 : (Jvm.Cond.sameMethod "java/lang/Throwable" "java/lang/Throwable" "fillInStackTrace" "()Ljava/lang/Throwable;") ∈ lw_all := lw_g (lw_at lw_m3 224 rfl) rfl
theorem q768 : (Jvm.Cond.declares ({ cls := "java/lang/Throwable", name := "fillInStackTrace", desc := "()Ljava/lang/Throwable;" } : Jvm.MethodName)) ∈ lw_tbl := lw_at lw_m4 1 rfl
theorem q772 : (Jvm.Cond.codeSync ({ cls := "java/lang/Throwable", name := "fillInStackTrace", desc := "()Ljava/lang/Throwable;" } : Jvm.MethodName) prog_27_method_18_code (1 : Nat) (Option.some (Jvm.ClassFile.FieldType.object "java/lang/Throwable"))) ∈ lw_all := lw_g (lw_at lw_m4 5 rfl) rfl
theorem q773 : (Jvm.Cond.methodLink "java/lang/Throwable" (202 : Nat) ({ cls := "java/lang/Throwable", name := "fillInStackTrace", desc := "(I)Ljava/lang/Throwable;" } : Jvm.MethodName)) ∈ lw_all := lw_g (lw_at lw_m4 6 rfl) rfl
theorem q774 : (Jvm.Cond.privateMethod ({ cls := "java/lang/Throwable", name := "fillInStackTrace", desc := "(I)Ljava/lang/Throwable;" } : Jvm.MethodName)) ∈ lw_tbl := lw_at lw_m4 7 rfl
theorem q775 : (Jvm.Cond.instanceMethod ({ cls := "java/lang/Throwable", name := "fillInStackTrace", desc := "(I)Ljava/lang/Throwable;" } : Jvm.MethodName)) ∈ lw_all := lw_g (lw_at lw_m4 8 rfl) rfl
theorem q776 : (Jvm.Cond.instantiable "java/lang/Throwable" (6 : Nat)) ∈ lw_all := lw_g (lw_at lw_m4 9 rfl) rfl
theorem q777 : (Jvm.Cond.native ({ cls := "java/lang/Throwable", name := "fillInStackTrace", desc := "(I)Ljava/lang/Throwable;" } : Jvm.MethodName)) ∈ lw_all := lw_g (lw_at lw_m4 10 rfl) rfl
theorem q778 : (Jvm.Cond.fieldLink "java/lang/Throwable" (198 : Nat) "java/lang/Throwable" "backtrace" "Ljava/lang/Object;") ∈ lw_all := lw_g (lw_at lw_m4 11 rfl) rfl
theorem q779 : (Jvm.Cond.fieldLink "java/lang/Throwable" (31 : Nat) "java/lang/Throwable" "detailMessage" "Ljava/lang/String;") ∈ lw_all := lw_g (lw_at lw_m4 12 rfl) rfl
theorem q780 : (Jvm.Cond.fieldLink "java/lang/Throwable" (7 : Nat) "java/lang/Throwable" "cause" "Ljava/lang/Throwable;") ∈ lw_all := lw_g (lw_at lw_m4 13 rfl) rfl
theorem q781 : (Jvm.Cond.fieldLink "java/lang/Throwable" (17 : Nat) "java/lang/Throwable" "stackTrace" "[Ljava/lang/StackTraceElement;") ∈ lw_all := lw_g (lw_at lw_m4 14 rfl) rfl
theorem q782 : (Jvm.Cond.fieldLink "java/lang/Throwable" (24 : Nat) "java/lang/Throwable" "suppressedExceptions" "Ljava/util/List;") ∈ lw_all := lw_g (lw_at lw_m4 15 rfl) rfl
theorem q784 : (Jvm.Cond.soleField "java/lang/Throwable" "backtrace") ∈ lw_all := lw_g (lw_at lw_m4 17 rfl) rfl
theorem q786 : (Jvm.Cond.soleField "java/lang/Throwable" "detailMessage") ∈ lw_all := lw_g (lw_at lw_m4 19 rfl) rfl
theorem q788 : (Jvm.Cond.soleField "java/lang/Throwable" "cause") ∈ lw_all := lw_g (lw_at lw_m4 21 rfl) rfl
theorem q790 : (Jvm.Cond.soleField "java/lang/Throwable" "stackTrace") ∈ lw_all := lw_g (lw_at lw_m4 23 rfl) rfl
theorem q792 : (Jvm.Cond.soleField "java/lang/Throwable" "depth") ∈ lw_all := lw_g (lw_at lw_m4 25 rfl) rfl
theorem q794 : (Jvm.Cond.soleField "java/lang/Throwable" "suppressedExceptions") ∈ lw_all := lw_g (lw_at lw_m4 27 rfl) rfl
theorem q801 : (Jvm.Cond.declares ({ cls := "java/lang/Throwable", name := "<init>", desc := "()V" } : Jvm.MethodName)) ∈ lw_tbl := lw_at lw_m4 34 rfl
theorem q802 : (Jvm.Cond.declares ({ cls := "java/lang/Throwable", name := "<init>", desc := "(Ljava/lang/String;)V" } : Jvm.MethodName)) ∈ lw_tbl := lw_at lw_m4 35 rfl
theorem q804 : (Jvm.Cond.lays "java/lang/Throwable" "java/lang/Throwable" "cause" "Ljava/lang/Throwable;") ∈ lw_all := lw_g (lw_at lw_m4 37 rfl) rfl
theorem q805 : (Jvm.Cond.lays "java/lang/Throwable" "java/lang/Throwable" "stackTrace" "[Ljava/lang/StackTraceElement;") ∈ lw_all := lw_g (lw_at lw_m4 38 rfl) rfl
theorem q806 : (Jvm.Cond.lays "java/lang/Throwable" "java/lang/Throwable" "suppressedExceptions" "Ljava/util/List;") ∈ lw_all := lw_g (lw_at lw_m4 39 rfl) rfl
theorem q807 : (Jvm.Cond.lays "java/lang/Throwable" "java/lang/Throwable" "detailMessage" "Ljava/lang/String;") ∈ lw_all := lw_g (lw_at lw_m4 40 rfl) rfl
theorem q808 : (Jvm.Cond.lays "java/lang/Throwable" "java/lang/Throwable" "backtrace" "Ljava/lang/Object;") ∈ lw_all := lw_g (lw_at lw_m4 41 rfl) rfl
theorem q809 : (Jvm.Cond.fieldLink "java/lang/Throwable" (198 : Nat) "java/lang/Throwable" "backtrace" "Ljava/lang/Object;") ∈ lw_all := lw_g (lw_at lw_m4 42 rfl) rfl
theorem q810 : (Jvm.Cond.superclass "java/lang/Throwable" "java/lang/Object") ∈ lw_all := lw_g (lw_at lw_m4 43 rfl) rfl
theorem q811 : (Jvm.Cond.instanceMethod ({ cls := "java/lang/Throwable", name := "<init>", desc := "()V" } : Jvm.MethodName)) ∈ lw_all := lw_g (lw_at lw_m4 44 rfl) rfl
theorem q812 : (Jvm.Cond.code ({ cls := "java/lang/Throwable", name := "<init>", desc := "()V" } : Jvm.MethodName) prog_27_method_1_code (1 : Nat) (Option.none : Option Jvm.ClassFile.FieldType)) ∈ lw_all := lw_g (lw_at lw_m4 45 rfl) rfl
theorem q1419 : (Jvm.Cond.sameMethod "java/lang/Throwable" "java/lang/Throwable" "fillInStackTrace" "(I)Ljava/lang/Throwable;") ∈ lw_all := lw_g (lw_at lw_m6 172 rfl) rfl
theorem q1445 : (Jvm.Cond.castable "java/lang/Throwable" "java/lang/Object") ∈ lw_tbl := lw_at lw_m6 198 rfl
theorem in_J6 : ∀ w ∈ wsJ60, w ∈ lw_all := lw_in wsJ60 [804, 805, 806, 807, 808] (by decide +kernel) (by decide +kernel)

/-! java/lang/Exception -/
set_option maxRecDepth 100000
def RJ7 : String := "java/lang/Exception"
abbrev cJ7_init : ByteArray := prog_16_method_2_code
def yJ7_init : MethodName := ⟨RJ7, "<init>", "(Ljava/lang/String;)V"⟩
def dkwJ7_init_0 : List UInt8 := [42, 43, 183, 0, 7, 177]
abbrev dktJ7_init_0 : List UInt8 := dkwJ7_init_0 ++ []
theorem dksJ7_init_0 : cJ7_init.data.toList.drop 0 = dktJ7_init_0 := by decide +kernel
theorem dJ7_init_0 : decode cJ7_init 0 = .ok (.aload_n 0, 1) := dk_42 (dk_at dksJ7_init_0 0 rfl rfl)
theorem dJ7_init_1 : decode cJ7_init 1 = .ok (.aload_n 1, 1) := dk_43 (dk_at dksJ7_init_0 1 rfl rfl)
theorem dJ7_init_2 : decode cJ7_init 2 = .ok (.invokespecial 7, 3) := dk_183 0 7 (dk_at dksJ7_init_0 2 rfl rfl)
theorem dJ7_init_5 : decode cJ7_init 5 = .ok (.return_, 1) := dk_177 (dk_at dksJ7_init_0 5 rfl rfl)
abbrev cJ7_init_2 : ByteArray := prog_16_method_1_code
def yJ7_init_2 : MethodName := ⟨RJ7, "<init>", "()V"⟩
theorem dJ7_init_2_0 : decode cJ7_init_2 0 = .ok (.aload_n 0, 1) := by decide +kernel
theorem dJ7_init_2_1 : decode cJ7_init_2 1 = .ok (.invokespecial 1, 3) := by decide +kernel
theorem dJ7_init_2_4 : decode cJ7_init_2 4 = .ok (.return_, 1) := by decide +kernel
theorem q65 : (Jvm.Cond.initialized "java/lang/Exception") ∈ lw_all := lw_g (lw_at lw_m1 18 rfl) rfl
theorem q739 : (Jvm.Cond.instanceMethod ({ cls := "java/lang/Exception", name := "<init>", desc := "(Ljava/lang/String;)V" } : Jvm.MethodName)) ∈ lw_all := lw_g (lw_at lw_m3 212 rfl) rfl
theorem q740 : (Jvm.Cond.code ({ cls := "java/lang/Exception", name := "<init>", desc := "(Ljava/lang/String;)V" } : Jvm.MethodName) prog_16_method_2_code (2 : Nat) (Option.none : Option Jvm.ClassFile.FieldType)) ∈ lw_all := lw_g (lw_at lw_m3 213 rfl) rfl
theorem q741 : (Jvm.Cond.methodLink "java/lang/Exception" (7 : Nat) ({ cls := "java/lang/Throwable", name := "<init>", desc := "(Ljava/lang/String;)V" } : Jvm.MethodName)) ∈ lw_all := lw_g (lw_at lw_m3 214 rfl) rfl
theorem q771 : (Jvm.Cond.superclass "java/lang/Exception" "java/lang/Throwable") ∈ lw_all := lw_g (lw_at lw_m4 4 rfl) rfl
theorem q799 : (Jvm.Cond.declares ({ cls := "java/lang/Exception", name := "<init>", desc := "()V" } : Jvm.MethodName)) ∈ lw_tbl := lw_at lw_m4 32 rfl
theorem q800 : (Jvm.Cond.declares ({ cls := "java/lang/Exception", name := "<init>", desc := "(Ljava/lang/String;)V" } : Jvm.MethodName)) ∈ lw_tbl := lw_at lw_m4 33 rfl
theorem q862 : (Jvm.Cond.instanceMethod ({ cls := "java/lang/Exception", name := "<init>", desc := "()V" } : Jvm.MethodName)) ∈ lw_all := lw_g (lw_at lw_m4 95 rfl) rfl
theorem q863 : (Jvm.Cond.code ({ cls := "java/lang/Exception", name := "<init>", desc := "()V" } : Jvm.MethodName) prog_16_method_1_code (1 : Nat) (Option.none : Option Jvm.ClassFile.FieldType)) ∈ lw_all := lw_g (lw_at lw_m4 96 rfl) rfl
theorem q864 : (Jvm.Cond.methodLink "java/lang/Exception" (1 : Nat) ({ cls := "java/lang/Throwable", name := "<init>", desc := "()V" } : Jvm.MethodName)) ∈ lw_all := lw_g (lw_at lw_m4 97 rfl) rfl

/-! java/lang/RuntimeException -/
set_option maxRecDepth 100000
def RJ8 : String := "java/lang/RuntimeException"
abbrev cJ8_init : ByteArray := prog_24_method_2_code
def yJ8_init : MethodName := ⟨RJ8, "<init>", "(Ljava/lang/String;)V"⟩
def dkwJ8_init_0 : List UInt8 := [42, 43, 183, 0, 7, 177]
abbrev dktJ8_init_0 : List UInt8 := dkwJ8_init_0 ++ []
theorem dksJ8_init_0 : cJ8_init.data.toList.drop 0 = dktJ8_init_0 := by decide +kernel
theorem dJ8_init_0 : decode cJ8_init 0 = .ok (.aload_n 0, 1) := dk_42 (dk_at dksJ8_init_0 0 rfl rfl)
theorem dJ8_init_1 : decode cJ8_init 1 = .ok (.aload_n 1, 1) := dk_43 (dk_at dksJ8_init_0 1 rfl rfl)
theorem dJ8_init_2 : decode cJ8_init 2 = .ok (.invokespecial 7, 3) := dk_183 0 7 (dk_at dksJ8_init_0 2 rfl rfl)
theorem dJ8_init_5 : decode cJ8_init 5 = .ok (.return_, 1) := dk_177 (dk_at dksJ8_init_0 5 rfl rfl)
abbrev cJ8_init_2 : ByteArray := prog_24_method_1_code
def yJ8_init_2 : MethodName := ⟨RJ8, "<init>", "()V"⟩
theorem dJ8_init_2_0 : decode cJ8_init_2 0 = .ok (.aload_n 0, 1) := by decide +kernel
theorem dJ8_init_2_1 : decode cJ8_init_2 1 = .ok (.invokespecial 1, 3) := by decide +kernel
theorem dJ8_init_2_4 : decode cJ8_init_2 4 = .ok (.return_, 1) := by decide +kernel
theorem q66 : (Jvm.Cond.initialized "java/lang/RuntimeException") ∈ lw_all := lw_g (lw_at lw_m1 19 rfl) rfl
theorem q736 : (Jvm.Cond.instanceMethod ({ cls := "java/lang/RuntimeException", name := "<init>", desc := "(Ljava/lang/String;)V" } : Jvm.MethodName)) ∈ lw_all := lw_g (lw_at lw_m3 209 rfl) rfl
theorem q737 : (Jvm.Cond.code ({ cls := "java/lang/RuntimeException", name := "<init>", desc := "(Ljava/lang/String;)V" } : Jvm.MethodName) prog_24_method_2_code (2 : Nat) (Option.none : Option Jvm.ClassFile.FieldType)) ∈ lw_all := lw_g (lw_at lw_m3 210 rfl) rfl
theorem q738 : (Jvm.Cond.methodLink "java/lang/RuntimeException" (7 : Nat) ({ cls := "java/lang/Exception", name := "<init>", desc := "(Ljava/lang/String;)V" } : Jvm.MethodName)) ∈ lw_all := lw_g (lw_at lw_m3 211 rfl) rfl
theorem q767 : (Jvm.Cond.sameMethod "java/lang/RuntimeException" "java/lang/Throwable" "fillInStackTrace" "()Ljava/lang/Throwable;") ∈ lw_all := lw_g (lw_at lw_m4 0 rfl) rfl
theorem q770 : (Jvm.Cond.superclass "java/lang/RuntimeException" "java/lang/Exception") ∈ lw_all := lw_g (lw_at lw_m4 3 rfl) rfl
theorem q797 : (Jvm.Cond.declares ({ cls := "java/lang/RuntimeException", name := "<init>", desc := "()V" } : Jvm.MethodName)) ∈ lw_tbl := lw_at lw_m4 30 rfl
theorem q798 : (Jvm.Cond.declares ({ cls := "java/lang/RuntimeException", name := "<init>", desc := "(Ljava/lang/String;)V" } : Jvm.MethodName)) ∈ lw_tbl := lw_at lw_m4 31 rfl
theorem q859 : (Jvm.Cond.instanceMethod ({ cls := "java/lang/RuntimeException", name := "<init>", desc := "()V" } : Jvm.MethodName)) ∈ lw_all := lw_g (lw_at lw_m4 92 rfl) rfl
theorem q860 : (Jvm.Cond.code ({ cls := "java/lang/RuntimeException", name := "<init>", desc := "()V" } : Jvm.MethodName) prog_24_method_1_code (1 : Nat) (Option.none : Option Jvm.ClassFile.FieldType)) ∈ lw_all := lw_g (lw_at lw_m4 93 rfl) rfl
theorem q861 : (Jvm.Cond.methodLink "java/lang/RuntimeException" (1 : Nat) ({ cls := "java/lang/Exception", name := "<init>", desc := "()V" } : Jvm.MethodName)) ∈ lw_all := lw_g (lw_at lw_m4 94 rfl) rfl
theorem q879 : (Jvm.Cond.castable "java/lang/RuntimeException" "java/lang/Throwable") ∈ lw_tbl := lw_at lw_m4 112 rfl

/-! java/lang/IllegalArgumentException -/
set_option maxRecDepth 100000
def RJ9 : String := "java/lang/IllegalArgumentException"
def TJ9 : u_T := fun k => match k with
  | 0 => ("java/lang/Throwable", "cause", "Ljava/lang/Throwable;", false)
  | 1 => ("java/lang/Throwable", "stackTrace", "[Ljava/lang/StackTraceElement;", false)
  | 2 => ("java/lang/Throwable", "suppressedExceptions", "Ljava/util/List;", false)
  | 3 => ("java/lang/Throwable", "detailMessage", "Ljava/lang/String;", false)
  | 4 => ("java/lang/Throwable", "backtrace", "Ljava/lang/Object;", false)
  | _ => ("java/lang/Throwable", "depth", "I", false)
def tyJ9 : Nat → FieldType := fun k => match k with
  | 0 => .object "java/lang/Throwable"
  | 1 => .array (.object "java/lang/StackTraceElement")
  | 2 => .object "java/util/List"
  | 3 => .object "java/lang/String"
  | 4 => .object "java/lang/Object"
  | _ => .int
abbrev wsJ90 : List Cond := u_ws RJ9 TJ9 6
theorem nmJ9 : ∀ a, a < 6 → ∀ b, b < 6 → a ≠ b → (TJ9 a).2.1 ≠ (TJ9 b).2.1 := by decide +kernel
theorem tyJ9_ok : ∀ k, k < 6 → parseFieldDescriptor (TJ9 k).2.2.1 = some (tyJ9 k) := by decide +kernel
abbrev cJ9_init : ByteArray := prog_17_method_1_code
def yJ9_init : MethodName := ⟨RJ9, "<init>", "()V"⟩
theorem dJ9_init_0 : decode cJ9_init 0 = .ok (.aload_n 0, 1) := by decide +kernel
theorem dJ9_init_1 : decode cJ9_init 1 = .ok (.invokespecial 1, 3) := by decide +kernel
theorem dJ9_init_4 : decode cJ9_init 4 = .ok (.return_, 1) := by decide +kernel
theorem q67 : (Jvm.Cond.initialized "java/lang/IllegalArgumentException") ∈ lw_all := lw_g (lw_at lw_m1 20 rfl) rfl
theorem q631 : (Jvm.Cond.selects "java/lang/IllegalArgumentException" ({ cls := "java/lang/Object", name := "getClass", desc := "()Ljava/lang/Class;" } : Jvm.MethodName) ({ cls := "java/lang/Object", name := "getClass", desc := "()Ljava/lang/Class;" } : Jvm.MethodName)) ∈ lw_all := lw_g (lw_at lw_m3 104 rfl) rfl
theorem q755 : (Jvm.Cond.selects "java/lang/IllegalArgumentException" ({ cls := "java/lang/Throwable", name := "fillInStackTrace", desc := "()Ljava/lang/Throwable;" } : Jvm.MethodName) ({ cls := "java/lang/Throwable", name := "fillInStackTrace", desc := "()Ljava/lang/Throwable;" } : Jvm.MethodName)) ∈ lw_all := lw_g (lw_at lw_m3 228 rfl) rfl
theorem q955 : (Jvm.Cond.instantiable "java/lang/IllegalArgumentException" (6 : Nat)) ∈ lw_all := lw_g (lw_at lw_m4 188 rfl) rfl
theorem q956 : (Jvm.Cond.castable "java/lang/IllegalArgumentException" "java/lang/IllegalArgumentException") ∈ lw_tbl := lw_at lw_m4 189 rfl
theorem q957 : (Jvm.Cond.selects "java/lang/IllegalArgumentException" ({ cls := "java/lang/Throwable", name := "fillInStackTrace", desc := "(I)Ljava/lang/Throwable;" } : Jvm.MethodName) ({ cls := "java/lang/Throwable", name := "fillInStackTrace", desc := "(I)Ljava/lang/Throwable;" } : Jvm.MethodName)) ∈ lw_all := lw_g (lw_at lw_m4 190 rfl) rfl
theorem q958 : (Jvm.Cond.lays "java/lang/IllegalArgumentException" "java/lang/Throwable" "cause" "Ljava/lang/Throwable;") ∈ lw_all := lw_g (lw_at lw_m4 191 rfl) rfl
theorem q959 : (Jvm.Cond.lays "java/lang/IllegalArgumentException" "java/lang/Throwable" "stackTrace" "[Ljava/lang/StackTraceElement;") ∈ lw_all := lw_g (lw_at lw_m4 192 rfl) rfl
theorem q960 : (Jvm.Cond.lays "java/lang/IllegalArgumentException" "java/lang/Throwable" "suppressedExceptions" "Ljava/util/List;") ∈ lw_all := lw_g (lw_at lw_m4 193 rfl) rfl
theorem q961 : (Jvm.Cond.lays "java/lang/IllegalArgumentException" "java/lang/Throwable" "detailMessage" "Ljava/lang/String;") ∈ lw_all := lw_g (lw_at lw_m4 194 rfl) rfl
theorem q962 : (Jvm.Cond.lays "java/lang/IllegalArgumentException" "java/lang/Throwable" "backtrace" "Ljava/lang/Object;") ∈ lw_all := lw_g (lw_at lw_m4 195 rfl) rfl
theorem q964 : (Jvm.Cond.instanceMethod ({ cls := "java/lang/IllegalArgumentException", name := "<init>", desc := "()V" } : Jvm.MethodName)) ∈ lw_all := lw_g (lw_at lw_m4 197 rfl) rfl
theorem q965 : (Jvm.Cond.code ({ cls := "java/lang/IllegalArgumentException", name := "<init>", desc := "()V" } : Jvm.MethodName) prog_17_method_1_code (1 : Nat) (Option.none : Option Jvm.ClassFile.FieldType)) ∈ lw_all := lw_g (lw_at lw_m4 198 rfl) rfl
theorem q966 : (Jvm.Cond.methodLink "java/lang/IllegalArgumentException" (1 : Nat) ({ cls := "java/lang/RuntimeException", name := "<init>", desc := "()V" } : Jvm.MethodName)) ∈ lw_all := lw_g (lw_at lw_m4 199 rfl) rfl
theorem q967 : (Jvm.Cond.lays "java/lang/IllegalArgumentException" "java/lang/Throwable" "depth" "I") ∈ lw_all := lw_g (lw_at lw_m4 200 rfl) rfl
theorem q968 : (Jvm.Cond.superclass "java/lang/IllegalArgumentException" "java/lang/RuntimeException") ∈ lw_all := lw_g (lw_at lw_m4 201 rfl) rfl
theorem q1438 : (Jvm.Cond.castable "java/lang/IllegalArgumentException" "java/lang/Object") ∈ lw_tbl := lw_at lw_m6 191 rfl
theorem in_J9 : ∀ w ∈ wsJ90, w ∈ lw_all := lw_in wsJ90 [958, 959, 960, 961, 962, 967] (by decide +kernel) (by decide +kernel)

/-! java/lang/IllegalStateException -/
set_option maxRecDepth 100000
def RJ10 : String := "java/lang/IllegalStateException"
def TJ10 : u_T := fun k => match k with
  | 0 => ("java/lang/Throwable", "cause", "Ljava/lang/Throwable;", false)
  | 1 => ("java/lang/Throwable", "stackTrace", "[Ljava/lang/StackTraceElement;", false)
  | 2 => ("java/lang/Throwable", "suppressedExceptions", "Ljava/util/List;", false)
  | 3 => ("java/lang/Throwable", "detailMessage", "Ljava/lang/String;", false)
  | 4 => ("java/lang/Throwable", "backtrace", "Ljava/lang/Object;", false)
  | _ => ("java/lang/Throwable", "depth", "I", false)
def tyJ10 : Nat → FieldType := fun k => match k with
  | 0 => .object "java/lang/Throwable"
  | 1 => .array (.object "java/lang/StackTraceElement")
  | 2 => .object "java/util/List"
  | 3 => .object "java/lang/String"
  | 4 => .object "java/lang/Object"
  | _ => .int
abbrev wsJ100 : List Cond := u_ws RJ10 TJ10 6
theorem nmJ10 : ∀ a, a < 6 → ∀ b, b < 6 → a ≠ b → (TJ10 a).2.1 ≠ (TJ10 b).2.1 := by decide +kernel
theorem tyJ10_ok : ∀ k, k < 6 → parseFieldDescriptor (TJ10 k).2.2.1 = some (tyJ10 k) := by decide +kernel
abbrev cJ10_init : ByteArray := prog_18_method_1_code
def yJ10_init : MethodName := ⟨RJ10, "<init>", "()V"⟩
theorem dJ10_init_0 : decode cJ10_init 0 = .ok (.aload_n 0, 1) := by decide +kernel
theorem dJ10_init_1 : decode cJ10_init 1 = .ok (.invokespecial 1, 3) := by decide +kernel
theorem dJ10_init_4 : decode cJ10_init 4 = .ok (.return_, 1) := by decide +kernel
theorem q68 : (Jvm.Cond.initialized "java/lang/IllegalStateException") ∈ lw_all := lw_g (lw_at lw_m1 21 rfl) rfl
theorem q632 : (Jvm.Cond.selects "java/lang/IllegalStateException" ({ cls := "java/lang/Object", name := "getClass", desc := "()Ljava/lang/Class;" } : Jvm.MethodName) ({ cls := "java/lang/Object", name := "getClass", desc := "()Ljava/lang/Class;" } : Jvm.MethodName)) ∈ lw_all := lw_g (lw_at lw_m3 105 rfl) rfl
theorem q756 : (Jvm.Cond.selects "java/lang/IllegalStateException" ({ cls := "java/lang/Throwable", name := "fillInStackTrace", desc := "()Ljava/lang/Throwable;" } : Jvm.MethodName) ({ cls := "java/lang/Throwable", name := "fillInStackTrace", desc := "()Ljava/lang/Throwable;" } : Jvm.MethodName)) ∈ lw_all := lw_g (lw_at lw_m3 229 rfl) rfl
theorem q970 : (Jvm.Cond.instantiable "java/lang/IllegalStateException" (6 : Nat)) ∈ lw_all := lw_g (lw_at lw_m4 203 rfl) rfl
theorem q971 : (Jvm.Cond.castable "java/lang/IllegalStateException" "java/lang/IllegalStateException") ∈ lw_tbl := lw_at lw_m4 204 rfl
theorem q972 : (Jvm.Cond.selects "java/lang/IllegalStateException" ({ cls := "java/lang/Throwable", name := "fillInStackTrace", desc := "(I)Ljava/lang/Throwable;" } : Jvm.MethodName) ({ cls := "java/lang/Throwable", name := "fillInStackTrace", desc := "(I)Ljava/lang/Throwable;" } : Jvm.MethodName)) ∈ lw_all := lw_g (lw_at lw_m4 205 rfl) rfl
theorem q973 : (Jvm.Cond.lays "java/lang/IllegalStateException" "java/lang/Throwable" "cause" "Ljava/lang/Throwable;") ∈ lw_all := lw_g (lw_at lw_m4 206 rfl) rfl
theorem q974 : (Jvm.Cond.lays "java/lang/IllegalStateException" "java/lang/Throwable" "stackTrace" "[Ljava/lang/StackTraceElement;") ∈ lw_all := lw_g (lw_at lw_m4 207 rfl) rfl
theorem q975 : (Jvm.Cond.lays "java/lang/IllegalStateException" "java/lang/Throwable" "suppressedExceptions" "Ljava/util/List;") ∈ lw_all := lw_g (lw_at lw_m4 208 rfl) rfl
theorem q976 : (Jvm.Cond.lays "java/lang/IllegalStateException" "java/lang/Throwable" "detailMessage" "Ljava/lang/String;") ∈ lw_all := lw_g (lw_at lw_m4 209 rfl) rfl
theorem q977 : (Jvm.Cond.lays "java/lang/IllegalStateException" "java/lang/Throwable" "backtrace" "Ljava/lang/Object;") ∈ lw_all := lw_g (lw_at lw_m4 210 rfl) rfl
theorem q979 : (Jvm.Cond.instanceMethod ({ cls := "java/lang/IllegalStateException", name := "<init>", desc := "()V" } : Jvm.MethodName)) ∈ lw_all := lw_g (lw_at lw_m4 212 rfl) rfl
theorem q980 : (Jvm.Cond.code ({ cls := "java/lang/IllegalStateException", name := "<init>", desc := "()V" } : Jvm.MethodName) prog_18_method_1_code (1 : Nat) (Option.none : Option Jvm.ClassFile.FieldType)) ∈ lw_all := lw_g (lw_at lw_m4 213 rfl) rfl
theorem q981 : (Jvm.Cond.methodLink "java/lang/IllegalStateException" (1 : Nat) ({ cls := "java/lang/RuntimeException", name := "<init>", desc := "()V" } : Jvm.MethodName)) ∈ lw_all := lw_g (lw_at lw_m4 214 rfl) rfl
theorem q982 : (Jvm.Cond.lays "java/lang/IllegalStateException" "java/lang/Throwable" "depth" "I") ∈ lw_all := lw_g (lw_at lw_m4 215 rfl) rfl
theorem q983 : (Jvm.Cond.superclass "java/lang/IllegalStateException" "java/lang/RuntimeException") ∈ lw_all := lw_g (lw_at lw_m4 216 rfl) rfl
theorem q1439 : (Jvm.Cond.castable "java/lang/IllegalStateException" "java/lang/Object") ∈ lw_tbl := lw_at lw_m6 192 rfl
theorem in_J10 : ∀ w ∈ wsJ100, w ∈ lw_all := lw_in wsJ100 [973, 974, 975, 976, 977, 982] (by decide +kernel) (by decide +kernel)

/-! java/util/Objects -/
set_option maxRecDepth 100000
def RJ11 : String := "java/util/Objects"
abbrev cJ11_checkIndex : ByteArray := prog_34_method_17_code
def yJ11_checkIndex : MethodName := ⟨RJ11, "checkIndex", "(II)I"⟩
def dkwJ11_checkIndex_0 : List UInt8 := [26, 27, 1, 184, 0, 105, 172]
abbrev dktJ11_checkIndex_0 : List UInt8 := dkwJ11_checkIndex_0 ++ []
theorem dksJ11_checkIndex_0 : cJ11_checkIndex.data.toList.drop 0 = dktJ11_checkIndex_0 := by decide +kernel
theorem dJ11_checkIndex_0 : decode cJ11_checkIndex 0 = .ok (.iload_n 0, 1) := dk_26 (dk_at dksJ11_checkIndex_0 0 rfl rfl)
theorem dJ11_checkIndex_1 : decode cJ11_checkIndex 1 = .ok (.iload_n 1, 1) := dk_27 (dk_at dksJ11_checkIndex_0 1 rfl rfl)
theorem dJ11_checkIndex_2 : decode cJ11_checkIndex 2 = .ok (.aconst_null, 1) := dk_1 (dk_at dksJ11_checkIndex_0 2 rfl rfl)
theorem dJ11_checkIndex_3 : decode cJ11_checkIndex 3 = .ok (.invokestatic 105, 3) := dk_184 0 105 (dk_at dksJ11_checkIndex_0 3 rfl rfl)
theorem dJ11_checkIndex_6 : decode cJ11_checkIndex 6 = .ok (.ireturn, 1) := dk_172 (dk_at dksJ11_checkIndex_0 6 rfl rfl)
theorem q69 : (Jvm.Cond.initialized "java/util/Objects") ∈ lw_all := lw_g (lw_at lw_m1 22 rfl) rfl
theorem q681 : (Jvm.Cond.static ({ cls := "java/util/Objects", name := "checkIndex", desc := "(II)I" } : Jvm.MethodName)) ∈ lw_all := lw_g (lw_at lw_m3 154 rfl) rfl
theorem q682 : (Jvm.Cond.code ({ cls := "java/util/Objects", name := "checkIndex", desc := "(II)I" } : Jvm.MethodName) prog_34_method_17_code (2 : Nat) (Option.some Jvm.ClassFile.FieldType.int)) ∈ lw_all := lw_g (lw_at lw_m3 155 rfl) rfl
theorem q683 : (Jvm.Cond.methodLink "java/util/Objects" (105 : Nat) ({ cls := "jdk/internal/util/Preconditions", name := "checkIndex", desc := "(IILjava/util/function/BiFunction;)I" } : Jvm.MethodName)) ∈ lw_all := lw_g (lw_at lw_m3 156 rfl) rfl

/-! jdk/internal/util/Preconditions -/
set_option maxRecDepth 100000
def RJ12 : String := "jdk/internal/util/Preconditions"
abbrev cJ12_checkIndex : ByteArray := prog_38_method_11_code
def yJ12_checkIndex : MethodName := ⟨RJ12, "checkIndex", "(IILjava/util/function/BiFunction;)I"⟩
def dkwJ12_checkIndex_0 : List UInt8 := [26, 155, 0, 8, 26, 27, 161, 0, 10, 44, 26, 27, 184, 0, 95, 191, 26, 172]
abbrev dktJ12_checkIndex_0 : List UInt8 := dkwJ12_checkIndex_0 ++ []
theorem dksJ12_checkIndex_0 : cJ12_checkIndex.data.toList.drop 0 = dktJ12_checkIndex_0 := by decide +kernel
theorem dJ12_checkIndex_0 : decode cJ12_checkIndex 0 = .ok (.iload_n 0, 1) := dk_26 (dk_at dksJ12_checkIndex_0 0 rfl rfl)
theorem dJ12_checkIndex_1 : decode cJ12_checkIndex 1 = .ok (.ifCond .lt 8, 3) := dk_155 0 8 (dk_at dksJ12_checkIndex_0 1 rfl rfl)
theorem dJ12_checkIndex_4 : decode cJ12_checkIndex 4 = .ok (.iload_n 0, 1) := dk_26 (dk_at dksJ12_checkIndex_0 4 rfl rfl)
theorem dJ12_checkIndex_5 : decode cJ12_checkIndex 5 = .ok (.iload_n 1, 1) := dk_27 (dk_at dksJ12_checkIndex_0 5 rfl rfl)
theorem dJ12_checkIndex_6 : decode cJ12_checkIndex 6 = .ok (.if_icmp .lt 10, 3) := dk_161 0 10 (dk_at dksJ12_checkIndex_0 6 rfl rfl)
theorem dJ12_checkIndex_9 : decode cJ12_checkIndex 9 = .ok (.aload_n 2, 1) := dk_44 (dk_at dksJ12_checkIndex_0 9 rfl rfl)
theorem dJ12_checkIndex_10 : decode cJ12_checkIndex 10 = .ok (.iload_n 0, 1) := dk_26 (dk_at dksJ12_checkIndex_0 10 rfl rfl)
theorem dJ12_checkIndex_11 : decode cJ12_checkIndex 11 = .ok (.iload_n 1, 1) := dk_27 (dk_at dksJ12_checkIndex_0 11 rfl rfl)
theorem dJ12_checkIndex_12 : decode cJ12_checkIndex 12 = .ok (.invokestatic 95, 3) := dk_184 0 95 (dk_at dksJ12_checkIndex_0 12 rfl rfl)
theorem dJ12_checkIndex_15 : decode cJ12_checkIndex 15 = .ok (.athrow, 1) := dk_191 (dk_at dksJ12_checkIndex_0 15 rfl rfl)
theorem dJ12_checkIndex_16 : decode cJ12_checkIndex 16 = .ok (.iload_n 0, 1) := dk_26 (dk_at dksJ12_checkIndex_0 16 rfl rfl)
theorem dJ12_checkIndex_17 : decode cJ12_checkIndex 17 = .ok (.ireturn, 1) := dk_172 (dk_at dksJ12_checkIndex_0 17 rfl rfl)
theorem q70 : (Jvm.Cond.initialized "jdk/internal/util/Preconditions") ∈ lw_all := lw_g (lw_at lw_m1 23 rfl) rfl
theorem q684 : (Jvm.Cond.static ({ cls := "jdk/internal/util/Preconditions", name := "checkIndex", desc := "(IILjava/util/function/BiFunction;)I" } : Jvm.MethodName)) ∈ lw_all := lw_g (lw_at lw_m3 157 rfl) rfl
theorem q685 : (Jvm.Cond.code ({ cls := "jdk/internal/util/Preconditions", name := "checkIndex", desc := "(IILjava/util/function/BiFunction;)I" } : Jvm.MethodName) prog_38_method_11_code (3 : Nat) (Option.some Jvm.ClassFile.FieldType.int)) ∈ lw_all := lw_g (lw_at lw_m3 158 rfl) rfl

/-! java/lang/NegativeArraySizeException -/
set_option maxRecDepth 100000
def RJ13 : String := "java/lang/NegativeArraySizeException"
def TJ13 : u_T := fun k => match k with
  | 0 => ("java/lang/Throwable", "backtrace", "Ljava/lang/Object;", false)
  | 1 => ("java/lang/Throwable", "detailMessage", "Ljava/lang/String;", false)
  | 2 => ("java/lang/Throwable", "cause", "Ljava/lang/Throwable;", false)
  | 3 => ("java/lang/Throwable", "stackTrace", "[Ljava/lang/StackTraceElement;", false)
  | 4 => ("java/lang/Throwable", "depth", "I", false)
  | _ => ("java/lang/Throwable", "suppressedExceptions", "Ljava/util/List;", false)
def tyJ13 : Nat → FieldType := fun k => match k with
  | 0 => .object "java/lang/Object"
  | 1 => .object "java/lang/String"
  | 2 => .object "java/lang/Throwable"
  | 3 => .array (.object "java/lang/StackTraceElement")
  | 4 => .int
  | _ => .object "java/util/List"
abbrev wsJ130 : List Cond := u_ws RJ13 TJ13 6
theorem nmJ13 : ∀ a, a < 6 → ∀ b, b < 6 → a ≠ b → (TJ13 a).2.1 ≠ (TJ13 b).2.1 := by decide +kernel
theorem tyJ13_ok : ∀ k, k < 6 → parseFieldDescriptor (TJ13 k).2.2.1 = some (tyJ13 k) := by decide +kernel
abbrev cJ13_init : ByteArray := prog_22_method_2_code
def yJ13_init : MethodName := ⟨RJ13, "<init>", "(Ljava/lang/String;)V"⟩
def dkwJ13_init_0 : List UInt8 := [42, 43, 183, 0, 7, 177]
abbrev dktJ13_init_0 : List UInt8 := dkwJ13_init_0 ++ []
theorem dksJ13_init_0 : cJ13_init.data.toList.drop 0 = dktJ13_init_0 := by decide +kernel
theorem dJ13_init_0 : decode cJ13_init 0 = .ok (.aload_n 0, 1) := dk_42 (dk_at dksJ13_init_0 0 rfl rfl)
theorem dJ13_init_1 : decode cJ13_init 1 = .ok (.aload_n 1, 1) := dk_43 (dk_at dksJ13_init_0 1 rfl rfl)
theorem dJ13_init_2 : decode cJ13_init 2 = .ok (.invokespecial 7, 3) := dk_183 0 7 (dk_at dksJ13_init_0 2 rfl rfl)
theorem dJ13_init_5 : decode cJ13_init 5 = .ok (.return_, 1) := dk_177 (dk_at dksJ13_init_0 5 rfl rfl)
theorem q71 : (Jvm.Cond.initialized "java/lang/NegativeArraySizeException") ∈ lw_all := lw_g (lw_at lw_m1 24 rfl) rfl
theorem q633 : (Jvm.Cond.selects "java/lang/NegativeArraySizeException" ({ cls := "java/lang/Object", name := "getClass", desc := "()Ljava/lang/Class;" } : Jvm.MethodName) ({ cls := "java/lang/Object", name := "getClass", desc := "()Ljava/lang/Class;" } : Jvm.MethodName)) ∈ lw_all := lw_g (lw_at lw_m3 106 rfl) rfl
theorem q732 : (Jvm.Cond.instantiable "java/lang/NegativeArraySizeException" (6 : Nat)) ∈ lw_all := lw_g (lw_at lw_m3 205 rfl) rfl
theorem q733 : (Jvm.Cond.instanceMethod ({ cls := "java/lang/NegativeArraySizeException", name := "<init>", desc := "(Ljava/lang/String;)V" } : Jvm.MethodName)) ∈ lw_all := lw_g (lw_at lw_m3 206 rfl) rfl
theorem q734 : (Jvm.Cond.code ({ cls := "java/lang/NegativeArraySizeException", name := "<init>", desc := "(Ljava/lang/String;)V" } : Jvm.MethodName) prog_22_method_2_code (2 : Nat) (Option.none : Option Jvm.ClassFile.FieldType)) ∈ lw_all := lw_g (lw_at lw_m3 207 rfl) rfl
theorem q735 : (Jvm.Cond.methodLink "java/lang/NegativeArraySizeException" (7 : Nat) ({ cls := "java/lang/RuntimeException", name := "<init>", desc := "(Ljava/lang/String;)V" } : Jvm.MethodName)) ∈ lw_all := lw_g (lw_at lw_m3 208 rfl) rfl
theorem q757 : (Jvm.Cond.selects "java/lang/NegativeArraySizeException" ({ cls := "java/lang/Throwable", name := "fillInStackTrace", desc := "()Ljava/lang/Throwable;" } : Jvm.MethodName) ({ cls := "java/lang/Throwable", name := "fillInStackTrace", desc := "()Ljava/lang/Throwable;" } : Jvm.MethodName)) ∈ lw_all := lw_g (lw_at lw_m3 230 rfl) rfl
theorem q783 : (Jvm.Cond.lays "java/lang/NegativeArraySizeException" "java/lang/Throwable" "backtrace" "Ljava/lang/Object;") ∈ lw_all := lw_g (lw_at lw_m4 16 rfl) rfl
theorem q785 : (Jvm.Cond.lays "java/lang/NegativeArraySizeException" "java/lang/Throwable" "detailMessage" "Ljava/lang/String;") ∈ lw_all := lw_g (lw_at lw_m4 18 rfl) rfl
theorem q787 : (Jvm.Cond.lays "java/lang/NegativeArraySizeException" "java/lang/Throwable" "cause" "Ljava/lang/Throwable;") ∈ lw_all := lw_g (lw_at lw_m4 20 rfl) rfl
theorem q789 : (Jvm.Cond.lays "java/lang/NegativeArraySizeException" "java/lang/Throwable" "stackTrace" "[Ljava/lang/StackTraceElement;") ∈ lw_all := lw_g (lw_at lw_m4 22 rfl) rfl
theorem q791 : (Jvm.Cond.lays "java/lang/NegativeArraySizeException" "java/lang/Throwable" "depth" "I") ∈ lw_all := lw_g (lw_at lw_m4 24 rfl) rfl
theorem q793 : (Jvm.Cond.lays "java/lang/NegativeArraySizeException" "java/lang/Throwable" "suppressedExceptions" "Ljava/util/List;") ∈ lw_all := lw_g (lw_at lw_m4 26 rfl) rfl
theorem q795 : (Jvm.Cond.superclass "java/lang/NegativeArraySizeException" "java/lang/RuntimeException") ∈ lw_all := lw_g (lw_at lw_m4 28 rfl) rfl
theorem q796 : (Jvm.Cond.castable "java/lang/NegativeArraySizeException" "java/lang/NegativeArraySizeException") ∈ lw_tbl := lw_at lw_m4 29 rfl
theorem q803 : (Jvm.Cond.selects "java/lang/NegativeArraySizeException" ({ cls := "java/lang/Throwable", name := "fillInStackTrace", desc := "(I)Ljava/lang/Throwable;" } : Jvm.MethodName) ({ cls := "java/lang/Throwable", name := "fillInStackTrace", desc := "(I)Ljava/lang/Throwable;" } : Jvm.MethodName)) ∈ lw_all := lw_g (lw_at lw_m4 36 rfl) rfl
theorem q1440 : (Jvm.Cond.castable "java/lang/NegativeArraySizeException" "java/lang/Object") ∈ lw_tbl := lw_at lw_m6 193 rfl
theorem in_J13 : ∀ w ∈ wsJ130, w ∈ lw_all := lw_in wsJ130 [783, 785, 787, 789, 791, 793] (by decide +kernel) (by decide +kernel)

/-! java/lang/String -/
set_option maxRecDepth 100000
def RJ14 : String := "java/lang/String"
def TJ14 : u_T := fun k => match k with
  | 0 => ("java/lang/String", "value", "[B", true)
  | _ => ("java/lang/String", "coder", "B", true)
def tyJ14 : Nat → FieldType := fun k => match k with
  | 0 => .array .byte
  | _ => .byte
abbrev wsJ140 : List Cond := u_ws RJ14 TJ14 2
theorem nmJ14 : ∀ a, a < 2 → ∀ b, b < 2 → a ≠ b → (TJ14 a).2.1 ≠ (TJ14 b).2.1 := by decide +kernel
theorem tyJ14_ok : ∀ k, k < 2 → parseFieldDescriptor (TJ14 k).2.2.1 = some (tyJ14 k) := by decide +kernel
theorem q72 : (Jvm.Cond.initialized "java/lang/String") ∈ lw_all := lw_g (lw_at lw_m1 25 rfl) rfl
theorem q813 : (Jvm.Cond.instantiable "java/lang/String" (4 : Nat)) ∈ lw_all := lw_g (lw_at lw_m4 46 rfl) rfl
theorem q814 : (Jvm.Cond.laysFinal "java/lang/String" "java/lang/String" "value" "[B") ∈ lw_all := lw_g (lw_at lw_m4 47 rfl) rfl
theorem q815 : (Jvm.Cond.soleField "java/lang/String" "value") ∈ lw_all := lw_g (lw_at lw_m4 48 rfl) rfl
theorem q816 : (Jvm.Cond.laysFinal "java/lang/String" "java/lang/String" "coder" "B") ∈ lw_all := lw_g (lw_at lw_m4 49 rfl) rfl
theorem q817 : (Jvm.Cond.soleField "java/lang/String" "coder") ∈ lw_all := lw_g (lw_at lw_m4 50 rfl) rfl
theorem q1446 : (Jvm.Cond.castable "java/lang/String" "java/lang/Object") ∈ lw_tbl := lw_at lw_m6 199 rfl
theorem in_J14 : ∀ w ∈ wsJ140, w ∈ lw_all := lw_in wsJ140 [814, 816] (by decide +kernel) (by decide +kernel)

/-! java/lang/NullPointerException -/
set_option maxRecDepth 100000
def RJ15 : String := "java/lang/NullPointerException"
def TJ15 : u_T := fun k => match k with
  | 0 => ("java/lang/Throwable", "backtrace", "Ljava/lang/Object;", false)
  | 1 => ("java/lang/Throwable", "detailMessage", "Ljava/lang/String;", false)
  | 2 => ("java/lang/Throwable", "cause", "Ljava/lang/Throwable;", false)
  | 3 => ("java/lang/Throwable", "stackTrace", "[Ljava/lang/StackTraceElement;", false)
  | 4 => ("java/lang/Throwable", "depth", "I", false)
  | 5 => ("java/lang/Throwable", "suppressedExceptions", "Ljava/util/List;", false)
  | 6 => ("java/lang/NullPointerException", "extendedMessageState", "I", false)
  | _ => ("java/lang/NullPointerException", "extendedMessage", "Ljava/lang/String;", false)
def tyJ15 : Nat → FieldType := fun k => match k with
  | 0 => .object "java/lang/Object"
  | 1 => .object "java/lang/String"
  | 2 => .object "java/lang/Throwable"
  | 3 => .array (.object "java/lang/StackTraceElement")
  | 4 => .int
  | 5 => .object "java/util/List"
  | 6 => .int
  | _ => .object "java/lang/String"
abbrev wsJ150 : List Cond := u_ws RJ15 TJ15 8
theorem nmJ15 : ∀ a, a < 8 → ∀ b, b < 8 → a ≠ b → (TJ15 a).2.1 ≠ (TJ15 b).2.1 := by decide +kernel
theorem tyJ15_ok : ∀ k, k < 8 → parseFieldDescriptor (TJ15 k).2.2.1 = some (tyJ15 k) := by decide +kernel
abbrev cJ15_init : ByteArray := prog_23_method_1_code
def yJ15_init : MethodName := ⟨RJ15, "<init>", "()V"⟩
theorem dJ15_init_0 : decode cJ15_init 0 = .ok (.aload_n 0, 1) := by decide +kernel
theorem dJ15_init_1 : decode cJ15_init 1 = .ok (.invokespecial 1, 3) := by decide +kernel
theorem dJ15_init_4 : decode cJ15_init 4 = .ok (.return_, 1) := by decide +kernel
theorem q73 : (Jvm.Cond.initialized "java/lang/NullPointerException") ∈ lw_all := lw_g (lw_at lw_m1 26 rfl) rfl
theorem q634 : (Jvm.Cond.selects "java/lang/NullPointerException" ({ cls := "java/lang/Object", name := "getClass", desc := "()Ljava/lang/Class;" } : Jvm.MethodName) ({ cls := "java/lang/Object", name := "getClass", desc := "()Ljava/lang/Class;" } : Jvm.MethodName)) ∈ lw_all := lw_g (lw_at lw_m3 107 rfl) rfl
theorem q758 : (Jvm.Cond.selects "java/lang/NullPointerException" ({ cls := "java/lang/Throwable", name := "fillInStackTrace", desc := "()Ljava/lang/Throwable;" } : Jvm.MethodName) ({ cls := "java/lang/NullPointerException", name := "fillInStackTrace", desc := "()Ljava/lang/Throwable;" } : Jvm.MethodName)) ∈ lw_all := lw_g (lw_at lw_m3 231 rfl) rfl
theorem q759 : (Jvm.Cond.instanceMethod ({ cls := "java/lang/NullPointerException", name := "fillInStackTrace", desc := "()Ljava/lang/Throwable;" } : Jvm.MethodName)) ∈ lw_all := lw_g (lw_at lw_m3 232 rfl) rfl
theorem q760 : (Jvm.Cond.codeSync ({ cls := "java/lang/NullPointerException", name := "fillInStackTrace", desc := "()Ljava/lang/Throwable;" } : Jvm.MethodName) prog_23_method_3_code (1 : Nat) (Option.some (Jvm.ClassFile.FieldType.object "java/lang/Throwable"))) ∈ lw_all := lw_g (lw_at lw_m3 233 rfl) rfl
theorem q761 : (Jvm.Cond.methodLink "java/lang/NullPointerException" (16 : Nat) ({ cls := "java/lang/NullPointerException", name := "getExtendedNPEMessage", desc := "()Ljava/lang/String;" } : Jvm.MethodName)) ∈ lw_all := lw_g (lw_at lw_m3 234 rfl) rfl
theorem q762 : (Jvm.Cond.privateMethod ({ cls := "java/lang/NullPointerException", name := "getExtendedNPEMessage", desc := "()Ljava/lang/String;" } : Jvm.MethodName)) ∈ lw_tbl := lw_at lw_m3 235 rfl
theorem q763 : (Jvm.Cond.instanceMethod ({ cls := "java/lang/NullPointerException", name := "getExtendedNPEMessage", desc := "()Ljava/lang/String;" } : Jvm.MethodName)) ∈ lw_all := lw_g (lw_at lw_m3 236 rfl) rfl
theorem q764 : (Jvm.Cond.instantiable "java/lang/NullPointerException" (8 : Nat)) ∈ lw_all := lw_g (lw_at lw_m3 237 rfl) rfl
theorem q765 : (Jvm.Cond.native ({ cls := "java/lang/NullPointerException", name := "getExtendedNPEMessage", desc := "()Ljava/lang/String;" } : Jvm.MethodName)) ∈ lw_all := lw_g (lw_at lw_m3 238 rfl) rfl
theorem q766 : (Jvm.Cond.methodLink "java/lang/NullPointerException" (24 : Nat) ({ cls := "java/lang/RuntimeException", name := "fillInStackTrace", desc := "()Ljava/lang/Throwable;" } : Jvm.MethodName)) ∈ lw_all := lw_g (lw_at lw_m3 239 rfl) rfl
theorem q769 : (Jvm.Cond.superclass "java/lang/NullPointerException" "java/lang/RuntimeException") ∈ lw_all := lw_g (lw_at lw_m4 2 rfl) rfl
theorem q856 : (Jvm.Cond.instanceMethod ({ cls := "java/lang/NullPointerException", name := "<init>", desc := "()V" } : Jvm.MethodName)) ∈ lw_all := lw_g (lw_at lw_m4 89 rfl) rfl
theorem q857 : (Jvm.Cond.code ({ cls := "java/lang/NullPointerException", name := "<init>", desc := "()V" } : Jvm.MethodName) prog_23_method_1_code (1 : Nat) (Option.none : Option Jvm.ClassFile.FieldType)) ∈ lw_all := lw_g (lw_at lw_m4 90 rfl) rfl
theorem q858 : (Jvm.Cond.methodLink "java/lang/NullPointerException" (1 : Nat) ({ cls := "java/lang/RuntimeException", name := "<init>", desc := "()V" } : Jvm.MethodName)) ∈ lw_all := lw_g (lw_at lw_m4 91 rfl) rfl
theorem q865 : (Jvm.Cond.fieldLink "java/lang/NullPointerException" (10 : Nat) "java/lang/NullPointerException" "extendedMessageState" "I") ∈ lw_all := lw_g (lw_at lw_m4 98 rfl) rfl
theorem q866 : (Jvm.Cond.fieldLink "java/lang/NullPointerException" (20 : Nat) "java/lang/NullPointerException" "extendedMessage" "Ljava/lang/String;") ∈ lw_all := lw_g (lw_at lw_m4 99 rfl) rfl
theorem q867 : (Jvm.Cond.lays "java/lang/NullPointerException" "java/lang/NullPointerException" "extendedMessageState" "I") ∈ lw_all := lw_g (lw_at lw_m4 100 rfl) rfl
theorem q868 : (Jvm.Cond.soleField "java/lang/NullPointerException" "extendedMessageState") ∈ lw_all := lw_g (lw_at lw_m4 101 rfl) rfl
theorem q869 : (Jvm.Cond.lays "java/lang/NullPointerException" "java/lang/NullPointerException" "extendedMessage" "Ljava/lang/String;") ∈ lw_all := lw_g (lw_at lw_m4 102 rfl) rfl
theorem q870 : (Jvm.Cond.soleField "java/lang/NullPointerException" "extendedMessage") ∈ lw_all := lw_g (lw_at lw_m4 103 rfl) rfl
theorem q871 : (Jvm.Cond.lays "java/lang/NullPointerException" "java/lang/Throwable" "backtrace" "Ljava/lang/Object;") ∈ lw_all := lw_g (lw_at lw_m4 104 rfl) rfl
theorem q872 : (Jvm.Cond.lays "java/lang/NullPointerException" "java/lang/Throwable" "detailMessage" "Ljava/lang/String;") ∈ lw_all := lw_g (lw_at lw_m4 105 rfl) rfl
theorem q873 : (Jvm.Cond.lays "java/lang/NullPointerException" "java/lang/Throwable" "cause" "Ljava/lang/Throwable;") ∈ lw_all := lw_g (lw_at lw_m4 106 rfl) rfl
theorem q874 : (Jvm.Cond.lays "java/lang/NullPointerException" "java/lang/Throwable" "stackTrace" "[Ljava/lang/StackTraceElement;") ∈ lw_all := lw_g (lw_at lw_m4 107 rfl) rfl
theorem q875 : (Jvm.Cond.lays "java/lang/NullPointerException" "java/lang/Throwable" "depth" "I") ∈ lw_all := lw_g (lw_at lw_m4 108 rfl) rfl
theorem q876 : (Jvm.Cond.lays "java/lang/NullPointerException" "java/lang/Throwable" "suppressedExceptions" "Ljava/util/List;") ∈ lw_all := lw_g (lw_at lw_m4 109 rfl) rfl
theorem q877 : (Jvm.Cond.castable "java/lang/NullPointerException" "java/lang/NullPointerException") ∈ lw_tbl := lw_at lw_m4 110 rfl
theorem q878 : (Jvm.Cond.selects "java/lang/NullPointerException" ({ cls := "java/lang/Throwable", name := "fillInStackTrace", desc := "(I)Ljava/lang/Throwable;" } : Jvm.MethodName) ({ cls := "java/lang/Throwable", name := "fillInStackTrace", desc := "(I)Ljava/lang/Throwable;" } : Jvm.MethodName)) ∈ lw_all := lw_g (lw_at lw_m4 111 rfl) rfl
theorem q1441 : (Jvm.Cond.castable "java/lang/NullPointerException" "java/lang/Object") ∈ lw_tbl := lw_at lw_m6 194 rfl
theorem in_J15 : ∀ w ∈ wsJ150, w ∈ lw_all := lw_in wsJ150 [871, 872, 873, 874, 875, 876, 867, 869] (by decide +kernel) (by decide +kernel)

/-! java/lang/ClassCastException -/
set_option maxRecDepth 100000
def RJ16 : String := "java/lang/ClassCastException"
def TJ16 : u_T := fun k => match k with
  | 0 => ("java/lang/Throwable", "backtrace", "Ljava/lang/Object;", false)
  | 1 => ("java/lang/Throwable", "detailMessage", "Ljava/lang/String;", false)
  | 2 => ("java/lang/Throwable", "cause", "Ljava/lang/Throwable;", false)
  | 3 => ("java/lang/Throwable", "stackTrace", "[Ljava/lang/StackTraceElement;", false)
  | 4 => ("java/lang/Throwable", "depth", "I", false)
  | _ => ("java/lang/Throwable", "suppressedExceptions", "Ljava/util/List;", false)
def tyJ16 : Nat → FieldType := fun k => match k with
  | 0 => .object "java/lang/Object"
  | 1 => .object "java/lang/String"
  | 2 => .object "java/lang/Throwable"
  | 3 => .array (.object "java/lang/StackTraceElement")
  | 4 => .int
  | _ => .object "java/util/List"
abbrev wsJ160 : List Cond := u_ws RJ16 TJ16 6
theorem nmJ16 : ∀ a, a < 6 → ∀ b, b < 6 → a ≠ b → (TJ16 a).2.1 ≠ (TJ16 b).2.1 := by decide +kernel
theorem tyJ16_ok : ∀ k, k < 6 → parseFieldDescriptor (TJ16 k).2.2.1 = some (tyJ16 k) := by decide +kernel
abbrev cJ16_init : ByteArray := prog_14_method_2_code
def yJ16_init : MethodName := ⟨RJ16, "<init>", "(Ljava/lang/String;)V"⟩
def dkwJ16_init_0 : List UInt8 := [42, 43, 183, 0, 7, 177]
abbrev dktJ16_init_0 : List UInt8 := dkwJ16_init_0 ++ []
theorem dksJ16_init_0 : cJ16_init.data.toList.drop 0 = dktJ16_init_0 := by decide +kernel
theorem dJ16_init_0 : decode cJ16_init 0 = .ok (.aload_n 0, 1) := dk_42 (dk_at dksJ16_init_0 0 rfl rfl)
theorem dJ16_init_1 : decode cJ16_init 1 = .ok (.aload_n 1, 1) := dk_43 (dk_at dksJ16_init_0 1 rfl rfl)
theorem dJ16_init_2 : decode cJ16_init 2 = .ok (.invokespecial 7, 3) := dk_183 0 7 (dk_at dksJ16_init_0 2 rfl rfl)
theorem dJ16_init_5 : decode cJ16_init 5 = .ok (.return_, 1) := dk_177 (dk_at dksJ16_init_0 5 rfl rfl)
theorem q74 : (Jvm.Cond.initialized "java/lang/ClassCastException") ∈ lw_all := lw_g (lw_at lw_m1 27 rfl) rfl
theorem q630 : (Jvm.Cond.selects "java/lang/ClassCastException" ({ cls := "java/lang/Object", name := "getClass", desc := "()Ljava/lang/Class;" } : Jvm.MethodName) ({ cls := "java/lang/Object", name := "getClass", desc := "()Ljava/lang/Class;" } : Jvm.MethodName)) ∈ lw_all := lw_g (lw_at lw_m3 103 rfl) rfl
theorem q754 : (Jvm.Cond.selects "java/lang/ClassCastException" ({ cls := "java/lang/Throwable", name := "fillInStackTrace", desc := "()Ljava/lang/Throwable;" } : Jvm.MethodName) ({ cls := "java/lang/Throwable", name := "fillInStackTrace", desc := "()Ljava/lang/Throwable;" } : Jvm.MethodName)) ∈ lw_all := lw_g (lw_at lw_m3 227 rfl) rfl
theorem q881 : (Jvm.Cond.instantiable "java/lang/ClassCastException" (6 : Nat)) ∈ lw_all := lw_g (lw_at lw_m4 114 rfl) rfl
theorem q882 : (Jvm.Cond.instanceMethod ({ cls := "java/lang/ClassCastException", name := "<init>", desc := "(Ljava/lang/String;)V" } : Jvm.MethodName)) ∈ lw_all := lw_g (lw_at lw_m4 115 rfl) rfl
theorem q883 : (Jvm.Cond.code ({ cls := "java/lang/ClassCastException", name := "<init>", desc := "(Ljava/lang/String;)V" } : Jvm.MethodName) prog_14_method_2_code (2 : Nat) (Option.none : Option Jvm.ClassFile.FieldType)) ∈ lw_all := lw_g (lw_at lw_m4 116 rfl) rfl
theorem q884 : (Jvm.Cond.methodLink "java/lang/ClassCastException" (7 : Nat) ({ cls := "java/lang/RuntimeException", name := "<init>", desc := "(Ljava/lang/String;)V" } : Jvm.MethodName)) ∈ lw_all := lw_g (lw_at lw_m4 117 rfl) rfl
theorem q885 : (Jvm.Cond.lays "java/lang/ClassCastException" "java/lang/Throwable" "backtrace" "Ljava/lang/Object;") ∈ lw_all := lw_g (lw_at lw_m4 118 rfl) rfl
theorem q886 : (Jvm.Cond.lays "java/lang/ClassCastException" "java/lang/Throwable" "detailMessage" "Ljava/lang/String;") ∈ lw_all := lw_g (lw_at lw_m4 119 rfl) rfl
theorem q887 : (Jvm.Cond.lays "java/lang/ClassCastException" "java/lang/Throwable" "cause" "Ljava/lang/Throwable;") ∈ lw_all := lw_g (lw_at lw_m4 120 rfl) rfl
theorem q888 : (Jvm.Cond.lays "java/lang/ClassCastException" "java/lang/Throwable" "stackTrace" "[Ljava/lang/StackTraceElement;") ∈ lw_all := lw_g (lw_at lw_m4 121 rfl) rfl
theorem q889 : (Jvm.Cond.lays "java/lang/ClassCastException" "java/lang/Throwable" "depth" "I") ∈ lw_all := lw_g (lw_at lw_m4 122 rfl) rfl
theorem q890 : (Jvm.Cond.lays "java/lang/ClassCastException" "java/lang/Throwable" "suppressedExceptions" "Ljava/util/List;") ∈ lw_all := lw_g (lw_at lw_m4 123 rfl) rfl
theorem q891 : (Jvm.Cond.superclass "java/lang/ClassCastException" "java/lang/RuntimeException") ∈ lw_all := lw_g (lw_at lw_m4 124 rfl) rfl
theorem q892 : (Jvm.Cond.castable "java/lang/ClassCastException" "java/lang/ClassCastException") ∈ lw_tbl := lw_at lw_m4 125 rfl
theorem q893 : (Jvm.Cond.selects "java/lang/ClassCastException" ({ cls := "java/lang/Throwable", name := "fillInStackTrace", desc := "(I)Ljava/lang/Throwable;" } : Jvm.MethodName) ({ cls := "java/lang/Throwable", name := "fillInStackTrace", desc := "(I)Ljava/lang/Throwable;" } : Jvm.MethodName)) ∈ lw_all := lw_g (lw_at lw_m4 126 rfl) rfl
theorem q1442 : (Jvm.Cond.castable "java/lang/ClassCastException" "java/lang/Object") ∈ lw_tbl := lw_at lw_m6 195 rfl
theorem in_J16 : ∀ w ∈ wsJ160, w ∈ lw_all := lw_in wsJ160 [885, 886, 887, 888, 889, 890] (by decide +kernel) (by decide +kernel)

/-! java/lang/IndexOutOfBoundsException -/
set_option maxRecDepth 100000
def RJ17 : String := "java/lang/IndexOutOfBoundsException"
abbrev cJ17_init : ByteArray := prog_19_method_2_code
def yJ17_init : MethodName := ⟨RJ17, "<init>", "(Ljava/lang/String;)V"⟩
def dkwJ17_init_0 : List UInt8 := [42, 43, 183, 0, 7, 177]
abbrev dktJ17_init_0 : List UInt8 := dkwJ17_init_0 ++ []
theorem dksJ17_init_0 : cJ17_init.data.toList.drop 0 = dktJ17_init_0 := by decide +kernel
theorem dJ17_init_0 : decode cJ17_init 0 = .ok (.aload_n 0, 1) := dk_42 (dk_at dksJ17_init_0 0 rfl rfl)
theorem dJ17_init_1 : decode cJ17_init 1 = .ok (.aload_n 1, 1) := dk_43 (dk_at dksJ17_init_0 1 rfl rfl)
theorem dJ17_init_2 : decode cJ17_init 2 = .ok (.invokespecial 7, 3) := dk_183 0 7 (dk_at dksJ17_init_0 2 rfl rfl)
theorem dJ17_init_5 : decode cJ17_init 5 = .ok (.return_, 1) := dk_177 (dk_at dksJ17_init_0 5 rfl rfl)
theorem q75 : (Jvm.Cond.initialized "java/lang/IndexOutOfBoundsException") ∈ lw_all := lw_g (lw_at lw_m1 28 rfl) rfl
theorem q828 : (Jvm.Cond.instanceMethod ({ cls := "java/lang/IndexOutOfBoundsException", name := "<init>", desc := "(Ljava/lang/String;)V" } : Jvm.MethodName)) ∈ lw_all := lw_g (lw_at lw_m4 61 rfl) rfl
theorem q829 : (Jvm.Cond.code ({ cls := "java/lang/IndexOutOfBoundsException", name := "<init>", desc := "(Ljava/lang/String;)V" } : Jvm.MethodName) prog_19_method_2_code (2 : Nat) (Option.none : Option Jvm.ClassFile.FieldType)) ∈ lw_all := lw_g (lw_at lw_m4 62 rfl) rfl
theorem q830 : (Jvm.Cond.methodLink "java/lang/IndexOutOfBoundsException" (7 : Nat) ({ cls := "java/lang/RuntimeException", name := "<init>", desc := "(Ljava/lang/String;)V" } : Jvm.MethodName)) ∈ lw_all := lw_g (lw_at lw_m4 63 rfl) rfl
theorem q839 : (Jvm.Cond.declares ({ cls := "java/lang/IndexOutOfBoundsException", name := "<init>", desc := "()V" } : Jvm.MethodName)) ∈ lw_tbl := lw_at lw_m4 72 rfl
theorem q840 : (Jvm.Cond.declares ({ cls := "java/lang/IndexOutOfBoundsException", name := "<init>", desc := "(Ljava/lang/String;)V" } : Jvm.MethodName)) ∈ lw_tbl := lw_at lw_m4 73 rfl

/-! java/lang/ArrayIndexOutOfBoundsException -/
set_option maxRecDepth 100000
def RJ18 : String := "java/lang/ArrayIndexOutOfBoundsException"
def TJ18 : u_T := fun k => match k with
  | 0 => ("java/lang/Throwable", "backtrace", "Ljava/lang/Object;", false)
  | 1 => ("java/lang/Throwable", "detailMessage", "Ljava/lang/String;", false)
  | 2 => ("java/lang/Throwable", "cause", "Ljava/lang/Throwable;", false)
  | 3 => ("java/lang/Throwable", "stackTrace", "[Ljava/lang/StackTraceElement;", false)
  | 4 => ("java/lang/Throwable", "depth", "I", false)
  | _ => ("java/lang/Throwable", "suppressedExceptions", "Ljava/util/List;", false)
def tyJ18 : Nat → FieldType := fun k => match k with
  | 0 => .object "java/lang/Object"
  | 1 => .object "java/lang/String"
  | 2 => .object "java/lang/Throwable"
  | 3 => .array (.object "java/lang/StackTraceElement")
  | 4 => .int
  | _ => .object "java/util/List"
abbrev wsJ180 : List Cond := u_ws RJ18 TJ18 6
theorem nmJ18 : ∀ a, a < 6 → ∀ b, b < 6 → a ≠ b → (TJ18 a).2.1 ≠ (TJ18 b).2.1 := by decide +kernel
theorem tyJ18_ok : ∀ k, k < 6 → parseFieldDescriptor (TJ18 k).2.2.1 = some (tyJ18 k) := by decide +kernel
abbrev cJ18_init : ByteArray := prog_13_method_2_code
def yJ18_init : MethodName := ⟨RJ18, "<init>", "(Ljava/lang/String;)V"⟩
def dkwJ18_init_0 : List UInt8 := [42, 43, 183, 0, 7, 177]
abbrev dktJ18_init_0 : List UInt8 := dkwJ18_init_0 ++ []
theorem dksJ18_init_0 : cJ18_init.data.toList.drop 0 = dktJ18_init_0 := by decide +kernel
theorem dJ18_init_0 : decode cJ18_init 0 = .ok (.aload_n 0, 1) := dk_42 (dk_at dksJ18_init_0 0 rfl rfl)
theorem dJ18_init_1 : decode cJ18_init 1 = .ok (.aload_n 1, 1) := dk_43 (dk_at dksJ18_init_0 1 rfl rfl)
theorem dJ18_init_2 : decode cJ18_init 2 = .ok (.invokespecial 7, 3) := dk_183 0 7 (dk_at dksJ18_init_0 2 rfl rfl)
theorem dJ18_init_5 : decode cJ18_init 5 = .ok (.return_, 1) := dk_177 (dk_at dksJ18_init_0 5 rfl rfl)
theorem q76 : (Jvm.Cond.initialized "java/lang/ArrayIndexOutOfBoundsException") ∈ lw_all := lw_g (lw_at lw_m1 29 rfl) rfl
theorem q629 : (Jvm.Cond.selects "java/lang/ArrayIndexOutOfBoundsException" ({ cls := "java/lang/Object", name := "getClass", desc := "()Ljava/lang/Class;" } : Jvm.MethodName) ({ cls := "java/lang/Object", name := "getClass", desc := "()Ljava/lang/Class;" } : Jvm.MethodName)) ∈ lw_all := lw_g (lw_at lw_m3 102 rfl) rfl
theorem q753 : (Jvm.Cond.selects "java/lang/ArrayIndexOutOfBoundsException" ({ cls := "java/lang/Throwable", name := "fillInStackTrace", desc := "()Ljava/lang/Throwable;" } : Jvm.MethodName) ({ cls := "java/lang/Throwable", name := "fillInStackTrace", desc := "()Ljava/lang/Throwable;" } : Jvm.MethodName)) ∈ lw_all := lw_g (lw_at lw_m3 226 rfl) rfl
theorem q824 : (Jvm.Cond.instantiable "java/lang/ArrayIndexOutOfBoundsException" (6 : Nat)) ∈ lw_all := lw_g (lw_at lw_m4 57 rfl) rfl
theorem q825 : (Jvm.Cond.instanceMethod ({ cls := "java/lang/ArrayIndexOutOfBoundsException", name := "<init>", desc := "(Ljava/lang/String;)V" } : Jvm.MethodName)) ∈ lw_all := lw_g (lw_at lw_m4 58 rfl) rfl
theorem q826 : (Jvm.Cond.code ({ cls := "java/lang/ArrayIndexOutOfBoundsException", name := "<init>", desc := "(Ljava/lang/String;)V" } : Jvm.MethodName) prog_13_method_2_code (2 : Nat) (Option.none : Option Jvm.ClassFile.FieldType)) ∈ lw_all := lw_g (lw_at lw_m4 59 rfl) rfl
theorem q827 : (Jvm.Cond.methodLink "java/lang/ArrayIndexOutOfBoundsException" (7 : Nat) ({ cls := "java/lang/IndexOutOfBoundsException", name := "<init>", desc := "(Ljava/lang/String;)V" } : Jvm.MethodName)) ∈ lw_all := lw_g (lw_at lw_m4 60 rfl) rfl
theorem q831 : (Jvm.Cond.lays "java/lang/ArrayIndexOutOfBoundsException" "java/lang/Throwable" "backtrace" "Ljava/lang/Object;") ∈ lw_all := lw_g (lw_at lw_m4 64 rfl) rfl
theorem q832 : (Jvm.Cond.lays "java/lang/ArrayIndexOutOfBoundsException" "java/lang/Throwable" "detailMessage" "Ljava/lang/String;") ∈ lw_all := lw_g (lw_at lw_m4 65 rfl) rfl
theorem q833 : (Jvm.Cond.lays "java/lang/ArrayIndexOutOfBoundsException" "java/lang/Throwable" "cause" "Ljava/lang/Throwable;") ∈ lw_all := lw_g (lw_at lw_m4 66 rfl) rfl
theorem q834 : (Jvm.Cond.lays "java/lang/ArrayIndexOutOfBoundsException" "java/lang/Throwable" "stackTrace" "[Ljava/lang/StackTraceElement;") ∈ lw_all := lw_g (lw_at lw_m4 67 rfl) rfl
theorem q835 : (Jvm.Cond.lays "java/lang/ArrayIndexOutOfBoundsException" "java/lang/Throwable" "depth" "I") ∈ lw_all := lw_g (lw_at lw_m4 68 rfl) rfl
theorem q836 : (Jvm.Cond.lays "java/lang/ArrayIndexOutOfBoundsException" "java/lang/Throwable" "suppressedExceptions" "Ljava/util/List;") ∈ lw_all := lw_g (lw_at lw_m4 69 rfl) rfl
theorem q837 : (Jvm.Cond.superclass "java/lang/ArrayIndexOutOfBoundsException" "java/lang/IndexOutOfBoundsException") ∈ lw_all := lw_g (lw_at lw_m4 70 rfl) rfl
theorem q838 : (Jvm.Cond.castable "java/lang/ArrayIndexOutOfBoundsException" "java/lang/ArrayIndexOutOfBoundsException") ∈ lw_tbl := lw_at lw_m4 71 rfl
theorem q841 : (Jvm.Cond.selects "java/lang/ArrayIndexOutOfBoundsException" ({ cls := "java/lang/Throwable", name := "fillInStackTrace", desc := "(I)Ljava/lang/Throwable;" } : Jvm.MethodName) ({ cls := "java/lang/Throwable", name := "fillInStackTrace", desc := "(I)Ljava/lang/Throwable;" } : Jvm.MethodName)) ∈ lw_all := lw_g (lw_at lw_m4 74 rfl) rfl
theorem q1421 : (Jvm.Cond.castable "java/lang/ArrayIndexOutOfBoundsException" "java/lang/IndexOutOfBoundsException") ∈ lw_tbl := lw_at lw_m6 174 rfl
theorem q1443 : (Jvm.Cond.castable "java/lang/ArrayIndexOutOfBoundsException" "java/lang/Object") ∈ lw_tbl := lw_at lw_m6 196 rfl
theorem in_J18 : ∀ w ∈ wsJ180, w ∈ lw_all := lw_in wsJ180 [831, 832, 833, 834, 835, 836] (by decide +kernel) (by decide +kernel)

/-! java/lang/Object -/
set_option maxRecDepth 100000
def RJ19 : String := "java/lang/Object"
abbrev cJ19_init : ByteArray := object_method_1_code
def yJ19_init : MethodName := ⟨RJ19, "<init>", "()V"⟩
theorem dJ19_init_0 : decode cJ19_init 0 = .ok (.return_, 1) := by decide +kernel
theorem q104 : (Jvm.Cond.instanceMethod ({ cls := "java/lang/Object", name := "<init>", desc := "()V" } : Jvm.MethodName)) ∈ lw_all := lw_g (lw_at lw_m1 57 rfl) rfl
theorem q105 : (Jvm.Cond.code ({ cls := "java/lang/Object", name := "<init>", desc := "()V" } : Jvm.MethodName) object_method_1_code (1 : Nat) (Option.none : Option Jvm.ClassFile.FieldType)) ∈ lw_all := lw_g (lw_at lw_m1 58 rfl) rfl
theorem q618 : (Jvm.Cond.instanceMethod ({ cls := "java/lang/Object", name := "getClass", desc := "()Ljava/lang/Class;" } : Jvm.MethodName)) ∈ lw_all := lw_g (lw_at lw_m3 91 rfl) rfl
theorem q619 : (Jvm.Cond.sameMethod "java/lang/Object" "java/lang/Object" "getClass" "()Ljava/lang/Class;") ∈ lw_all := lw_g (lw_at lw_m3 92 rfl) rfl
theorem q636 : (Jvm.Cond.native ({ cls := "java/lang/Object", name := "getClass", desc := "()Ljava/lang/Class;" } : Jvm.MethodName)) ∈ lw_all := lw_g (lw_at lw_m3 109 rfl) rfl
theorem q1449 : (Jvm.Cond.declares ({ cls := "java/lang/Object", name := "getClass", desc := "()Ljava/lang/Class;" } : Jvm.MethodName)) ∈ lw_tbl := lw_at lw_m6 202 rfl

theorem q1455 : (Jvm.Cond.castable "[B" "java/lang/Object") ∈ lw_tbl := lw_at lw_m6 208 rfl
set_option maxRecDepth 100000

theorem q1451 : (Jvm.Cond.castable "[I" "java/lang/Object") ∈ lw_tbl := lw_at lw_m6 204 rfl
set_option maxRecDepth 100000

theorem q1450 : (Jvm.Cond.castable "[J" "java/lang/Object") ∈ lw_tbl := lw_at lw_m6 203 rfl
set_option maxRecDepth 100000

theorem q1453 : (Jvm.Cond.castable "[LWordBench$Code;" "java/lang/Object") ∈ lw_tbl := lw_at lw_m6 206 rfl
set_option maxRecDepth 100000

theorem q1447 : (Jvm.Cond.sameMethod "[Ljava/lang/Object;" "java/lang/Object" "getClass" "()Ljava/lang/Class;") ∈ lw_all := lw_g (lw_at lw_m6 200 rfl) rfl
set_option maxRecDepth 100000
theorem q1448 : (Jvm.Cond.selects "[Ljava/lang/Object;" ({ cls := "java/lang/Object", name := "getClass", desc := "()Ljava/lang/Class;" } : Jvm.MethodName) ({ cls := "java/lang/Object", name := "getClass", desc := "()Ljava/lang/Class;" } : Jvm.MethodName)) ∈ lw_all := lw_g (lw_at lw_m6 201 rfl) rfl
theorem q1454 : (Jvm.Cond.castable "[Ljava/lang/Object;" "java/lang/Object") ∈ lw_tbl := lw_at lw_m6 207 rfl

theorem q1452 : (Jvm.Cond.castable "[[I" "java/lang/Object") ∈ lw_tbl := lw_at lw_m6 205 rfl
set_option maxRecDepth 100000

theorem q56 : (Jvm.Cond.initialized "java/lang/System") ∈ lw_all := lw_g (lw_at lw_m1 9 rfl) rfl
set_option maxRecDepth 100000
theorem q247 : (Jvm.Cond.static ({ cls := "java/lang/System", name := "arraycopy", desc := "(Ljava/lang/Object;ILjava/lang/Object;II)V" } : Jvm.MethodName)) ∈ lw_all := lw_g (lw_at lw_m1 200 rfl) rfl
theorem q248 : (Jvm.Cond.native ({ cls := "java/lang/System", name := "arraycopy", desc := "(Ljava/lang/Object;ILjava/lang/Object;II)V" } : Jvm.MethodName)) ∈ lw_all := lw_g (lw_at lw_m1 201 rfl) rfl

theorem q151 : (Jvm.Cond.arrayClass Jvm.ClassFile.FieldType.long) ∈ lw_all := lw_g (lw_at lw_m1 104 rfl) rfl
set_option maxRecDepth 100000
theorem q245 : (Jvm.Cond.arrayClass Jvm.ClassFile.FieldType.int) ∈ lw_all := lw_g (lw_at lw_m1 198 rfl) rfl
theorem q286 : (Jvm.Cond.arrayOver (Jvm.ClassFile.FieldType.array Jvm.ClassFile.FieldType.int)) ∈ lw_tbl := lw_at lw_m1 239 rfl
theorem q551 : (Jvm.Cond.arrayOver (Jvm.ClassFile.FieldType.object "WordBench$Code")) ∈ lw_tbl := lw_at lw_m3 24 rfl
theorem q641 : (Jvm.Cond.arrayOver (Jvm.ClassFile.FieldType.object "java/lang/Object")) ∈ lw_tbl := lw_at lw_m3 114 rfl
theorem q726 : (Jvm.Cond.arrayClass Jvm.ClassFile.FieldType.byte) ∈ lw_all := lw_g (lw_at lw_m3 199 rfl) rfl

