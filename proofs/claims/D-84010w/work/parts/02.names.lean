/-! LazyForgeLaw -/
set_option maxRecDepth 100000
def RX0 : String := "LazyForgeLaw"
abbrev cX0_put : ByteArray := method_3_code
def yX0_put : MethodName := ⟨RX0, "put", "(LLazyForge;I[J)I"⟩
abbrev cX0_end : ByteArray := method_4_code
def yX0_end : MethodName := ⟨RX0, "end", "(LLazyForge;I)I"⟩
abbrev cX0_program : ByteArray := method_5_code
def yX0_program : MethodName := ⟨RX0, "program", "(LLazyForge;[J)I"⟩
abbrev cX0_fault : ByteArray := method_6_code
def yX0_fault : MethodName := ⟨RX0, "fault", "(LLazyForge;I[J)I"⟩
abbrev cX0_write : ByteArray := method_7_code
def yX0_write : MethodName := ⟨RX0, "write", "(LLazyForge;[J)I"⟩
abbrev cX0_letter : ByteArray := method_8_code
def yX0_letter : MethodName := ⟨RX0, "letter", "(LLazyForge;I[J)I"⟩
abbrev cX0_function : ByteArray := method_9_code
def yX0_function : MethodName := ⟨RX0, "function", "(LLazyForge;II[J)I"⟩
abbrev cX0_needs : ByteArray := method_10_code
def yX0_needs : MethodName := ⟨RX0, "needs", "(LLazyForge;II[J)I"⟩
abbrev cX0_bit : ByteArray := method_11_code
def yX0_bit : MethodName := ⟨RX0, "bit", "(LLazyForge;II[J)I"⟩
abbrev cX0_run : ByteArray := method_12_code
def yX0_run : MethodName := ⟨RX0, "run", "(LLazyForge;ZI[J)I"⟩
abbrev cX0_result : ByteArray := method_13_code
def yX0_result : MethodName := ⟨RX0, "result", "(LLazyForge;I[J)I"⟩
abbrev cX0_number : ByteArray := method_14_code
def yX0_number : MethodName := ⟨RX0, "number", "(LLazyForge;I[J)I"⟩
abbrev cX0_called : ByteArray := method_15_code
def yX0_called : MethodName := ⟨RX0, "called", "(LLazyForge;I[J)I"⟩
abbrev cX0_about : ByteArray := method_16_code
def yX0_about : MethodName := ⟨RX0, "about", "(LLazyForge;I[J)I"⟩
theorem q162 : (Jvm.Cond.initialized "LazyForgeLaw") ∈ lw_all := lw_g (lw_at lw_m1 0 rfl) rfl
theorem q210 : (Jvm.Cond.classLink "LazyForgeLaw" (8 : Nat) "LazyForge") ∈ lw_all := lw_g (lw_at lw_m1 48 rfl) rfl
theorem q212 : (Jvm.Cond.methodLink "LazyForgeLaw" (65 : Nat) ({ cls := "LazyForge", name := "<init>", desc := "()V" } : Jvm.MethodName)) ∈ lw_all := lw_g (lw_at lw_m1 50 rfl) rfl
theorem q475 : (Jvm.Cond.methodLink "LazyForgeLaw" (82 : Nat) ({ cls := "LazyForge", name := "take", desc := "()I" } : Jvm.MethodName)) ∈ lw_all := lw_g (lw_at lw_m2 73 rfl) rfl
theorem q482 : (Jvm.Cond.methodLink "LazyForgeLaw" (69 : Nat) ({ cls := "LazyForgeLaw", name := "put", desc := "(LLazyForge;I[J)I" } : Jvm.MethodName)) ∈ lw_all := lw_g (lw_at lw_m2 80 rfl) rfl
theorem q483 : (Jvm.Cond.static ({ cls := "LazyForgeLaw", name := "put", desc := "(LLazyForge;I[J)I" } : Jvm.MethodName)) ∈ lw_all := lw_g (lw_at lw_m2 81 rfl) rfl
theorem q484 : (Jvm.Cond.codeWith ({ cls := "LazyForgeLaw", name := "put", desc := "(LLazyForge;I[J)I" } : Jvm.MethodName) method_3_code (4 : Nat) (Option.some Jvm.ClassFile.FieldType.int) [((0 : Nat), (9 : Nat), (12 : Nat), (13 : Nat)), ((0 : Nat), (9 : Nat), (15 : Nat), (15 : Nat))]) ∈ lw_all := lw_g (lw_at lw_m2 82 rfl) rfl
theorem q485 : (Jvm.Cond.classLink "LazyForgeLaw" (13 : Nat) "java/lang/IllegalArgumentException") ∈ lw_all := lw_g (lw_at lw_m2 83 rfl) rfl
theorem q486 : (Jvm.Cond.classLink "LazyForgeLaw" (15 : Nat) "java/lang/UnsupportedOperationException") ∈ lw_all := lw_g (lw_at lw_m2 84 rfl) rfl
theorem q487 : (Jvm.Cond.methodLink "LazyForgeLaw" (7 : Nat) ({ cls := "LazyForge", name := "put", desc := "(I)I" } : Jvm.MethodName)) ∈ lw_all := lw_g (lw_at lw_m2 85 rfl) rfl
theorem q572 : (Jvm.Cond.methodLink "LazyForgeLaw" (78 : Nat) ({ cls := "LazyForgeLaw", name := "end", desc := "(LLazyForge;I)I" } : Jvm.MethodName)) ∈ lw_all := lw_g (lw_at lw_m2 170 rfl) rfl
theorem q573 : (Jvm.Cond.static ({ cls := "LazyForgeLaw", name := "end", desc := "(LLazyForge;I)I" } : Jvm.MethodName)) ∈ lw_all := lw_g (lw_at lw_m2 171 rfl) rfl
theorem q574 : (Jvm.Cond.codeWith ({ cls := "LazyForgeLaw", name := "end", desc := "(LLazyForge;I)I" } : Jvm.MethodName) method_4_code (3 : Nat) (Option.some Jvm.ClassFile.FieldType.int) [((0 : Nat), (5 : Nat), (8 : Nat), (13 : Nat))]) ∈ lw_all := lw_g (lw_at lw_m2 172 rfl) rfl
theorem q575 : (Jvm.Cond.methodLink "LazyForgeLaw" (17 : Nat) ({ cls := "LazyForge", name := "end", desc := "(I)V" } : Jvm.MethodName)) ∈ lw_all := lw_g (lw_at lw_m2 173 rfl) rfl
theorem q579 : (Jvm.Cond.methodLink "LazyForgeLaw" (86 : Nat) ({ cls := "LazyForgeLaw", name := "program", desc := "(LLazyForge;[J)I" } : Jvm.MethodName)) ∈ lw_all := lw_g (lw_at lw_m2 177 rfl) rfl
theorem q580 : (Jvm.Cond.static ({ cls := "LazyForgeLaw", name := "program", desc := "(LLazyForge;[J)I" } : Jvm.MethodName)) ∈ lw_all := lw_g (lw_at lw_m2 178 rfl) rfl
theorem q581 : (Jvm.Cond.codeWith ({ cls := "LazyForgeLaw", name := "program", desc := "(LLazyForge;[J)I" } : Jvm.MethodName) method_5_code (3 : Nat) (Option.some Jvm.ClassFile.FieldType.int) [((0 : Nat), (8 : Nat), (11 : Nat), (15 : Nat))]) ∈ lw_all := lw_g (lw_at lw_m2 179 rfl) rfl
theorem q582 : (Jvm.Cond.methodLink "LazyForgeLaw" (21 : Nat) ({ cls := "LazyForge", name := "program", desc := "()I" } : Jvm.MethodName)) ∈ lw_all := lw_g (lw_at lw_m2 180 rfl) rfl
theorem q1894 : (Jvm.Cond.methodLink "LazyForgeLaw" (90 : Nat) ({ cls := "LazyForgeLaw", name := "fault", desc := "(LLazyForge;I[J)I" } : Jvm.MethodName)) ∈ lw_all := lw_g (lw_at lw_m8 52 rfl) rfl
theorem q1895 : (Jvm.Cond.static ({ cls := "LazyForgeLaw", name := "fault", desc := "(LLazyForge;I[J)I" } : Jvm.MethodName)) ∈ lw_all := lw_g (lw_at lw_m8 53 rfl) rfl
theorem q1896 : (Jvm.Cond.codeWith ({ cls := "LazyForgeLaw", name := "fault", desc := "(LLazyForge;I[J)I" } : Jvm.MethodName) method_6_code (4 : Nat) (Option.some Jvm.ClassFile.FieldType.int) [((0 : Nat), (9 : Nat), (12 : Nat), (13 : Nat))]) ∈ lw_all := lw_g (lw_at lw_m8 54 rfl) rfl
theorem q1897 : (Jvm.Cond.methodLink "LazyForgeLaw" (25 : Nat) ({ cls := "LazyForge", name := "fault", desc := "(I)I" } : Jvm.MethodName)) ∈ lw_all := lw_g (lw_at lw_m8 55 rfl) rfl
theorem q1901 : (Jvm.Cond.methodLink "LazyForgeLaw" (93 : Nat) ({ cls := "LazyForgeLaw", name := "write", desc := "(LLazyForge;[J)I" } : Jvm.MethodName)) ∈ lw_all := lw_g (lw_at lw_m8 59 rfl) rfl
theorem q1902 : (Jvm.Cond.static ({ cls := "LazyForgeLaw", name := "write", desc := "(LLazyForge;[J)I" } : Jvm.MethodName)) ∈ lw_all := lw_g (lw_at lw_m8 60 rfl) rfl
theorem q1903 : (Jvm.Cond.codeWith ({ cls := "LazyForgeLaw", name := "write", desc := "(LLazyForge;[J)I" } : Jvm.MethodName) method_7_code (3 : Nat) (Option.some Jvm.ClassFile.FieldType.int) [((0 : Nat), (8 : Nat), (11 : Nat), (31 : Nat))]) ∈ lw_all := lw_g (lw_at lw_m8 61 rfl) rfl
theorem q1904 : (Jvm.Cond.classLink "LazyForgeLaw" (31 : Nat) "java/lang/IllegalStateException") ∈ lw_all := lw_g (lw_at lw_m8 62 rfl) rfl
theorem q1905 : (Jvm.Cond.methodLink "LazyForgeLaw" (28 : Nat) ({ cls := "LazyForge", name := "write", desc := "()I" } : Jvm.MethodName)) ∈ lw_all := lw_g (lw_at lw_m8 63 rfl) rfl
theorem q2058 : (Jvm.Cond.methodLink "LazyForgeLaw" (96 : Nat) ({ cls := "LazyForgeLaw", name := "letter", desc := "(LLazyForge;I[J)I" } : Jvm.MethodName)) ∈ lw_all := lw_g (lw_at lw_m8 216 rfl) rfl
theorem q2059 : (Jvm.Cond.static ({ cls := "LazyForgeLaw", name := "letter", desc := "(LLazyForge;I[J)I" } : Jvm.MethodName)) ∈ lw_all := lw_g (lw_at lw_m8 217 rfl) rfl
theorem q2060 : (Jvm.Cond.codeWith ({ cls := "LazyForgeLaw", name := "letter", desc := "(LLazyForge;I[J)I" } : Jvm.MethodName) method_8_code (4 : Nat) (Option.some Jvm.ClassFile.FieldType.int) [((0 : Nat), (9 : Nat), (12 : Nat), (36 : Nat))]) ∈ lw_all := lw_g (lw_at lw_m8 218 rfl) rfl
theorem q2061 : (Jvm.Cond.classLink "LazyForgeLaw" (36 : Nat) "java/lang/IndexOutOfBoundsException") ∈ lw_all := lw_g (lw_at lw_m8 219 rfl) rfl
theorem q2093 : (Jvm.Cond.methodLink "LazyForgeLaw" (33 : Nat) ({ cls := "LazyForge", name := "letter", desc := "(I)I" } : Jvm.MethodName)) ∈ lw_all := lw_g (lw_at lw_m9 11 rfl) rfl
theorem q2112 : (Jvm.Cond.methodLink "LazyForgeLaw" (99 : Nat) ({ cls := "LazyForgeLaw", name := "function", desc := "(LLazyForge;II[J)I" } : Jvm.MethodName)) ∈ lw_all := lw_g (lw_at lw_m9 30 rfl) rfl
theorem q2113 : (Jvm.Cond.static ({ cls := "LazyForgeLaw", name := "function", desc := "(LLazyForge;II[J)I" } : Jvm.MethodName)) ∈ lw_all := lw_g (lw_at lw_m9 31 rfl) rfl
theorem q2114 : (Jvm.Cond.codeWith ({ cls := "LazyForgeLaw", name := "function", desc := "(LLazyForge;II[J)I" } : Jvm.MethodName) method_9_code (5 : Nat) (Option.some Jvm.ClassFile.FieldType.int) [((0 : Nat), (10 : Nat), (13 : Nat), (31 : Nat)), ((0 : Nat), (10 : Nat), (17 : Nat), (36 : Nat)), ((0 : Nat), (10 : Nat), (21 : Nat), (13 : Nat))]) ∈ lw_all := lw_g (lw_at lw_m9 32 rfl) rfl
theorem q2115 : (Jvm.Cond.methodLink "LazyForgeLaw" (38 : Nat) ({ cls := "LazyForge", name := "function", desc := "(II)I" } : Jvm.MethodName)) ∈ lw_all := lw_g (lw_at lw_m9 33 rfl) rfl
theorem q2124 : (Jvm.Cond.methodLink "LazyForgeLaw" (103 : Nat) ({ cls := "LazyForgeLaw", name := "needs", desc := "(LLazyForge;II[J)I" } : Jvm.MethodName)) ∈ lw_all := lw_g (lw_at lw_m9 42 rfl) rfl
theorem q2125 : (Jvm.Cond.static ({ cls := "LazyForgeLaw", name := "needs", desc := "(LLazyForge;II[J)I" } : Jvm.MethodName)) ∈ lw_all := lw_g (lw_at lw_m9 43 rfl) rfl
theorem q2126 : (Jvm.Cond.codeWith ({ cls := "LazyForgeLaw", name := "needs", desc := "(LLazyForge;II[J)I" } : Jvm.MethodName) method_10_code (5 : Nat) (Option.some Jvm.ClassFile.FieldType.int) [((0 : Nat), (17 : Nat), (20 : Nat), (31 : Nat)), ((0 : Nat), (17 : Nat), (24 : Nat), (36 : Nat))]) ∈ lw_all := lw_g (lw_at lw_m9 44 rfl) rfl
theorem q2127 : (Jvm.Cond.methodLink "LazyForgeLaw" (42 : Nat) ({ cls := "LazyForge", name := "needs", desc := "(II)Z" } : Jvm.MethodName)) ∈ lw_all := lw_g (lw_at lw_m9 45 rfl) rfl
theorem q2135 : (Jvm.Cond.methodLink "LazyForgeLaw" (106 : Nat) ({ cls := "LazyForgeLaw", name := "bit", desc := "(LLazyForge;II[J)I" } : Jvm.MethodName)) ∈ lw_all := lw_g (lw_at lw_m9 53 rfl) rfl
theorem q2136 : (Jvm.Cond.static ({ cls := "LazyForgeLaw", name := "bit", desc := "(LLazyForge;II[J)I" } : Jvm.MethodName)) ∈ lw_all := lw_g (lw_at lw_m9 54 rfl) rfl
theorem q2137 : (Jvm.Cond.codeWith ({ cls := "LazyForgeLaw", name := "bit", desc := "(LLazyForge;II[J)I" } : Jvm.MethodName) method_11_code (5 : Nat) (Option.some Jvm.ClassFile.FieldType.int) [((0 : Nat), (10 : Nat), (13 : Nat), (31 : Nat)), ((0 : Nat), (10 : Nat), (17 : Nat), (36 : Nat)), ((0 : Nat), (10 : Nat), (21 : Nat), (13 : Nat))]) ∈ lw_all := lw_g (lw_at lw_m9 55 rfl) rfl
theorem q2138 : (Jvm.Cond.methodLink "LazyForgeLaw" (46 : Nat) ({ cls := "LazyForge", name := "bit", desc := "(II)I" } : Jvm.MethodName)) ∈ lw_all := lw_g (lw_at lw_m9 56 rfl) rfl
theorem q2142 : (Jvm.Cond.methodLink "LazyForgeLaw" (109 : Nat) ({ cls := "LazyForgeLaw", name := "run", desc := "(LLazyForge;ZI[J)I" } : Jvm.MethodName)) ∈ lw_all := lw_g (lw_at lw_m9 60 rfl) rfl
theorem q2143 : (Jvm.Cond.static ({ cls := "LazyForgeLaw", name := "run", desc := "(LLazyForge;ZI[J)I" } : Jvm.MethodName)) ∈ lw_all := lw_g (lw_at lw_m9 61 rfl) rfl
theorem q2144 : (Jvm.Cond.codeWith ({ cls := "LazyForgeLaw", name := "run", desc := "(LLazyForge;ZI[J)I" } : Jvm.MethodName) method_12_code (5 : Nat) (Option.some Jvm.ClassFile.FieldType.int) [((0 : Nat), (10 : Nat), (13 : Nat), (31 : Nat)), ((0 : Nat), (10 : Nat), (17 : Nat), (13 : Nat)), ((0 : Nat), (10 : Nat), (21 : Nat), (15 : Nat))]) ∈ lw_all := lw_g (lw_at lw_m9 62 rfl) rfl
theorem q2145 : (Jvm.Cond.methodLink "LazyForgeLaw" (49 : Nat) ({ cls := "LazyForge", name := "run", desc := "(ZI)I" } : Jvm.MethodName)) ∈ lw_all := lw_g (lw_at lw_m9 63 rfl) rfl
theorem q2466 : (Jvm.Cond.methodLink "LazyForgeLaw" (113 : Nat) ({ cls := "LazyForgeLaw", name := "result", desc := "(LLazyForge;I[J)I" } : Jvm.MethodName)) ∈ lw_all := lw_g (lw_at lw_m10 144 rfl) rfl
theorem q2467 : (Jvm.Cond.static ({ cls := "LazyForgeLaw", name := "result", desc := "(LLazyForge;I[J)I" } : Jvm.MethodName)) ∈ lw_all := lw_g (lw_at lw_m10 145 rfl) rfl
theorem q2468 : (Jvm.Cond.codeWith ({ cls := "LazyForgeLaw", name := "result", desc := "(LLazyForge;I[J)I" } : Jvm.MethodName) method_13_code (4 : Nat) (Option.some Jvm.ClassFile.FieldType.int) [((0 : Nat), (9 : Nat), (12 : Nat), (13 : Nat))]) ∈ lw_all := lw_g (lw_at lw_m10 146 rfl) rfl
theorem q2469 : (Jvm.Cond.methodLink "LazyForgeLaw" (53 : Nat) ({ cls := "LazyForge", name := "result", desc := "(I)I" } : Jvm.MethodName)) ∈ lw_all := lw_g (lw_at lw_m10 147 rfl) rfl
theorem q2473 : (Jvm.Cond.methodLink "LazyForgeLaw" (116 : Nat) ({ cls := "LazyForgeLaw", name := "number", desc := "(LLazyForge;I[J)I" } : Jvm.MethodName)) ∈ lw_all := lw_g (lw_at lw_m10 151 rfl) rfl
theorem q2474 : (Jvm.Cond.static ({ cls := "LazyForgeLaw", name := "number", desc := "(LLazyForge;I[J)I" } : Jvm.MethodName)) ∈ lw_all := lw_g (lw_at lw_m10 152 rfl) rfl
theorem q2475 : (Jvm.Cond.codeWith ({ cls := "LazyForgeLaw", name := "number", desc := "(LLazyForge;I[J)I" } : Jvm.MethodName) method_14_code (4 : Nat) (Option.some Jvm.ClassFile.FieldType.int) [((0 : Nat), (9 : Nat), (12 : Nat), (36 : Nat))]) ∈ lw_all := lw_g (lw_at lw_m10 153 rfl) rfl
theorem q2476 : (Jvm.Cond.methodLink "LazyForgeLaw" (56 : Nat) ({ cls := "LazyForge", name := "number", desc := "(I)I" } : Jvm.MethodName)) ∈ lw_all := lw_g (lw_at lw_m10 154 rfl) rfl
theorem q2480 : (Jvm.Cond.methodLink "LazyForgeLaw" (119 : Nat) ({ cls := "LazyForgeLaw", name := "called", desc := "(LLazyForge;I[J)I" } : Jvm.MethodName)) ∈ lw_all := lw_g (lw_at lw_m10 158 rfl) rfl
theorem q2481 : (Jvm.Cond.static ({ cls := "LazyForgeLaw", name := "called", desc := "(LLazyForge;I[J)I" } : Jvm.MethodName)) ∈ lw_all := lw_g (lw_at lw_m10 159 rfl) rfl
theorem q2482 : (Jvm.Cond.codeWith ({ cls := "LazyForgeLaw", name := "called", desc := "(LLazyForge;I[J)I" } : Jvm.MethodName) method_15_code (4 : Nat) (Option.some Jvm.ClassFile.FieldType.int) [((0 : Nat), (9 : Nat), (12 : Nat), (31 : Nat)), ((0 : Nat), (9 : Nat), (15 : Nat), (36 : Nat))]) ∈ lw_all := lw_g (lw_at lw_m10 160 rfl) rfl
theorem q2483 : (Jvm.Cond.methodLink "LazyForgeLaw" (59 : Nat) ({ cls := "LazyForge", name := "called", desc := "(I)I" } : Jvm.MethodName)) ∈ lw_all := lw_g (lw_at lw_m10 161 rfl) rfl
theorem q2487 : (Jvm.Cond.methodLink "LazyForgeLaw" (122 : Nat) ({ cls := "LazyForgeLaw", name := "about", desc := "(LLazyForge;I[J)I" } : Jvm.MethodName)) ∈ lw_all := lw_g (lw_at lw_m10 165 rfl) rfl
theorem q2488 : (Jvm.Cond.static ({ cls := "LazyForgeLaw", name := "about", desc := "(LLazyForge;I[J)I" } : Jvm.MethodName)) ∈ lw_all := lw_g (lw_at lw_m10 166 rfl) rfl
theorem q2489 : (Jvm.Cond.codeWith ({ cls := "LazyForgeLaw", name := "about", desc := "(LLazyForge;I[J)I" } : Jvm.MethodName) method_16_code (4 : Nat) (Option.some Jvm.ClassFile.FieldType.int) [((0 : Nat), (9 : Nat), (12 : Nat), (13 : Nat))]) ∈ lw_all := lw_g (lw_at lw_m10 167 rfl) rfl
theorem q2490 : (Jvm.Cond.methodLink "LazyForgeLaw" (62 : Nat) ({ cls := "LazyForge", name := "about", desc := "(I)I" } : Jvm.MethodName)) ∈ lw_all := lw_g (lw_at lw_m10 168 rfl) rfl
theorem q2494 : (Jvm.Cond.classLink "LazyForgeLaw" (66 : Nat) "LazyForgeModel") ∈ lw_all := lw_g (lw_at lw_m10 172 rfl) rfl
theorem q2496 : (Jvm.Cond.methodLink "LazyForgeLaw" (68 : Nat) ({ cls := "LazyForgeModel", name := "<init>", desc := "()V" } : Jvm.MethodName)) ∈ lw_all := lw_g (lw_at lw_m10 174 rfl) rfl
theorem q2913 : (Jvm.Cond.methodLink "LazyForgeLaw" (75 : Nat) ({ cls := "LazyForgeModel", name := "thrown", desc := "()I" } : Jvm.MethodName)) ∈ lw_all := lw_g (lw_at lw_m12 111 rfl) rfl
theorem q2917 : (Jvm.Cond.methodLink "LazyForgeLaw" (89 : Nat) ({ cls := "LazyForgeModel", name := "program", desc := "()I" } : Jvm.MethodName)) ∈ lw_all := lw_g (lw_at lw_m12 115 rfl) rfl
theorem q3229 : (Jvm.Cond.methodLink "LazyForgeLaw" (112 : Nat) ({ cls := "LazyForgeModel", name := "run", desc := "(ZI)I" } : Jvm.MethodName)) ∈ lw_all := lw_g (lw_at lw_m13 187 rfl) rfl
theorem q3352 : (Jvm.Cond.methodLink "LazyForgeLaw" (74 : Nat) ({ cls := "LazyForgeModel", name := "put", desc := "(I)I" } : Jvm.MethodName)) ∈ lw_all := lw_g (lw_at lw_m14 70 rfl) rfl
theorem q3356 : (Jvm.Cond.methodLink "LazyForgeLaw" (81 : Nat) ({ cls := "LazyForgeModel", name := "end", desc := "(I)V" } : Jvm.MethodName)) ∈ lw_all := lw_g (lw_at lw_m14 74 rfl) rfl
theorem q3360 : (Jvm.Cond.methodLink "LazyForgeLaw" (85 : Nat) ({ cls := "LazyForgeModel", name := "take", desc := "()I" } : Jvm.MethodName)) ∈ lw_all := lw_g (lw_at lw_m14 78 rfl) rfl
theorem q3364 : (Jvm.Cond.methodLink "LazyForgeLaw" (92 : Nat) ({ cls := "LazyForgeModel", name := "fault", desc := "(I)I" } : Jvm.MethodName)) ∈ lw_all := lw_g (lw_at lw_m14 82 rfl) rfl
theorem q3368 : (Jvm.Cond.methodLink "LazyForgeLaw" (95 : Nat) ({ cls := "LazyForgeModel", name := "write", desc := "()I" } : Jvm.MethodName)) ∈ lw_all := lw_g (lw_at lw_m14 86 rfl) rfl
theorem q3412 : (Jvm.Cond.methodLink "LazyForgeLaw" (98 : Nat) ({ cls := "LazyForgeModel", name := "letter", desc := "(I)I" } : Jvm.MethodName)) ∈ lw_all := lw_g (lw_at lw_m14 130 rfl) rfl
theorem q3416 : (Jvm.Cond.methodLink "LazyForgeLaw" (102 : Nat) ({ cls := "LazyForgeModel", name := "function", desc := "(II)I" } : Jvm.MethodName)) ∈ lw_all := lw_g (lw_at lw_m14 134 rfl) rfl
theorem q3424 : (Jvm.Cond.methodLink "LazyForgeLaw" (105 : Nat) ({ cls := "LazyForgeModel", name := "needs", desc := "(II)Z" } : Jvm.MethodName)) ∈ lw_all := lw_g (lw_at lw_m14 142 rfl) rfl
theorem q3428 : (Jvm.Cond.methodLink "LazyForgeLaw" (108 : Nat) ({ cls := "LazyForgeModel", name := "bit", desc := "(II)I" } : Jvm.MethodName)) ∈ lw_all := lw_g (lw_at lw_m14 146 rfl) rfl
theorem q3432 : (Jvm.Cond.methodLink "LazyForgeLaw" (115 : Nat) ({ cls := "LazyForgeModel", name := "result", desc := "(I)I" } : Jvm.MethodName)) ∈ lw_all := lw_g (lw_at lw_m14 150 rfl) rfl
theorem q3436 : (Jvm.Cond.methodLink "LazyForgeLaw" (118 : Nat) ({ cls := "LazyForgeModel", name := "number", desc := "(I)I" } : Jvm.MethodName)) ∈ lw_all := lw_g (lw_at lw_m14 154 rfl) rfl
theorem q3440 : (Jvm.Cond.methodLink "LazyForgeLaw" (121 : Nat) ({ cls := "LazyForgeModel", name := "called", desc := "(I)I" } : Jvm.MethodName)) ∈ lw_all := lw_g (lw_at lw_m14 158 rfl) rfl
theorem q3444 : (Jvm.Cond.methodLink "LazyForgeLaw" (124 : Nat) ({ cls := "LazyForgeModel", name := "about", desc := "(I)I" } : Jvm.MethodName)) ∈ lw_all := lw_g (lw_at lw_m14 162 rfl) rfl

/-! LazyForge -/
set_option maxRecDepth 100000
def RX1 : String := "LazyForge"
def TX1 : u_T := fun k => match k with
  | 0 => ("LazyForge", "text", "[C", false)
  | 1 => ("LazyForge", "size", "I", false)
  | 2 => ("LazyForge", "faultKind", "I", false)
  | 3 => ("LazyForge", "faultPlace", "I", false)
  | 4 => ("LazyForge", "program", "LLazyForge$Program;", false)
  | 5 => ("LazyForge", "allParts", "I", false)
  | 6 => ("LazyForge", "allCalls", "I", false)
  | 7 => ("LazyForge", "allCells", "I", false)
  | 8 => ("LazyForge", "out", "LLazyForge$Writer;", false)
  | 9 => ("LazyForge", "draft", "LLazyForge$Writer;", false)
  | _ => ("LazyForge", "machine", "LLazyForge$Machine;", true)
def tyX1 : Nat → FieldType := fun k => match k with
  | 0 => .array .char
  | 1 => .int
  | 2 => .int
  | 3 => .int
  | 4 => .object "LazyForge$Program"
  | 5 => .int
  | 6 => .int
  | 7 => .int
  | 8 => .object "LazyForge$Writer"
  | 9 => .object "LazyForge$Writer"
  | _ => .object "LazyForge$Machine"
abbrev wsX10 : List Cond := u_ws RX1 TX1 11
theorem nmX1 : ∀ a, a < 11 → ∀ b, b < 11 → a ≠ b → (TX1 a).2.1 ≠ (TX1 b).2.1 := by decide +kernel
theorem tyX1_ok : ∀ k, k < 11 → parseFieldDescriptor (TX1 k).2.2.1 = some (tyX1 k) := by decide +kernel
abbrev cX1_init : ByteArray := prog_1_method_6_code
def yX1_init : MethodName := ⟨RX1, "<init>", "()V"⟩
abbrev cX1_take : ByteArray := prog_1_method_9_code
def yX1_take : MethodName := ⟨RX1, "take", "()I"⟩
abbrev cX1_put : ByteArray := prog_1_method_7_code
def yX1_put : MethodName := ⟨RX1, "put", "(I)I"⟩
abbrev cX1_end : ByteArray := prog_1_method_8_code
def yX1_end : MethodName := ⟨RX1, "end", "(I)V"⟩
abbrev cX1_program : ByteArray := prog_1_method_12_code
def yX1_program : MethodName := ⟨RX1, "program", "()I"⟩
abbrev cX1_atom : ByteArray := prog_1_method_3_code
def yX1_atom : MethodName := ⟨RX1, "atom", "(I)J"⟩
abbrev cX1_of : ByteArray := prog_1_method_2_code
def yX1_of : MethodName := ⟨RX1, "of", "(I)J"⟩
abbrev cX1_judge : ByteArray := prog_1_method_10_code
def yX1_judge : MethodName := ⟨RX1, "judge", "(LLazyForge$Program;)V"⟩
abbrev cX1_isRaised : ByteArray := prog_1_method_11_code
def yX1_isRaised : MethodName := ⟨RX1, "isRaised", "(LLazyForge$Function;[Z)Z"⟩
abbrev cX1_fault : ByteArray := prog_1_method_13_code
def yX1_fault : MethodName := ⟨RX1, "fault", "(I)I"⟩
abbrev cX1_write : ByteArray := prog_1_method_16_code
def yX1_write : MethodName := ⟨RX1, "write", "()I"⟩
abbrev cX1_must : ByteArray := prog_1_method_14_code
def yX1_must : MethodName := ⟨RX1, "must", "()V"⟩
abbrev cX1_isInt : ByteArray := prog_1_method_4_code
def yX1_isInt : MethodName := ⟨RX1, "isInt", "(J)Z"⟩
abbrev cX1_signOf : ByteArray := prog_1_method_1_code
def yX1_signOf : MethodName := ⟨RX1, "signOf", "(I)Ljava/lang/String;"⟩
abbrev cX1_letter : ByteArray := prog_1_method_17_code
def yX1_letter : MethodName := ⟨RX1, "letter", "(I)I"⟩
abbrev cX1_function : ByteArray := prog_1_method_18_code
def yX1_function : MethodName := ⟨RX1, "function", "(II)I"⟩
abbrev cX1_find : ByteArray := prog_1_method_15_code
def yX1_find : MethodName := ⟨RX1, "find", "(I)LLazyForge$Function;"⟩
abbrev cX1_needs : ByteArray := prog_1_method_19_code
def yX1_needs : MethodName := ⟨RX1, "needs", "(II)Z"⟩
abbrev cX1_bit : ByteArray := prog_1_method_20_code
def yX1_bit : MethodName := ⟨RX1, "bit", "(II)I"⟩
abbrev cX1_run : ByteArray := prog_1_method_21_code
def yX1_run : MethodName := ⟨RX1, "run", "(ZI)I"⟩
abbrev cX1_isSort : ByteArray := prog_1_method_5_code
def yX1_isSort : MethodName := ⟨RX1, "isSort", "(JJ)Z"⟩
abbrev cX1_result : ByteArray := prog_1_method_22_code
def yX1_result : MethodName := ⟨RX1, "result", "(I)I"⟩
abbrev cX1_number : ByteArray := prog_1_method_23_code
def yX1_number : MethodName := ⟨RX1, "number", "(I)I"⟩
abbrev cX1_called : ByteArray := prog_1_method_24_code
def yX1_called : MethodName := ⟨RX1, "called", "(I)I"⟩
abbrev cX1_about : ByteArray := prog_1_method_25_code
def yX1_about : MethodName := ⟨RX1, "about", "(I)I"⟩
theorem q163 : (Jvm.Cond.initialized "LazyForge") ∈ lw_all := lw_g (lw_at lw_m1 1 rfl) rfl
theorem q211 : (Jvm.Cond.instantiable "LazyForge" (11 : Nat)) ∈ lw_all := lw_g (lw_at lw_m1 49 rfl) rfl
theorem q213 : (Jvm.Cond.instanceMethod ({ cls := "LazyForge", name := "<init>", desc := "()V" } : Jvm.MethodName)) ∈ lw_all := lw_g (lw_at lw_m1 51 rfl) rfl
theorem q214 : (Jvm.Cond.code ({ cls := "LazyForge", name := "<init>", desc := "()V" } : Jvm.MethodName) prog_1_method_6_code (1 : Nat) (Option.none : Option Jvm.ClassFile.FieldType)) ∈ lw_all := lw_g (lw_at lw_m1 52 rfl) rfl
theorem q215 : (Jvm.Cond.methodLink "LazyForge" (23 : Nat) ({ cls := "java/lang/Object", name := "<init>", desc := "()V" } : Jvm.MethodName)) ∈ lw_all := lw_g (lw_at lw_m1 53 rfl) rfl
theorem q218 : (Jvm.Cond.classLink "LazyForge" (37 : Nat) "LazyForge$Writer") ∈ lw_all := lw_g (lw_at lw_m1 56 rfl) rfl
theorem q220 : (Jvm.Cond.methodLinkNest "LazyForge" (39 : Nat) ({ cls := "LazyForge$Writer", name := "<init>", desc := "()V" } : Jvm.MethodName) "LazyForge") ∈ lw_tbl := lw_at lw_m1 58 rfl
theorem q225 : (Jvm.Cond.fieldLinkNest "LazyForge" (64 : Nat) "LazyForge$Writer" "signs" "[C" "LazyForge") ∈ lw_tbl := lw_at lw_m1 63 rfl
theorem q227 : (Jvm.Cond.fieldLinkNest "LazyForge" (63 : Nat) "LazyForge$Writer" "size" "I" "LazyForge") ∈ lw_tbl := lw_at lw_m1 65 rfl
theorem q237 : (Jvm.Cond.classLink "LazyForge" (47 : Nat) "LazyForge$Machine") ∈ lw_all := lw_g (lw_at lw_m1 75 rfl) rfl
theorem q239 : (Jvm.Cond.methodLinkNest "LazyForge" (49 : Nat) ({ cls := "LazyForge$Machine", name := "<init>", desc := "()V" } : Jvm.MethodName) "LazyForge") ∈ lw_tbl := lw_at lw_m1 77 rfl
theorem q256 : (Jvm.Cond.fieldLinkNest "LazyForge" (197 : Nat) "LazyForge$Part" "parts" "I" "LazyForge") ∈ lw_tbl := lw_at lw_m1 94 rfl
theorem q259 : (Jvm.Cond.fieldLinkNest "LazyForge" (203 : Nat) "LazyForge$Part" "high" "I" "LazyForge") ∈ lw_tbl := lw_at lw_m1 97 rfl
theorem q261 : (Jvm.Cond.fieldLinkNest "LazyForge" (122 : Nat) "LazyForge$Part" "number" "I" "LazyForge") ∈ lw_tbl := lw_at lw_m1 99 rfl
theorem q352 : (Jvm.Cond.fieldLinkNest "LazyForge" (249 : Nat) "LazyForge$Machine" "row" "[I" "LazyForge") ∈ lw_tbl := lw_at lw_m1 190 rfl
theorem q353 : (Jvm.Cond.fieldLinkNest "LazyForge" (246 : Nat) "LazyForge$Machine" "rowSize" "I" "LazyForge") ∈ lw_tbl := lw_at lw_m1 191 rfl
theorem q356 : (Jvm.Cond.fieldLinkNest "LazyForge" (225 : Nat) "LazyForge$Machine" "ends" "I" "LazyForge") ∈ lw_tbl := lw_at lw_m1 194 rfl
theorem q358 : (Jvm.Cond.fieldLinkNest "LazyForge" (228 : Nat) "LazyForge$Machine" "why" "I" "LazyForge") ∈ lw_tbl := lw_at lw_m1 196 rfl
theorem q359 : (Jvm.Cond.fieldLinkNest "LazyForge" (219 : Nat) "LazyForge$Machine" "calls" "I" "LazyForge") ∈ lw_tbl := lw_at lw_m1 197 rfl
theorem q362 : (Jvm.Cond.fieldLinkNest "LazyForge" (222 : Nat) "LazyForge$Machine" "used" "I" "LazyForge") ∈ lw_tbl := lw_at lw_m1 200 rfl
theorem q364 : (Jvm.Cond.fieldLinkNest "LazyForge" (231 : Nat) "LazyForge$Machine" "suspensions" "I" "LazyForge") ∈ lw_tbl := lw_at lw_m1 202 rfl
theorem q366 : (Jvm.Cond.fieldLinkNest "LazyForge" (234 : Nat) "LazyForge$Machine" "partsOfCalls" "I" "LazyForge") ∈ lw_tbl := lw_at lw_m1 204 rfl
theorem q368 : (Jvm.Cond.fieldLinkNest "LazyForge" (237 : Nat) "LazyForge$Machine" "objects" "I" "LazyForge") ∈ lw_tbl := lw_at lw_m1 206 rfl
theorem q369 : (Jvm.Cond.fieldLinkNest "LazyForge" (240 : Nat) "LazyForge$Machine" "updates" "I" "LazyForge") ∈ lw_tbl := lw_at lw_m1 207 rfl
theorem q373 : (Jvm.Cond.fieldLinkNest "LazyForge" (243 : Nat) "LazyForge$Machine" "atOnce" "I" "LazyForge") ∈ lw_tbl := lw_at lw_m1 211 rfl
theorem q440 : (Jvm.Cond.fieldLink "LazyForge" (29 : Nat) "LazyForge" "text" "[C") ∈ lw_all := lw_g (lw_at lw_m2 38 rfl) rfl
theorem q441 : (Jvm.Cond.fieldLink "LazyForge" (57 : Nat) "LazyForge" "size" "I") ∈ lw_all := lw_g (lw_at lw_m2 39 rfl) rfl
theorem q442 : (Jvm.Cond.fieldLink "LazyForge" (154 : Nat) "LazyForge" "faultKind" "I") ∈ lw_all := lw_g (lw_at lw_m2 40 rfl) rfl
theorem q443 : (Jvm.Cond.fieldLink "LazyForge" (33 : Nat) "LazyForge" "faultPlace" "I") ∈ lw_all := lw_g (lw_at lw_m2 41 rfl) rfl
theorem q444 : (Jvm.Cond.fieldLink "LazyForge" (140 : Nat) "LazyForge" "program" "LLazyForge$Program;") ∈ lw_all := lw_g (lw_at lw_m2 42 rfl) rfl
theorem q445 : (Jvm.Cond.fieldLink "LazyForge" (132 : Nat) "LazyForge" "allParts" "I") ∈ lw_all := lw_g (lw_at lw_m2 43 rfl) rfl
theorem q447 : (Jvm.Cond.fieldLink "LazyForge" (208 : Nat) "LazyForge" "allCalls" "I") ∈ lw_all := lw_g (lw_at lw_m2 45 rfl) rfl
theorem q448 : (Jvm.Cond.fieldLink "LazyForge" (212 : Nat) "LazyForge" "allCells" "I") ∈ lw_all := lw_g (lw_at lw_m2 46 rfl) rfl
theorem q449 : (Jvm.Cond.fieldLink "LazyForge" (40 : Nat) "LazyForge" "out" "LLazyForge$Writer;") ∈ lw_all := lw_g (lw_at lw_m2 47 rfl) rfl
theorem q450 : (Jvm.Cond.fieldLink "LazyForge" (44 : Nat) "LazyForge" "draft" "LLazyForge$Writer;") ∈ lw_all := lw_g (lw_at lw_m2 48 rfl) rfl
theorem q451 : (Jvm.Cond.fieldLink "LazyForge" (50 : Nat) "LazyForge" "machine" "LLazyForge$Machine;") ∈ lw_all := lw_g (lw_at lw_m2 49 rfl) rfl
theorem q452 : (Jvm.Cond.lays "LazyForge" "LazyForge" "text" "[C") ∈ lw_all := lw_g (lw_at lw_m2 50 rfl) rfl
theorem q453 : (Jvm.Cond.soleField "LazyForge" "text") ∈ lw_all := lw_g (lw_at lw_m2 51 rfl) rfl
theorem q454 : (Jvm.Cond.lays "LazyForge" "LazyForge" "size" "I") ∈ lw_all := lw_g (lw_at lw_m2 52 rfl) rfl
theorem q455 : (Jvm.Cond.soleField "LazyForge" "size") ∈ lw_all := lw_g (lw_at lw_m2 53 rfl) rfl
theorem q456 : (Jvm.Cond.lays "LazyForge" "LazyForge" "faultKind" "I") ∈ lw_all := lw_g (lw_at lw_m2 54 rfl) rfl
theorem q457 : (Jvm.Cond.soleField "LazyForge" "faultKind") ∈ lw_all := lw_g (lw_at lw_m2 55 rfl) rfl
theorem q458 : (Jvm.Cond.lays "LazyForge" "LazyForge" "faultPlace" "I") ∈ lw_all := lw_g (lw_at lw_m2 56 rfl) rfl
theorem q459 : (Jvm.Cond.soleField "LazyForge" "faultPlace") ∈ lw_all := lw_g (lw_at lw_m2 57 rfl) rfl
theorem q460 : (Jvm.Cond.lays "LazyForge" "LazyForge" "program" "LLazyForge$Program;") ∈ lw_all := lw_g (lw_at lw_m2 58 rfl) rfl
theorem q461 : (Jvm.Cond.soleField "LazyForge" "program") ∈ lw_all := lw_g (lw_at lw_m2 59 rfl) rfl
theorem q462 : (Jvm.Cond.lays "LazyForge" "LazyForge" "allParts" "I") ∈ lw_all := lw_g (lw_at lw_m2 60 rfl) rfl
theorem q463 : (Jvm.Cond.soleField "LazyForge" "allParts") ∈ lw_all := lw_g (lw_at lw_m2 61 rfl) rfl
theorem q464 : (Jvm.Cond.lays "LazyForge" "LazyForge" "allCalls" "I") ∈ lw_all := lw_g (lw_at lw_m2 62 rfl) rfl
theorem q465 : (Jvm.Cond.soleField "LazyForge" "allCalls") ∈ lw_all := lw_g (lw_at lw_m2 63 rfl) rfl
theorem q466 : (Jvm.Cond.lays "LazyForge" "LazyForge" "allCells" "I") ∈ lw_all := lw_g (lw_at lw_m2 64 rfl) rfl
theorem q467 : (Jvm.Cond.soleField "LazyForge" "allCells") ∈ lw_all := lw_g (lw_at lw_m2 65 rfl) rfl
theorem q468 : (Jvm.Cond.lays "LazyForge" "LazyForge" "out" "LLazyForge$Writer;") ∈ lw_all := lw_g (lw_at lw_m2 66 rfl) rfl
theorem q469 : (Jvm.Cond.soleField "LazyForge" "out") ∈ lw_all := lw_g (lw_at lw_m2 67 rfl) rfl
theorem q470 : (Jvm.Cond.lays "LazyForge" "LazyForge" "draft" "LLazyForge$Writer;") ∈ lw_all := lw_g (lw_at lw_m2 68 rfl) rfl
theorem q471 : (Jvm.Cond.soleField "LazyForge" "draft") ∈ lw_all := lw_g (lw_at lw_m2 69 rfl) rfl
theorem q472 : (Jvm.Cond.laysFinal "LazyForge" "LazyForge" "machine" "LLazyForge$Machine;") ∈ lw_all := lw_g (lw_at lw_m2 70 rfl) rfl
theorem q473 : (Jvm.Cond.soleField "LazyForge" "machine") ∈ lw_all := lw_g (lw_at lw_m2 71 rfl) rfl
theorem q474 : (Jvm.Cond.superclass "LazyForge" "java/lang/Object") ∈ lw_all := lw_g (lw_at lw_m2 72 rfl) rfl
theorem q476 : (Jvm.Cond.instanceMethod ({ cls := "LazyForge", name := "take", desc := "()I" } : Jvm.MethodName)) ∈ lw_all := lw_g (lw_at lw_m2 74 rfl) rfl
theorem q477 : (Jvm.Cond.selects "LazyForge" ({ cls := "LazyForge", name := "take", desc := "()I" } : Jvm.MethodName) ({ cls := "LazyForge", name := "take", desc := "()I" } : Jvm.MethodName)) ∈ lw_all := lw_g (lw_at lw_m2 75 rfl) rfl
theorem q478 : (Jvm.Cond.code ({ cls := "LazyForge", name := "take", desc := "()I" } : Jvm.MethodName) prog_1_method_9_code (1 : Nat) (Option.some Jvm.ClassFile.FieldType.int)) ∈ lw_all := lw_g (lw_at lw_m2 76 rfl) rfl
theorem q479 : (Jvm.Cond.methodLink "LazyForge" (67 : Nat) ({ cls := "java/lang/System", name := "arraycopy", desc := "(Ljava/lang/Object;ILjava/lang/Object;II)V" } : Jvm.MethodName)) ∈ lw_all := lw_g (lw_at lw_m2 77 rfl) rfl
theorem q488 : (Jvm.Cond.instanceMethod ({ cls := "LazyForge", name := "put", desc := "(I)I" } : Jvm.MethodName)) ∈ lw_all := lw_g (lw_at lw_m2 86 rfl) rfl
theorem q489 : (Jvm.Cond.selects "LazyForge" ({ cls := "LazyForge", name := "put", desc := "(I)I" } : Jvm.MethodName) ({ cls := "LazyForge", name := "put", desc := "(I)I" } : Jvm.MethodName)) ∈ lw_all := lw_g (lw_at lw_m2 87 rfl) rfl
theorem q490 : (Jvm.Cond.code ({ cls := "LazyForge", name := "put", desc := "(I)I" } : Jvm.MethodName) prog_1_method_7_code (5 : Nat) (Option.some Jvm.ClassFile.FieldType.int)) ∈ lw_all := lw_g (lw_at lw_m2 88 rfl) rfl
theorem q491 : (Jvm.Cond.classLink "LazyForge" (54 : Nat) "java/lang/IllegalArgumentException") ∈ lw_all := lw_g (lw_at lw_m2 89 rfl) rfl
theorem q534 : (Jvm.Cond.methodLink "LazyForge" (56 : Nat) ({ cls := "java/lang/IllegalArgumentException", name := "<init>", desc := "()V" } : Jvm.MethodName)) ∈ lw_all := lw_g (lw_at lw_m2 132 rfl) rfl
theorem q557 : (Jvm.Cond.classLink "LazyForge" (60 : Nat) "java/lang/UnsupportedOperationException") ∈ lw_all := lw_g (lw_at lw_m2 155 rfl) rfl
theorem q566 : (Jvm.Cond.methodLink "LazyForge" (62 : Nat) ({ cls := "java/lang/UnsupportedOperationException", name := "<init>", desc := "()V" } : Jvm.MethodName)) ∈ lw_all := lw_g (lw_at lw_m2 164 rfl) rfl
theorem q576 : (Jvm.Cond.instanceMethod ({ cls := "LazyForge", name := "end", desc := "(I)V" } : Jvm.MethodName)) ∈ lw_all := lw_g (lw_at lw_m2 174 rfl) rfl
theorem q577 : (Jvm.Cond.selects "LazyForge" ({ cls := "LazyForge", name := "end", desc := "(I)V" } : Jvm.MethodName) ({ cls := "LazyForge", name := "end", desc := "(I)V" } : Jvm.MethodName)) ∈ lw_all := lw_g (lw_at lw_m2 175 rfl) rfl
theorem q578 : (Jvm.Cond.code ({ cls := "LazyForge", name := "end", desc := "(I)V" } : Jvm.MethodName) prog_1_method_8_code (2 : Nat) (Option.none : Option Jvm.ClassFile.FieldType)) ∈ lw_all := lw_g (lw_at lw_m2 176 rfl) rfl
theorem q583 : (Jvm.Cond.instanceMethod ({ cls := "LazyForge", name := "program", desc := "()I" } : Jvm.MethodName)) ∈ lw_all := lw_g (lw_at lw_m2 181 rfl) rfl
theorem q584 : (Jvm.Cond.selects "LazyForge" ({ cls := "LazyForge", name := "program", desc := "()I" } : Jvm.MethodName) ({ cls := "LazyForge", name := "program", desc := "()I" } : Jvm.MethodName)) ∈ lw_all := lw_g (lw_at lw_m2 182 rfl) rfl
theorem q585 : (Jvm.Cond.code ({ cls := "LazyForge", name := "program", desc := "()I" } : Jvm.MethodName) prog_1_method_12_code (4 : Nat) (Option.some Jvm.ClassFile.FieldType.int)) ∈ lw_all := lw_g (lw_at lw_m2 183 rfl) rfl
theorem q586 : (Jvm.Cond.classLink "LazyForge" (135 : Nat) "LazyForge$Reader") ∈ lw_all := lw_g (lw_at lw_m2 184 rfl) rfl
theorem q588 : (Jvm.Cond.methodLink "LazyForge" (137 : Nat) ({ cls := "LazyForge$Reader", name := "<init>", desc := "(LLazyForge;[CI)V" } : Jvm.MethodName)) ∈ lw_all := lw_g (lw_at lw_m2 186 rfl) rfl
theorem q663 : (Jvm.Cond.fieldLinkNest "LazyForge" (151 : Nat) "LazyForge$Reader" "kind" "I" "LazyForge") ∈ lw_tbl := lw_at lw_m3 21 rfl
theorem q665 : (Jvm.Cond.fieldLinkNest "LazyForge" (157 : Nat) "LazyForge$Reader" "faultPlace" "I" "LazyForge") ∈ lw_tbl := lw_at lw_m3 23 rfl
theorem q735 : (Jvm.Cond.methodLink "LazyForge" (144 : Nat) ({ cls := "LazyForge$Machine", name := "clear", desc := "()V" } : Jvm.MethodName)) ∈ lw_all := lw_g (lw_at lw_m3 93 rfl) rfl
theorem q739 : (Jvm.Cond.methodLink "LazyForge" (147 : Nat) ({ cls := "LazyForge$Reader", name := "read", desc := "()Z" } : Jvm.MethodName)) ∈ lw_all := lw_g (lw_at lw_m3 97 rfl) rfl
theorem q1018 : (Jvm.Cond.classLink "LazyForge" (158 : Nat) "LazyForge$Resolver") ∈ lw_all := lw_g (lw_at lw_m4 136 rfl) rfl
theorem q1020 : (Jvm.Cond.methodLink "LazyForge" (160 : Nat) ({ cls := "LazyForge$Resolver", name := "<init>", desc := "(LLazyForge$Reader;)V" } : Jvm.MethodName)) ∈ lw_all := lw_g (lw_at lw_m4 138 rfl) rfl
theorem q1058 : (Jvm.Cond.fieldLinkNest "LazyForge" (73 : Nat) "LazyForge$Program" "functions" "Ljava/util/ArrayList;" "LazyForge") ∈ lw_tbl := lw_at lw_m4 176 rfl
theorem q1065 : (Jvm.Cond.fieldLinkNest "LazyForge" (97 : Nat) "LazyForge$Program" "some" "[Z" "LazyForge") ∈ lw_tbl := lw_at lw_m4 183 rfl
theorem q1073 : (Jvm.Cond.fieldLinkNest "LazyForge" (257 : Nat) "LazyForge$Program" "parts" "I" "LazyForge") ∈ lw_tbl := lw_at lw_m4 191 rfl
theorem q1081 : (Jvm.Cond.fieldLinkNest "LazyForge" (254 : Nat) "LazyForge$Program" "constructorCount" "I" "LazyForge") ∈ lw_tbl := lw_at lw_m4 199 rfl
theorem q1111 : (Jvm.Cond.fieldLinkNest "LazyForge" (167 : Nat) "LazyForge$Resolver" "kind" "I" "LazyForge") ∈ lw_tbl := lw_at lw_m4 229 rfl
theorem q1113 : (Jvm.Cond.fieldLinkNest "LazyForge" (168 : Nat) "LazyForge$Resolver" "place" "I" "LazyForge") ∈ lw_tbl := lw_at lw_m4 231 rfl
theorem q1131 : (Jvm.Cond.methodLink "LazyForge" (163 : Nat) ({ cls := "LazyForge$Resolver", name := "resolve", desc := "()LLazyForge$Program;" } : Jvm.MethodName)) ∈ lw_all := lw_g (lw_at lw_m5 9 rfl) rfl
theorem q1156 : (Jvm.Cond.fieldLinkNest "LazyForge" (191 : Nat) "LazyForge$Function" "free" "Ljava/util/ArrayList;" "LazyForge") ∈ lw_tbl := lw_at lw_m5 34 rfl
theorem q1160 : (Jvm.Cond.fieldLinkNest "LazyForge" (112 : Nat) "LazyForge$Function" "body" "LLazyForge$Part;" "LazyForge") ∈ lw_tbl := lw_at lw_m5 38 rfl
theorem q1163 : (Jvm.Cond.fieldLinkNest "LazyForge" (200 : Nat) "LazyForge$Function" "needed" "I" "LazyForge") ∈ lw_tbl := lw_at lw_m5 41 rfl
theorem q1165 : (Jvm.Cond.fieldLinkNest "LazyForge" (93 : Nat) "LazyForge$Function" "table" "[J" "LazyForge") ∈ lw_tbl := lw_at lw_m5 43 rfl
theorem q1167 : (Jvm.Cond.fieldLinkNest "LazyForge" (105 : Nat) "LazyForge$Function" "needs" "I" "LazyForge") ∈ lw_tbl := lw_at lw_m5 45 rfl
theorem q1168 : (Jvm.Cond.fieldLinkNest "LazyForge" (253 : Nat) "LazyForge$Function" "calls" "I" "LazyForge") ∈ lw_tbl := lw_at lw_m5 46 rfl
theorem q1223 : (Jvm.Cond.selects "LazyForge" ({ cls := "java/lang/Object", name := "getClass", desc := "()Ljava/lang/Class;" } : Jvm.MethodName) ({ cls := "java/lang/Object", name := "getClass", desc := "()Ljava/lang/Class;" } : Jvm.MethodName)) ∈ lw_all := lw_g (lw_at lw_m5 101 rfl) rfl
theorem q1401 : (Jvm.Cond.selects "LazyForge" ({ cls := "java/lang/Object", name := "equals", desc := "(Ljava/lang/Object;)Z" } : Jvm.MethodName) ({ cls := "java/lang/Object", name := "equals", desc := "(Ljava/lang/Object;)Z" } : Jvm.MethodName)) ∈ lw_all := lw_g (lw_at lw_m6 39 rfl) rfl
theorem q1543 : (Jvm.Cond.static ({ cls := "LazyForge", name := "atom", desc := "(I)J" } : Jvm.MethodName)) ∈ lw_all := lw_g (lw_at lw_m6 181 rfl) rfl
theorem q1544 : (Jvm.Cond.code ({ cls := "LazyForge", name := "atom", desc := "(I)J" } : Jvm.MethodName) prog_1_method_3_code (1 : Nat) (Option.some Jvm.ClassFile.FieldType.long)) ∈ lw_all := lw_g (lw_at lw_m6 182 rfl) rfl
theorem q1545 : (Jvm.Cond.constantLong "LazyForge" (21 : Nat) (4294967296 : Int64)) ∈ lw_all := lw_g (lw_at lw_m6 183 rfl) rfl
theorem q1589 : (Jvm.Cond.static ({ cls := "LazyForge", name := "of", desc := "(I)J" } : Jvm.MethodName)) ∈ lw_all := lw_g (lw_at lw_m6 227 rfl) rfl
theorem q1590 : (Jvm.Cond.code ({ cls := "LazyForge", name := "of", desc := "(I)J" } : Jvm.MethodName) prog_1_method_2_code (1 : Nat) (Option.some Jvm.ClassFile.FieldType.long)) ∈ lw_all := lw_g (lw_at lw_m6 228 rfl) rfl
theorem q1591 : (Jvm.Cond.constantLong "LazyForge" (17 : Nat) (4294967295 : Int64)) ∈ lw_all := lw_g (lw_at lw_m6 229 rfl) rfl
theorem q1628 : (Jvm.Cond.methodLink "LazyForge" (171 : Nat) ({ cls := "LazyForge", name := "judge", desc := "(LLazyForge$Program;)V" } : Jvm.MethodName)) ∈ lw_all := lw_g (lw_at lw_m7 26 rfl) rfl
theorem q1629 : (Jvm.Cond.static ({ cls := "LazyForge", name := "judge", desc := "(LLazyForge$Program;)V" } : Jvm.MethodName)) ∈ lw_all := lw_g (lw_at lw_m7 27 rfl) rfl
theorem q1630 : (Jvm.Cond.code ({ cls := "LazyForge", name := "judge", desc := "(LLazyForge$Program;)V" } : Jvm.MethodName) prog_1_method_10_code (7 : Nat) (Option.none : Option Jvm.ClassFile.FieldType)) ∈ lw_all := lw_g (lw_at lw_m7 28 rfl) rfl
theorem q1631 : (Jvm.Cond.methodLink "LazyForge" (79 : Nat) ({ cls := "java/util/ArrayList", name := "size", desc := "()I" } : Jvm.MethodName)) ∈ lw_all := lw_g (lw_at lw_m7 29 rfl) rfl
theorem q1632 : (Jvm.Cond.methodLink "LazyForge" (84 : Nat) ({ cls := "java/util/ArrayList", name := "get", desc := "(I)Ljava/lang/Object;" } : Jvm.MethodName)) ∈ lw_all := lw_g (lw_at lw_m7 30 rfl) rfl
theorem q1633 : (Jvm.Cond.classLink "LazyForge" (88 : Nat) "LazyForge$Function") ∈ lw_all := lw_g (lw_at lw_m7 31 rfl) rfl
theorem q1634 : (Jvm.Cond.methodLink "LazyForge" (90 : Nat) ({ cls := "LazyForge$Function", name := "parameters", desc := "()I" } : Jvm.MethodName)) ∈ lw_all := lw_g (lw_at lw_m7 32 rfl) rfl
theorem q1635 : (Jvm.Cond.methodLink "LazyForge" (101 : Nat) ({ cls := "LazyForge", name := "isRaised", desc := "(LLazyForge$Function;[Z)Z" } : Jvm.MethodName)) ∈ lw_all := lw_g (lw_at lw_m7 33 rfl) rfl
theorem q1636 : (Jvm.Cond.static ({ cls := "LazyForge", name := "isRaised", desc := "(LLazyForge$Function;[Z)Z" } : Jvm.MethodName)) ∈ lw_all := lw_g (lw_at lw_m7 34 rfl) rfl
theorem q1637 : (Jvm.Cond.code ({ cls := "LazyForge", name := "isRaised", desc := "(LLazyForge$Function;[Z)Z" } : Jvm.MethodName) prog_1_method_11_code (5 : Nat) (Option.some Jvm.ClassFile.FieldType.boolean)) ∈ lw_all := lw_g (lw_at lw_m7 35 rfl) rfl
theorem q1638 : (Jvm.Cond.methodLink "LazyForge" (108 : Nat) ({ cls := "LazyForge$Function", name := "at", desc := "(I)Z" } : Jvm.MethodName)) ∈ lw_all := lw_g (lw_at lw_m7 36 rfl) rfl
theorem q1642 : (Jvm.Cond.methodLink "LazyForge" (128 : Nat) ({ cls := "LazyForge$Part", name := "least", desc := "([Z)Z" } : Jvm.MethodName)) ∈ lw_all := lw_g (lw_at lw_m7 40 rfl) rfl
theorem q1743 : (Jvm.Cond.methodLink "LazyForge" (116 : Nat) ({ cls := "LazyForge$Part", name := "prepare", desc := "(LLazyForge$Program;LLazyForge$Function;)V" } : Jvm.MethodName)) ∈ lw_all := lw_g (lw_at lw_m7 141 rfl) rfl
theorem q1893 : (Jvm.Cond.methodLink "LazyForge" (125 : Nat) ({ cls := "LazyForge$Part", name := "mayWait", desc := "(LLazyForge$Program;LLazyForge$Function;)V" } : Jvm.MethodName)) ∈ lw_all := lw_g (lw_at lw_m8 51 rfl) rfl
theorem q1898 : (Jvm.Cond.instanceMethod ({ cls := "LazyForge", name := "fault", desc := "(I)I" } : Jvm.MethodName)) ∈ lw_all := lw_g (lw_at lw_m8 56 rfl) rfl
theorem q1899 : (Jvm.Cond.selects "LazyForge" ({ cls := "LazyForge", name := "fault", desc := "(I)I" } : Jvm.MethodName) ({ cls := "LazyForge", name := "fault", desc := "(I)I" } : Jvm.MethodName)) ∈ lw_all := lw_g (lw_at lw_m8 57 rfl) rfl
theorem q1900 : (Jvm.Cond.code ({ cls := "LazyForge", name := "fault", desc := "(I)I" } : Jvm.MethodName) prog_1_method_13_code (2 : Nat) (Option.some Jvm.ClassFile.FieldType.int)) ∈ lw_all := lw_g (lw_at lw_m8 58 rfl) rfl
theorem q1906 : (Jvm.Cond.instanceMethod ({ cls := "LazyForge", name := "write", desc := "()I" } : Jvm.MethodName)) ∈ lw_all := lw_g (lw_at lw_m8 64 rfl) rfl
theorem q1907 : (Jvm.Cond.selects "LazyForge" ({ cls := "LazyForge", name := "write", desc := "()I" } : Jvm.MethodName) ({ cls := "LazyForge", name := "write", desc := "()I" } : Jvm.MethodName)) ∈ lw_all := lw_g (lw_at lw_m8 65 rfl) rfl
theorem q1908 : (Jvm.Cond.code ({ cls := "LazyForge", name := "write", desc := "()I" } : Jvm.MethodName) prog_1_method_16_code (2 : Nat) (Option.some Jvm.ClassFile.FieldType.int)) ∈ lw_all := lw_g (lw_at lw_m8 66 rfl) rfl
theorem q1909 : (Jvm.Cond.methodLink "LazyForge" (178 : Nat) ({ cls := "LazyForge", name := "must", desc := "()V" } : Jvm.MethodName)) ∈ lw_all := lw_g (lw_at lw_m8 67 rfl) rfl
theorem q1910 : (Jvm.Cond.privateMethod ({ cls := "LazyForge", name := "must", desc := "()V" } : Jvm.MethodName)) ∈ lw_tbl := lw_at lw_m8 68 rfl
theorem q1911 : (Jvm.Cond.instanceMethod ({ cls := "LazyForge", name := "must", desc := "()V" } : Jvm.MethodName)) ∈ lw_all := lw_g (lw_at lw_m8 69 rfl) rfl
theorem q1912 : (Jvm.Cond.code ({ cls := "LazyForge", name := "must", desc := "()V" } : Jvm.MethodName) prog_1_method_14_code (1 : Nat) (Option.none : Option Jvm.ClassFile.FieldType)) ∈ lw_all := lw_g (lw_at lw_m8 70 rfl) rfl
theorem q1913 : (Jvm.Cond.classLink "LazyForge" (175 : Nat) "java/lang/IllegalStateException") ∈ lw_all := lw_g (lw_at lw_m8 71 rfl) rfl
theorem q1922 : (Jvm.Cond.methodLink "LazyForge" (177 : Nat) ({ cls := "java/lang/IllegalStateException", name := "<init>", desc := "()V" } : Jvm.MethodName)) ∈ lw_all := lw_g (lw_at lw_m8 80 rfl) rfl
theorem q1928 : (Jvm.Cond.methodLink "LazyForge" (184 : Nat) ({ cls := "LazyForge$Writer", name := "write", desc := "(LLazyForge$Program;)V" } : Jvm.MethodName)) ∈ lw_all := lw_g (lw_at lw_m8 86 rfl) rfl
theorem q2007 : (Jvm.Cond.static ({ cls := "LazyForge", name := "isInt", desc := "(J)Z" } : Jvm.MethodName)) ∈ lw_all := lw_g (lw_at lw_m8 165 rfl) rfl
theorem q2008 : (Jvm.Cond.code ({ cls := "LazyForge", name := "isInt", desc := "(J)Z" } : Jvm.MethodName) prog_1_method_4_code (2 : Nat) (Option.some Jvm.ClassFile.FieldType.boolean)) ∈ lw_all := lw_g (lw_at lw_m8 166 rfl) rfl
theorem q2025 : (Jvm.Cond.static ({ cls := "LazyForge", name := "signOf", desc := "(I)Ljava/lang/String;" } : Jvm.MethodName)) ∈ lw_all := lw_g (lw_at lw_m8 183 rfl) rfl
theorem q2026 : (Jvm.Cond.code ({ cls := "LazyForge", name := "signOf", desc := "(I)Ljava/lang/String;" } : Jvm.MethodName) prog_1_method_1_code (1 : Nat) (Option.some (Jvm.ClassFile.FieldType.object "java/lang/String"))) ∈ lw_all := lw_g (lw_at lw_m8 184 rfl) rfl
theorem q2027 : (Jvm.Cond.stringRef "LazyForge" (1 : Nat) "+") ∈ lw_tbl := lw_at lw_m8 185 rfl
theorem q2028 : (Jvm.Cond.stringRef "LazyForge" (3 : Nat) "-") ∈ lw_tbl := lw_at lw_m8 186 rfl
theorem q2029 : (Jvm.Cond.stringRef "LazyForge" (5 : Nat) "*") ∈ lw_tbl := lw_at lw_m8 187 rfl
theorem q2030 : (Jvm.Cond.stringRef "LazyForge" (7 : Nat) "/") ∈ lw_tbl := lw_at lw_m8 188 rfl
theorem q2031 : (Jvm.Cond.stringRef "LazyForge" (9 : Nat) "%") ∈ lw_tbl := lw_at lw_m8 189 rfl
theorem q2032 : (Jvm.Cond.stringRef "LazyForge" (11 : Nat) "==") ∈ lw_tbl := lw_at lw_m8 190 rfl
theorem q2033 : (Jvm.Cond.stringRef "LazyForge" (13 : Nat) "<") ∈ lw_tbl := lw_at lw_m8 191 rfl
theorem q2034 : (Jvm.Cond.stringRef "LazyForge" (15 : Nat) "<=") ∈ lw_tbl := lw_at lw_m8 192 rfl
theorem q2094 : (Jvm.Cond.instanceMethod ({ cls := "LazyForge", name := "letter", desc := "(I)I" } : Jvm.MethodName)) ∈ lw_all := lw_g (lw_at lw_m9 12 rfl) rfl
theorem q2095 : (Jvm.Cond.selects "LazyForge" ({ cls := "LazyForge", name := "letter", desc := "(I)I" } : Jvm.MethodName) ({ cls := "LazyForge", name := "letter", desc := "(I)I" } : Jvm.MethodName)) ∈ lw_all := lw_g (lw_at lw_m9 13 rfl) rfl
theorem q2096 : (Jvm.Cond.code ({ cls := "LazyForge", name := "letter", desc := "(I)I" } : Jvm.MethodName) prog_1_method_17_code (2 : Nat) (Option.some Jvm.ClassFile.FieldType.int)) ∈ lw_all := lw_g (lw_at lw_m9 14 rfl) rfl
theorem q2097 : (Jvm.Cond.classLink "LazyForge" (181 : Nat) "java/lang/IndexOutOfBoundsException") ∈ lw_all := lw_g (lw_at lw_m9 15 rfl) rfl
theorem q2106 : (Jvm.Cond.methodLink "LazyForge" (183 : Nat) ({ cls := "java/lang/IndexOutOfBoundsException", name := "<init>", desc := "()V" } : Jvm.MethodName)) ∈ lw_all := lw_g (lw_at lw_m9 24 rfl) rfl
theorem q2116 : (Jvm.Cond.instanceMethod ({ cls := "LazyForge", name := "function", desc := "(II)I" } : Jvm.MethodName)) ∈ lw_all := lw_g (lw_at lw_m9 34 rfl) rfl
theorem q2117 : (Jvm.Cond.selects "LazyForge" ({ cls := "LazyForge", name := "function", desc := "(II)I" } : Jvm.MethodName) ({ cls := "LazyForge", name := "function", desc := "(II)I" } : Jvm.MethodName)) ∈ lw_all := lw_g (lw_at lw_m9 35 rfl) rfl
theorem q2118 : (Jvm.Cond.code ({ cls := "LazyForge", name := "function", desc := "(II)I" } : Jvm.MethodName) prog_1_method_18_code (4 : Nat) (Option.some Jvm.ClassFile.FieldType.int)) ∈ lw_all := lw_g (lw_at lw_m9 36 rfl) rfl
theorem q2119 : (Jvm.Cond.methodLink "LazyForge" (187 : Nat) ({ cls := "LazyForge", name := "find", desc := "(I)LLazyForge$Function;" } : Jvm.MethodName)) ∈ lw_all := lw_g (lw_at lw_m9 37 rfl) rfl
theorem q2120 : (Jvm.Cond.privateMethod ({ cls := "LazyForge", name := "find", desc := "(I)LLazyForge$Function;" } : Jvm.MethodName)) ∈ lw_tbl := lw_at lw_m9 38 rfl
theorem q2121 : (Jvm.Cond.instanceMethod ({ cls := "LazyForge", name := "find", desc := "(I)LLazyForge$Function;" } : Jvm.MethodName)) ∈ lw_all := lw_g (lw_at lw_m9 39 rfl) rfl
theorem q2122 : (Jvm.Cond.code ({ cls := "LazyForge", name := "find", desc := "(I)LLazyForge$Function;" } : Jvm.MethodName) prog_1_method_15_code (2 : Nat) (Option.some (Jvm.ClassFile.FieldType.object "LazyForge$Function"))) ∈ lw_all := lw_g (lw_at lw_m9 40 rfl) rfl
theorem q2123 : (Jvm.Cond.methodLink "LazyForge" (194 : Nat) ({ cls := "LazyForge$Function", name := "variables", desc := "()I" } : Jvm.MethodName)) ∈ lw_all := lw_g (lw_at lw_m9 41 rfl) rfl
theorem q2128 : (Jvm.Cond.instanceMethod ({ cls := "LazyForge", name := "needs", desc := "(II)Z" } : Jvm.MethodName)) ∈ lw_all := lw_g (lw_at lw_m9 46 rfl) rfl
theorem q2129 : (Jvm.Cond.selects "LazyForge" ({ cls := "LazyForge", name := "needs", desc := "(II)Z" } : Jvm.MethodName) ({ cls := "LazyForge", name := "needs", desc := "(II)Z" } : Jvm.MethodName)) ∈ lw_all := lw_g (lw_at lw_m9 47 rfl) rfl
theorem q2130 : (Jvm.Cond.code ({ cls := "LazyForge", name := "needs", desc := "(II)Z" } : Jvm.MethodName) prog_1_method_19_code (4 : Nat) (Option.some Jvm.ClassFile.FieldType.boolean)) ∈ lw_all := lw_g (lw_at lw_m9 48 rfl) rfl
theorem q2131 : (Jvm.Cond.methodLink "LazyForge" (206 : Nat) ({ cls := "LazyForge$Function", name := "needs", desc := "(I)Z" } : Jvm.MethodName)) ∈ lw_all := lw_g (lw_at lw_m9 49 rfl) rfl
theorem q2139 : (Jvm.Cond.instanceMethod ({ cls := "LazyForge", name := "bit", desc := "(II)I" } : Jvm.MethodName)) ∈ lw_all := lw_g (lw_at lw_m9 57 rfl) rfl
theorem q2140 : (Jvm.Cond.selects "LazyForge" ({ cls := "LazyForge", name := "bit", desc := "(II)I" } : Jvm.MethodName) ({ cls := "LazyForge", name := "bit", desc := "(II)I" } : Jvm.MethodName)) ∈ lw_all := lw_g (lw_at lw_m9 58 rfl) rfl
theorem q2141 : (Jvm.Cond.code ({ cls := "LazyForge", name := "bit", desc := "(II)I" } : Jvm.MethodName) prog_1_method_20_code (4 : Nat) (Option.some Jvm.ClassFile.FieldType.int)) ∈ lw_all := lw_g (lw_at lw_m9 59 rfl) rfl
theorem q2146 : (Jvm.Cond.instanceMethod ({ cls := "LazyForge", name := "run", desc := "(ZI)I" } : Jvm.MethodName)) ∈ lw_all := lw_g (lw_at lw_m9 64 rfl) rfl
theorem q2147 : (Jvm.Cond.selects "LazyForge" ({ cls := "LazyForge", name := "run", desc := "(ZI)I" } : Jvm.MethodName) ({ cls := "LazyForge", name := "run", desc := "(ZI)I" } : Jvm.MethodName)) ∈ lw_all := lw_g (lw_at lw_m9 65 rfl) rfl
theorem q2148 : (Jvm.Cond.code ({ cls := "LazyForge", name := "run", desc := "(ZI)I" } : Jvm.MethodName) prog_1_method_21_code (3 : Nat) (Option.some Jvm.ClassFile.FieldType.int)) ∈ lw_all := lw_g (lw_at lw_m9 66 rfl) rfl
theorem q2149 : (Jvm.Cond.constant "LazyForge" (211 : Nat) (150000 : Int32)) ∈ lw_all := lw_g (lw_at lw_m9 67 rfl) rfl
theorem q2150 : (Jvm.Cond.methodLink "LazyForge" (215 : Nat) ({ cls := "LazyForge$Machine", name := "run", desc := "(LLazyForge$Program;ZI)V" } : Jvm.MethodName)) ∈ lw_all := lw_g (lw_at lw_m9 68 rfl) rfl
theorem q2184 : (Jvm.Cond.static ({ cls := "LazyForge", name := "isSort", desc := "(JJ)Z" } : Jvm.MethodName)) ∈ lw_all := lw_g (lw_at lw_m9 102 rfl) rfl
theorem q2185 : (Jvm.Cond.code ({ cls := "LazyForge", name := "isSort", desc := "(JJ)Z" } : Jvm.MethodName) prog_1_method_5_code (4 : Nat) (Option.some Jvm.ClassFile.FieldType.boolean)) ∈ lw_all := lw_g (lw_at lw_m9 103 rfl) rfl
theorem q2470 : (Jvm.Cond.instanceMethod ({ cls := "LazyForge", name := "result", desc := "(I)I" } : Jvm.MethodName)) ∈ lw_all := lw_g (lw_at lw_m10 148 rfl) rfl
theorem q2471 : (Jvm.Cond.selects "LazyForge" ({ cls := "LazyForge", name := "result", desc := "(I)I" } : Jvm.MethodName) ({ cls := "LazyForge", name := "result", desc := "(I)I" } : Jvm.MethodName)) ∈ lw_all := lw_g (lw_at lw_m10 149 rfl) rfl
theorem q2472 : (Jvm.Cond.code ({ cls := "LazyForge", name := "result", desc := "(I)I" } : Jvm.MethodName) prog_1_method_22_code (2 : Nat) (Option.some Jvm.ClassFile.FieldType.int)) ∈ lw_all := lw_g (lw_at lw_m10 150 rfl) rfl
theorem q2477 : (Jvm.Cond.instanceMethod ({ cls := "LazyForge", name := "number", desc := "(I)I" } : Jvm.MethodName)) ∈ lw_all := lw_g (lw_at lw_m10 155 rfl) rfl
theorem q2478 : (Jvm.Cond.selects "LazyForge" ({ cls := "LazyForge", name := "number", desc := "(I)I" } : Jvm.MethodName) ({ cls := "LazyForge", name := "number", desc := "(I)I" } : Jvm.MethodName)) ∈ lw_all := lw_g (lw_at lw_m10 156 rfl) rfl
theorem q2479 : (Jvm.Cond.code ({ cls := "LazyForge", name := "number", desc := "(I)I" } : Jvm.MethodName) prog_1_method_23_code (2 : Nat) (Option.some Jvm.ClassFile.FieldType.int)) ∈ lw_all := lw_g (lw_at lw_m10 157 rfl) rfl
theorem q2484 : (Jvm.Cond.instanceMethod ({ cls := "LazyForge", name := "called", desc := "(I)I" } : Jvm.MethodName)) ∈ lw_all := lw_g (lw_at lw_m10 162 rfl) rfl
theorem q2485 : (Jvm.Cond.selects "LazyForge" ({ cls := "LazyForge", name := "called", desc := "(I)I" } : Jvm.MethodName) ({ cls := "LazyForge", name := "called", desc := "(I)I" } : Jvm.MethodName)) ∈ lw_all := lw_g (lw_at lw_m10 163 rfl) rfl
theorem q2486 : (Jvm.Cond.code ({ cls := "LazyForge", name := "called", desc := "(I)I" } : Jvm.MethodName) prog_1_method_24_code (2 : Nat) (Option.some Jvm.ClassFile.FieldType.int)) ∈ lw_all := lw_g (lw_at lw_m10 164 rfl) rfl
theorem q2491 : (Jvm.Cond.instanceMethod ({ cls := "LazyForge", name := "about", desc := "(I)I" } : Jvm.MethodName)) ∈ lw_all := lw_g (lw_at lw_m10 169 rfl) rfl
theorem q2492 : (Jvm.Cond.selects "LazyForge" ({ cls := "LazyForge", name := "about", desc := "(I)I" } : Jvm.MethodName) ({ cls := "LazyForge", name := "about", desc := "(I)I" } : Jvm.MethodName)) ∈ lw_all := lw_g (lw_at lw_m10 170 rfl) rfl
theorem q2493 : (Jvm.Cond.code ({ cls := "LazyForge", name := "about", desc := "(I)I" } : Jvm.MethodName) prog_1_method_25_code (2 : Nat) (Option.some Jvm.ClassFile.FieldType.int)) ∈ lw_all := lw_g (lw_at lw_m10 171 rfl) rfl
theorem q3491 : (Jvm.Cond.castable "LazyForge" "java/lang/Object") ∈ lw_tbl := lw_at lw_m14 209 rfl
theorem in_X1 : ∀ w ∈ wsX10, w ∈ lw_all := lw_in wsX10 [452, 454, 456, 458, 460, 462, 464, 466, 468, 470, 472] (by decide +kernel) (by decide +kernel)

/-! LazyForge$Writer -/
set_option maxRecDepth 100000
def RX2 : String := "LazyForge$Writer"
def TX2 : u_T := fun k => match k with
  | 0 => ("LazyForge$Writer", "signs", "[C", true)
  | 1 => ("LazyForge$Writer", "size", "I", false)
  | _ => ("LazyForge$Writer", "program", "LLazyForge$Program;", false)
def tyX2 : Nat → FieldType := fun k => match k with
  | 0 => .array .char
  | 1 => .int
  | _ => .object "LazyForge$Program"
abbrev wsX20 : List Cond := u_ws RX2 TX2 3
theorem nmX2 : ∀ a, a < 3 → ∀ b, b < 3 → a ≠ b → (TX2 a).2.1 ≠ (TX2 b).2.1 := by decide +kernel
theorem tyX2_ok : ∀ k, k < 3 → parseFieldDescriptor (TX2 k).2.2.1 = some (tyX2 k) := by decide +kernel
abbrev cX2_init : ByteArray := prog_25_method_1_code
def yX2_init : MethodName := ⟨RX2, "<init>", "()V"⟩
abbrev cX2_write : ByteArray := prog_25_method_10_code
def yX2_write : MethodName := ⟨RX2, "write", "(LLazyForge$Program;)V"⟩
abbrev cX2_text : ByteArray := prog_25_method_3_code
def yX2_text : MethodName := ⟨RX2, "text", "(Ljava/lang/String;)V"⟩
abbrev cX2_sign : ByteArray := prog_25_method_2_code
def yX2_sign : MethodName := ⟨RX2, "sign", "(C)V"⟩
abbrev cX2_constructor : ByteArray := prog_25_method_6_code
def yX2_constructor : MethodName := ⟨RX2, "constructor", "(I)V"⟩
abbrev cX2_word : ByteArray := prog_25_method_5_code
def yX2_word : MethodName := ⟨RX2, "word", "(J)V"⟩
abbrev cX2_number : ByteArray := prog_25_method_4_code
def yX2_number : MethodName := ⟨RX2, "number", "(I)V"⟩
abbrev cX2_function : ByteArray := prog_25_method_9_code
def yX2_function : MethodName := ⟨RX2, "function", "(LLazyForge$Function;)V"⟩
abbrev cX2_variable : ByteArray := prog_25_method_8_code
def yX2_variable : MethodName := ⟨RX2, "variable", "(I)V"⟩
abbrev cX2_literal : ByteArray := prog_25_method_7_code
def yX2_literal : MethodName := ⟨RX2, "literal", "(J)V"⟩
theorem q164 : (Jvm.Cond.initialized "LazyForge$Writer") ∈ lw_all := lw_g (lw_at lw_m1 2 rfl) rfl
theorem q219 : (Jvm.Cond.instantiable "LazyForge$Writer" (3 : Nat)) ∈ lw_all := lw_g (lw_at lw_m1 57 rfl) rfl
theorem q221 : (Jvm.Cond.instanceMethod ({ cls := "LazyForge$Writer", name := "<init>", desc := "()V" } : Jvm.MethodName)) ∈ lw_all := lw_g (lw_at lw_m1 59 rfl) rfl
theorem q222 : (Jvm.Cond.code ({ cls := "LazyForge$Writer", name := "<init>", desc := "()V" } : Jvm.MethodName) prog_25_method_1_code (1 : Nat) (Option.none : Option Jvm.ClassFile.FieldType)) ∈ lw_all := lw_g (lw_at lw_m1 60 rfl) rfl
theorem q223 : (Jvm.Cond.methodLink "LazyForge$Writer" (3 : Nat) ({ cls := "java/lang/Object", name := "<init>", desc := "()V" } : Jvm.MethodName)) ∈ lw_all := lw_g (lw_at lw_m1 61 rfl) rfl
theorem q224 : (Jvm.Cond.fieldLink "LazyForge$Writer" (9 : Nat) "LazyForge$Writer" "signs" "[C") ∈ lw_all := lw_g (lw_at lw_m1 62 rfl) rfl
theorem q226 : (Jvm.Cond.fieldLink "LazyForge$Writer" (15 : Nat) "LazyForge$Writer" "size" "I") ∈ lw_all := lw_g (lw_at lw_m1 64 rfl) rfl
theorem q228 : (Jvm.Cond.fieldLink "LazyForge$Writer" (35 : Nat) "LazyForge$Writer" "program" "LLazyForge$Program;") ∈ lw_all := lw_g (lw_at lw_m1 66 rfl) rfl
theorem q229 : (Jvm.Cond.laysFinal "LazyForge$Writer" "LazyForge$Writer" "signs" "[C") ∈ lw_all := lw_g (lw_at lw_m1 67 rfl) rfl
theorem q230 : (Jvm.Cond.soleField "LazyForge$Writer" "signs") ∈ lw_all := lw_g (lw_at lw_m1 68 rfl) rfl
theorem q231 : (Jvm.Cond.lays "LazyForge$Writer" "LazyForge$Writer" "size" "I") ∈ lw_all := lw_g (lw_at lw_m1 69 rfl) rfl
theorem q232 : (Jvm.Cond.soleField "LazyForge$Writer" "size") ∈ lw_all := lw_g (lw_at lw_m1 70 rfl) rfl
theorem q233 : (Jvm.Cond.lays "LazyForge$Writer" "LazyForge$Writer" "program" "LLazyForge$Program;") ∈ lw_all := lw_g (lw_at lw_m1 71 rfl) rfl
theorem q234 : (Jvm.Cond.soleField "LazyForge$Writer" "program") ∈ lw_all := lw_g (lw_at lw_m1 72 rfl) rfl
theorem q235 : (Jvm.Cond.superclass "LazyForge$Writer" "java/lang/Object") ∈ lw_all := lw_g (lw_at lw_m1 73 rfl) rfl
theorem q1059 : (Jvm.Cond.fieldLinkNest "LazyForge$Writer" (85 : Nat) "LazyForge$Program" "functions" "Ljava/util/ArrayList;" "LazyForge") ∈ lw_tbl := lw_at lw_m4 177 rfl
theorem q1070 : (Jvm.Cond.fieldLinkNest "LazyForge$Writer" (64 : Nat) "LazyForge$Program" "main" "I" "LazyForge") ∈ lw_tbl := lw_at lw_m4 188 rfl
theorem q1075 : (Jvm.Cond.fieldLinkNest "LazyForge$Writer" (39 : Nat) "LazyForge$Program" "constructors" "[J" "LazyForge") ∈ lw_tbl := lw_at lw_m4 193 rfl
theorem q1077 : (Jvm.Cond.fieldLinkNest "LazyForge$Writer" (79 : Nat) "LazyForge$Program" "fields" "[I" "LazyForge") ∈ lw_tbl := lw_at lw_m4 195 rfl
theorem q1080 : (Jvm.Cond.fieldLinkNest "LazyForge$Writer" (72 : Nat) "LazyForge$Program" "constructorCount" "I" "LazyForge") ∈ lw_tbl := lw_at lw_m4 198 rfl
theorem q1146 : (Jvm.Cond.fieldLinkNest "LazyForge$Writer" (60 : Nat) "LazyForge$Function" "number" "I" "LazyForge") ∈ lw_tbl := lw_at lw_m5 24 rfl
theorem q1159 : (Jvm.Cond.fieldLinkNest "LazyForge$Writer" (109 : Nat) "LazyForge$Function" "body" "LLazyForge$Part;" "LazyForge") ∈ lw_tbl := lw_at lw_m5 37 rfl
theorem q1245 : (Jvm.Cond.selects "LazyForge$Writer" ({ cls := "java/lang/Object", name := "getClass", desc := "()Ljava/lang/Class;" } : Jvm.MethodName) ({ cls := "java/lang/Object", name := "getClass", desc := "()Ljava/lang/Class;" } : Jvm.MethodName)) ∈ lw_all := lw_g (lw_at lw_m5 123 rfl) rfl
theorem q1423 : (Jvm.Cond.selects "LazyForge$Writer" ({ cls := "java/lang/Object", name := "equals", desc := "(Ljava/lang/Object;)Z" } : Jvm.MethodName) ({ cls := "java/lang/Object", name := "equals", desc := "(Ljava/lang/Object;)Z" } : Jvm.MethodName)) ∈ lw_all := lw_g (lw_at lw_m6 61 rfl) rfl
theorem q1929 : (Jvm.Cond.instanceMethod ({ cls := "LazyForge$Writer", name := "write", desc := "(LLazyForge$Program;)V" } : Jvm.MethodName)) ∈ lw_all := lw_g (lw_at lw_m8 87 rfl) rfl
theorem q1930 : (Jvm.Cond.selects "LazyForge$Writer" ({ cls := "LazyForge$Writer", name := "write", desc := "(LLazyForge$Program;)V" } : Jvm.MethodName) ({ cls := "LazyForge$Writer", name := "write", desc := "(LLazyForge$Program;)V" } : Jvm.MethodName)) ∈ lw_all := lw_g (lw_at lw_m8 88 rfl) rfl
theorem q1931 : (Jvm.Cond.code ({ cls := "LazyForge$Writer", name := "write", desc := "(LLazyForge$Program;)V" } : Jvm.MethodName) prog_25_method_10_code (5 : Nat) (Option.none : Option Jvm.ClassFile.FieldType)) ∈ lw_all := lw_g (lw_at lw_m8 89 rfl) rfl
theorem q1932 : (Jvm.Cond.stringRef "LazyForge$Writer" (75 : Nat) "data ") ∈ lw_tbl := lw_at lw_m8 90 rfl
theorem q1933 : (Jvm.Cond.methodLink "LazyForge$Writer" (68 : Nat) ({ cls := "LazyForge$Writer", name := "text", desc := "(Ljava/lang/String;)V" } : Jvm.MethodName)) ∈ lw_all := lw_g (lw_at lw_m8 91 rfl) rfl
theorem q1934 : (Jvm.Cond.instanceMethod ({ cls := "LazyForge$Writer", name := "text", desc := "(Ljava/lang/String;)V" } : Jvm.MethodName)) ∈ lw_all := lw_g (lw_at lw_m8 92 rfl) rfl
theorem q1935 : (Jvm.Cond.selects "LazyForge$Writer" ({ cls := "LazyForge$Writer", name := "text", desc := "(Ljava/lang/String;)V" } : Jvm.MethodName) ({ cls := "LazyForge$Writer", name := "text", desc := "(Ljava/lang/String;)V" } : Jvm.MethodName)) ∈ lw_all := lw_g (lw_at lw_m8 93 rfl) rfl
theorem q1936 : (Jvm.Cond.code ({ cls := "LazyForge$Writer", name := "text", desc := "(Ljava/lang/String;)V" } : Jvm.MethodName) prog_25_method_3_code (3 : Nat) (Option.none : Option Jvm.ClassFile.FieldType)) ∈ lw_all := lw_g (lw_at lw_m8 94 rfl) rfl
theorem q1937 : (Jvm.Cond.methodLink "LazyForge$Writer" (19 : Nat) ({ cls := "java/lang/String", name := "length", desc := "()I" } : Jvm.MethodName)) ∈ lw_all := lw_g (lw_at lw_m8 95 rfl) rfl
theorem q1938 : (Jvm.Cond.methodLink "LazyForge$Writer" (25 : Nat) ({ cls := "java/lang/String", name := "charAt", desc := "(I)C" } : Jvm.MethodName)) ∈ lw_all := lw_g (lw_at lw_m8 96 rfl) rfl
theorem q1939 : (Jvm.Cond.methodLink "LazyForge$Writer" (29 : Nat) ({ cls := "LazyForge$Writer", name := "sign", desc := "(C)V" } : Jvm.MethodName)) ∈ lw_all := lw_g (lw_at lw_m8 97 rfl) rfl
theorem q1940 : (Jvm.Cond.instanceMethod ({ cls := "LazyForge$Writer", name := "sign", desc := "(C)V" } : Jvm.MethodName)) ∈ lw_all := lw_g (lw_at lw_m8 98 rfl) rfl
theorem q1941 : (Jvm.Cond.selects "LazyForge$Writer" ({ cls := "LazyForge$Writer", name := "sign", desc := "(C)V" } : Jvm.MethodName) ({ cls := "LazyForge$Writer", name := "sign", desc := "(C)V" } : Jvm.MethodName)) ∈ lw_all := lw_g (lw_at lw_m8 99 rfl) rfl
theorem q1942 : (Jvm.Cond.code ({ cls := "LazyForge$Writer", name := "sign", desc := "(C)V" } : Jvm.MethodName) prog_25_method_2_code (2 : Nat) (Option.none : Option Jvm.ClassFile.FieldType)) ∈ lw_all := lw_g (lw_at lw_m8 100 rfl) rfl
theorem q1943 : (Jvm.Cond.stringRef "LazyForge$Writer" (77 : Nat) " | ") ∈ lw_tbl := lw_at lw_m8 101 rfl
theorem q1944 : (Jvm.Cond.methodLink "LazyForge$Writer" (57 : Nat) ({ cls := "LazyForge$Writer", name := "constructor", desc := "(I)V" } : Jvm.MethodName)) ∈ lw_all := lw_g (lw_at lw_m8 102 rfl) rfl
theorem q1945 : (Jvm.Cond.instanceMethod ({ cls := "LazyForge$Writer", name := "constructor", desc := "(I)V" } : Jvm.MethodName)) ∈ lw_all := lw_g (lw_at lw_m8 103 rfl) rfl
theorem q1946 : (Jvm.Cond.selects "LazyForge$Writer" ({ cls := "LazyForge$Writer", name := "constructor", desc := "(I)V" } : Jvm.MethodName) ({ cls := "LazyForge$Writer", name := "constructor", desc := "(I)V" } : Jvm.MethodName)) ∈ lw_all := lw_g (lw_at lw_m8 104 rfl) rfl
theorem q1947 : (Jvm.Cond.code ({ cls := "LazyForge$Writer", name := "constructor", desc := "(I)V" } : Jvm.MethodName) prog_25_method_6_code (2 : Nat) (Option.none : Option Jvm.ClassFile.FieldType)) ∈ lw_all := lw_g (lw_at lw_m8 105 rfl) rfl
theorem q1948 : (Jvm.Cond.methodLink "LazyForge$Writer" (45 : Nat) ({ cls := "LazyForge$Writer", name := "word", desc := "(J)V" } : Jvm.MethodName)) ∈ lw_all := lw_g (lw_at lw_m8 106 rfl) rfl
theorem q1949 : (Jvm.Cond.instanceMethod ({ cls := "LazyForge$Writer", name := "word", desc := "(J)V" } : Jvm.MethodName)) ∈ lw_all := lw_g (lw_at lw_m8 107 rfl) rfl
theorem q1950 : (Jvm.Cond.selects "LazyForge$Writer" ({ cls := "LazyForge$Writer", name := "word", desc := "(J)V" } : Jvm.MethodName) ({ cls := "LazyForge$Writer", name := "word", desc := "(J)V" } : Jvm.MethodName)) ∈ lw_all := lw_g (lw_at lw_m8 108 rfl) rfl
theorem q1951 : (Jvm.Cond.code ({ cls := "LazyForge$Writer", name := "word", desc := "(J)V" } : Jvm.MethodName) prog_25_method_5_code (4 : Nat) (Option.none : Option Jvm.ClassFile.FieldType)) ∈ lw_all := lw_g (lw_at lw_m8 109 rfl) rfl
theorem q1952 : (Jvm.Cond.constantLong "LazyForge$Writer" (33 : Nat) (255 : Int64)) ∈ lw_all := lw_g (lw_at lw_m8 110 rfl) rfl
theorem q1953 : (Jvm.Cond.methodLink "LazyForge$Writer" (53 : Nat) ({ cls := "LazyForge$Writer", name := "number", desc := "(I)V" } : Jvm.MethodName)) ∈ lw_all := lw_g (lw_at lw_m8 111 rfl) rfl
theorem q1954 : (Jvm.Cond.instanceMethod ({ cls := "LazyForge$Writer", name := "number", desc := "(I)V" } : Jvm.MethodName)) ∈ lw_all := lw_g (lw_at lw_m8 112 rfl) rfl
theorem q1955 : (Jvm.Cond.selects "LazyForge$Writer" ({ cls := "LazyForge$Writer", name := "number", desc := "(I)V" } : Jvm.MethodName) ({ cls := "LazyForge$Writer", name := "number", desc := "(I)V" } : Jvm.MethodName)) ∈ lw_all := lw_g (lw_at lw_m8 113 rfl) rfl
theorem q1956 : (Jvm.Cond.code ({ cls := "LazyForge$Writer", name := "number", desc := "(I)V" } : Jvm.MethodName) prog_25_method_4_code (4 : Nat) (Option.none : Option Jvm.ClassFile.FieldType)) ∈ lw_all := lw_g (lw_at lw_m8 114 rfl) rfl
theorem q1957 : (Jvm.Cond.stringRef "LazyForge$Writer" (83 : Nat) ";\n") ∈ lw_tbl := lw_at lw_m8 115 rfl
theorem q1958 : (Jvm.Cond.methodLink "LazyForge$Writer" (89 : Nat) ({ cls := "java/util/ArrayList", name := "size", desc := "()I" } : Jvm.MethodName)) ∈ lw_all := lw_g (lw_at lw_m8 116 rfl) rfl
theorem q1959 : (Jvm.Cond.methodLink "LazyForge$Writer" (93 : Nat) ({ cls := "java/util/ArrayList", name := "get", desc := "(I)Ljava/lang/Object;" } : Jvm.MethodName)) ∈ lw_all := lw_g (lw_at lw_m8 117 rfl) rfl
theorem q1960 : (Jvm.Cond.classLink "LazyForge$Writer" (61 : Nat) "LazyForge$Function") ∈ lw_all := lw_g (lw_at lw_m8 118 rfl) rfl
theorem q1961 : (Jvm.Cond.methodLink "LazyForge$Writer" (97 : Nat) ({ cls := "LazyForge$Writer", name := "function", desc := "(LLazyForge$Function;)V" } : Jvm.MethodName)) ∈ lw_all := lw_g (lw_at lw_m8 119 rfl) rfl
theorem q1962 : (Jvm.Cond.instanceMethod ({ cls := "LazyForge$Writer", name := "function", desc := "(LLazyForge$Function;)V" } : Jvm.MethodName)) ∈ lw_all := lw_g (lw_at lw_m8 120 rfl) rfl
theorem q1963 : (Jvm.Cond.selects "LazyForge$Writer" ({ cls := "LazyForge$Writer", name := "function", desc := "(LLazyForge$Function;)V" } : Jvm.MethodName) ({ cls := "LazyForge$Writer", name := "function", desc := "(LLazyForge$Function;)V" } : Jvm.MethodName)) ∈ lw_all := lw_g (lw_at lw_m8 121 rfl) rfl
theorem q1964 : (Jvm.Cond.code ({ cls := "LazyForge$Writer", name := "function", desc := "(LLazyForge$Function;)V" } : Jvm.MethodName) prog_25_method_9_code (2 : Nat) (Option.none : Option Jvm.ClassFile.FieldType)) ∈ lw_all := lw_g (lw_at lw_m8 122 rfl) rfl
theorem q1965 : (Jvm.Cond.stringRef "LazyForge$Writer" (67 : Nat) "main") ∈ lw_tbl := lw_at lw_m8 123 rfl
theorem q1966 : (Jvm.Cond.methodLink "LazyForge$Writer" (101 : Nat) ({ cls := "LazyForge$Function", name := "parameters", desc := "()I" } : Jvm.MethodName)) ∈ lw_all := lw_g (lw_at lw_m8 124 rfl) rfl
theorem q1967 : (Jvm.Cond.methodLink "LazyForge$Writer" (104 : Nat) ({ cls := "LazyForge$Writer", name := "variable", desc := "(I)V" } : Jvm.MethodName)) ∈ lw_all := lw_g (lw_at lw_m8 125 rfl) rfl
theorem q1968 : (Jvm.Cond.instanceMethod ({ cls := "LazyForge$Writer", name := "variable", desc := "(I)V" } : Jvm.MethodName)) ∈ lw_all := lw_g (lw_at lw_m8 126 rfl) rfl
theorem q1969 : (Jvm.Cond.selects "LazyForge$Writer" ({ cls := "LazyForge$Writer", name := "variable", desc := "(I)V" } : Jvm.MethodName) ({ cls := "LazyForge$Writer", name := "variable", desc := "(I)V" } : Jvm.MethodName)) ∈ lw_all := lw_g (lw_at lw_m8 127 rfl) rfl
theorem q1970 : (Jvm.Cond.code ({ cls := "LazyForge$Writer", name := "variable", desc := "(I)V" } : Jvm.MethodName) prog_25_method_8_code (2 : Nat) (Option.none : Option Jvm.ClassFile.FieldType)) ∈ lw_all := lw_g (lw_at lw_m8 128 rfl) rfl
theorem q1971 : (Jvm.Cond.stringRef "LazyForge$Writer" (107 : Nat) " = ") ∈ lw_tbl := lw_at lw_m8 129 rfl
theorem q1972 : (Jvm.Cond.methodLink "LazyForge$Writer" (113 : Nat) ({ cls := "LazyForge$Part", name := "write", desc := "(LLazyForge$Writer;)V" } : Jvm.MethodName)) ∈ lw_all := lw_g (lw_at lw_m8 130 rfl) rfl
theorem q2003 : (Jvm.Cond.instanceMethod ({ cls := "LazyForge$Writer", name := "literal", desc := "(J)V" } : Jvm.MethodName)) ∈ lw_all := lw_g (lw_at lw_m8 161 rfl) rfl
theorem q2004 : (Jvm.Cond.selects "LazyForge$Writer" ({ cls := "LazyForge$Writer", name := "literal", desc := "(J)V" } : Jvm.MethodName) ({ cls := "LazyForge$Writer", name := "literal", desc := "(J)V" } : Jvm.MethodName)) ∈ lw_all := lw_g (lw_at lw_m8 162 rfl) rfl
theorem q2005 : (Jvm.Cond.code ({ cls := "LazyForge$Writer", name := "literal", desc := "(J)V" } : Jvm.MethodName) prog_25_method_7_code (3 : Nat) (Option.none : Option Jvm.ClassFile.FieldType)) ∈ lw_all := lw_g (lw_at lw_m8 163 rfl) rfl
theorem q2006 : (Jvm.Cond.methodLinkNest "LazyForge$Writer" (49 : Nat) ({ cls := "LazyForge", name := "isInt", desc := "(J)Z" } : Jvm.MethodName) "LazyForge") ∈ lw_tbl := lw_at lw_m8 164 rfl
theorem q3492 : (Jvm.Cond.castable "LazyForge$Writer" "java/lang/Object") ∈ lw_tbl := lw_at lw_m14 210 rfl
theorem in_X2 : ∀ w ∈ wsX20, w ∈ lw_all := lw_in wsX20 [229, 231, 233] (by decide +kernel) (by decide +kernel)

/-! LazyForge$Machine -/
set_option maxRecDepth 100000
def RX3 : String := "LazyForge$Machine"
def TX3 : u_T := fun k => match k with
  | 0 => ("LazyForge$Machine", "update", "LLazyForge$Part;", true)
  | 1 => ("LazyForge$Machine", "leaving", "LLazyForge$Part;", true)
  | 2 => ("LazyForge$Machine", "applied", "LLazyForge$Part;", true)
  | 3 => ("LazyForge$Machine", "entering", "LLazyForge$Part;", true)
  | 4 => ("LazyForge$Machine", "forcing", "LLazyForge$Part;", true)
  | 5 => ("LazyForge$Machine", "cells", "[J", true)
  | 6 => ("LazyForge$Machine", "waiting", "[LLazyForge$Part;", false)
  | 7 => ("LazyForge$Machine", "states", "[I", false)
  | 8 => ("LazyForge$Machine", "waits", "I", false)
  | 9 => ("LazyForge$Machine", "values", "[J", false)
  | 10 => ("LazyForge$Machine", "has", "I", false)
  | 11 => ("LazyForge$Machine", "slots", "[J", false)
  | 12 => ("LazyForge$Machine", "base", "I", false)
  | 13 => ("LazyForge$Machine", "top", "I", false)
  | 14 => ("LazyForge$Machine", "bases", "[I", false)
  | 15 => ("LazyForge$Machine", "frames", "I", false)
  | 16 => ("LazyForge$Machine", "program", "LLazyForge$Program;", false)
  | 17 => ("LazyForge$Machine", "isEager", "Z", false)
  | 18 => ("LazyForge$Machine", "most", "I", false)
  | 19 => ("LazyForge$Machine", "wholes", "[J", true)
  | 20 => ("LazyForge$Machine", "row", "[I", true)
  | 21 => ("LazyForge$Machine", "rowSize", "I", false)
  | 22 => ("LazyForge$Machine", "ends", "I", false)
  | 23 => ("LazyForge$Machine", "why", "I", false)
  | 24 => ("LazyForge$Machine", "calls", "I", false)
  | 25 => ("LazyForge$Machine", "used", "I", false)
  | 26 => ("LazyForge$Machine", "suspensions", "I", false)
  | 27 => ("LazyForge$Machine", "partsOfCalls", "I", false)
  | 28 => ("LazyForge$Machine", "objects", "I", false)
  | 29 => ("LazyForge$Machine", "updates", "I", false)
  | _ => ("LazyForge$Machine", "atOnce", "I", false)
def tyX3 : Nat → FieldType := fun k => match k with
  | 0 => .object "LazyForge$Part"
  | 1 => .object "LazyForge$Part"
  | 2 => .object "LazyForge$Part"
  | 3 => .object "LazyForge$Part"
  | 4 => .object "LazyForge$Part"
  | 5 => .array .long
  | 6 => .array (.object "LazyForge$Part")
  | 7 => .array .int
  | 8 => .int
  | 9 => .array .long
  | 10 => .int
  | 11 => .array .long
  | 12 => .int
  | 13 => .int
  | 14 => .array .int
  | 15 => .int
  | 16 => .object "LazyForge$Program"
  | 17 => .boolean
  | 18 => .int
  | 19 => .array .long
  | 20 => .array .int
  | 21 => .int
  | 22 => .int
  | 23 => .int
  | 24 => .int
  | 25 => .int
  | 26 => .int
  | 27 => .int
  | 28 => .int
  | 29 => .int
  | _ => .int
abbrev wsX30 : List Cond := u_ws RX3 TX3 31
set_option maxRecDepth 100000 in
theorem nmX3 : ∀ a, a < 31 → ∀ b, b < 31 → a ≠ b → (TX3 a).2.1 ≠ (TX3 b).2.1 := by decide +kernel
set_option maxRecDepth 100000 in
theorem tyX3_ok : ∀ k, k < 31 → parseFieldDescriptor (TX3 k).2.2.1 = some (tyX3 k) := by decide +kernel
abbrev cX3_init : ByteArray := prog_12_method_1_code
def yX3_init : MethodName := ⟨RX3, "<init>", "()V"⟩
abbrev cX3_clear : ByteArray := prog_12_method_35_code
def yX3_clear : MethodName := ⟨RX3, "clear", "()V"⟩
abbrev cX3_run : ByteArray := prog_12_method_34_code
def yX3_run : MethodName := ⟨RX3, "run", "(LLazyForge$Program;ZI)V"⟩
abbrev cX3_reserve : ByteArray := prog_12_method_15_code
def yX3_reserve : MethodName := ⟨RX3, "reserve", "(LLazyForge$Part;)J"⟩
abbrev cX3_make : ByteArray := prog_12_method_12_code
def yX3_make : MethodName := ⟨RX3, "make", "(I)I"⟩
abbrev cX3_end : ByteArray := prog_12_method_10_code
def yX3_end : MethodName := ⟨RX3, "end", "(II)V"⟩
abbrev cX3_again : ByteArray := prog_12_method_2_code
def yX3_again : MethodName := ⟨RX3, "again", "(LLazyForge$Part;I)V"⟩
abbrev cX3_enter : ByteArray := prog_12_method_25_code
def yX3_enter : MethodName := ⟨RX3, "enter", "(J)V"⟩
abbrev cX3_give : ByteArray := prog_12_method_5_code
def yX3_give : MethodName := ⟨RX3, "give", "(J)V"⟩
abbrev cX3_longer : ByteArray := prog_12_method_7_code
def yX3_longer : MethodName := ⟨RX3, "longer", "([JI)[J"⟩
abbrev cX3_fault : ByteArray := prog_12_method_11_code
def yX3_fault : MethodName := ⟨RX3, "fault", "(I)V"⟩
abbrev cX3_open : ByteArray := prog_12_method_23_code
def yX3_open : MethodName := ⟨RX3, "open", "(LLazyForge$Function;)V"⟩
abbrev cX3_set : ByteArray := prog_12_method_9_code
def yX3_set : MethodName := ⟨RX3, "set", "(IJ)V"⟩
abbrev cX3_work : ByteArray := prog_12_method_3_code
def yX3_work : MethodName := ⟨RX3, "work", "(LLazyForge$Part;)V"⟩
abbrev cX3_applyValue : ByteArray := prog_12_method_28_code
def yX3_applyValue : MethodName := ⟨RX3, "applyValue", "(I)V"⟩
abbrev cX3_taken : ByteArray := prog_12_method_6_code
def yX3_taken : MethodName := ⟨RX3, "taken", "()J"⟩
abbrev cX3_call : ByteArray := prog_12_method_27_code
def yX3_call : MethodName := ⟨RX3, "call", "(LLazyForge$Function;II)V"⟩
abbrev cX3_apply : ByteArray := prog_12_method_4_code
def yX3_apply : MethodName := ⟨RX3, "apply", "(I)V"⟩
abbrev cX3_partOfCall : ByteArray := prog_12_method_14_code
def yX3_partOfCall : MethodName := ⟨RX3, "partOfCall", "(LLazyForge$Function;I)J"⟩
abbrev cX3_keepAll : ByteArray := prog_12_method_19_code
def yX3_keepAll : MethodName := ⟨RX3, "keepAll", "([LLazyForge$Part;I)Z"⟩
abbrev cX3_suspend : ByteArray := prog_12_method_17_code
def yX3_suspend : MethodName := ⟨RX3, "suspend", "(LLazyForge$Part;)J"⟩
abbrev cX3_capture : ByteArray := prog_12_method_16_code
def yX3_capture : MethodName := ⟨RX3, "capture", "(LLazyForge$Part;J)V"⟩
abbrev cX3_local : ByteArray := prog_12_method_8_code
def yX3_local : MethodName := ⟨RX3, "local", "(I)J"⟩
abbrev cX3_fill : ByteArray := prog_12_method_18_code
def yX3_fill : MethodName := ⟨RX3, "fill", "(JI[LLazyForge$Part;)Z"⟩
abbrev cX3_object : ByteArray := prog_12_method_13_code
def yX3_object : MethodName := ⟨RX3, "object", "(II)J"⟩
abbrev cX3_whole : ByteArray := prog_12_method_22_code
def yX3_whole : MethodName := ⟨RX3, "whole", "(LLazyForge$Function;)J"⟩
abbrev cX3_constructorOf : ByteArray := prog_12_method_20_code
def yX3_constructorOf : MethodName := ⟨RX3, "constructorOf", "(J)I"⟩
abbrev cX3_fieldOf : ByteArray := prog_12_method_21_code
def yX3_fieldOf : MethodName := ⟨RX3, "fieldOf", "(JI)J"⟩
abbrev cX3_force : ByteArray := prog_12_method_33_code
def yX3_force : MethodName := ⟨RX3, "force", "()V"⟩
abbrev cX3_say : ByteArray := prog_12_method_31_code
def yX3_say : MethodName := ⟨RX3, "say", "(I)Z"⟩
abbrev cX3_number : ByteArray := prog_12_method_32_code
def yX3_number : MethodName := ⟨RX3, "number", "(I)V"⟩
abbrev cX3_leave : ByteArray := prog_12_method_24_code
def yX3_leave : MethodName := ⟨RX3, "leave", "()V"⟩
abbrev cX3_reckon : ByteArray := prog_12_method_29_code
def yX3_reckon : MethodName := ⟨RX3, "reckon", "(I)V"⟩
abbrev cX3_reckoned : ByteArray := prog_12_method_30_code
def yX3_reckoned : MethodName := ⟨RX3, "reckoned", "(III)J"⟩
abbrev cX3_update : ByteArray := prog_12_method_26_code
def yX3_update : MethodName := ⟨RX3, "update", "(I)V"⟩
theorem q165 : (Jvm.Cond.initialized "LazyForge$Machine") ∈ lw_all := lw_g (lw_at lw_m1 3 rfl) rfl
theorem q238 : (Jvm.Cond.instantiable "LazyForge$Machine" (31 : Nat)) ∈ lw_all := lw_g (lw_at lw_m1 76 rfl) rfl
theorem q240 : (Jvm.Cond.instanceMethod ({ cls := "LazyForge$Machine", name := "<init>", desc := "()V" } : Jvm.MethodName)) ∈ lw_all := lw_g (lw_at lw_m1 78 rfl) rfl
theorem q241 : (Jvm.Cond.code ({ cls := "LazyForge$Machine", name := "<init>", desc := "()V" } : Jvm.MethodName) prog_12_method_1_code (1 : Nat) (Option.none : Option Jvm.ClassFile.FieldType)) ∈ lw_all := lw_g (lw_at lw_m1 79 rfl) rfl
theorem q242 : (Jvm.Cond.methodLink "LazyForge$Machine" (3 : Nat) ({ cls := "java/lang/Object", name := "<init>", desc := "()V" } : Jvm.MethodName)) ∈ lw_all := lw_g (lw_at lw_m1 80 rfl) rfl
theorem q243 : (Jvm.Cond.classLink "LazyForge$Machine" (9 : Nat) "LazyForge$Update") ∈ lw_all := lw_g (lw_at lw_m1 81 rfl) rfl
theorem q245 : (Jvm.Cond.methodLinkNest "LazyForge$Machine" (11 : Nat) ({ cls := "LazyForge$Update", name := "<init>", desc := "()V" } : Jvm.MethodName) "LazyForge") ∈ lw_tbl := lw_at lw_m1 83 rfl
theorem q262 : (Jvm.Cond.fieldLinkNest "LazyForge$Machine" (143 : Nat) "LazyForge$Part" "number" "I" "LazyForge") ∈ lw_tbl := lw_at lw_m1 100 rfl
theorem q264 : (Jvm.Cond.fieldLinkNest "LazyForge$Machine" (135 : Nat) "LazyForge$Part" "captured" "[I" "LazyForge") ∈ lw_tbl := lw_at lw_m1 102 rfl
theorem q266 : (Jvm.Cond.fieldLinkNest "LazyForge$Machine" (202 : Nat) "LazyForge$Part" "in" "LLazyForge$Function;" "LazyForge") ∈ lw_tbl := lw_at lw_m1 104 rfl
theorem q278 : (Jvm.Cond.classLink "LazyForge$Machine" (18 : Nat) "LazyForge$Leave") ∈ lw_all := lw_g (lw_at lw_m1 116 rfl) rfl
theorem q280 : (Jvm.Cond.methodLinkNest "LazyForge$Machine" (20 : Nat) ({ cls := "LazyForge$Leave", name := "<init>", desc := "()V" } : Jvm.MethodName) "LazyForge") ∈ lw_tbl := lw_at lw_m1 118 rfl
theorem q290 : (Jvm.Cond.classLink "LazyForge$Machine" (24 : Nat) "LazyForge$Applied") ∈ lw_all := lw_g (lw_at lw_m1 128 rfl) rfl
theorem q292 : (Jvm.Cond.methodLinkNest "LazyForge$Machine" (26 : Nat) ({ cls := "LazyForge$Applied", name := "<init>", desc := "()V" } : Jvm.MethodName) "LazyForge") ∈ lw_tbl := lw_at lw_m1 130 rfl
theorem q302 : (Jvm.Cond.classLink "LazyForge$Machine" (30 : Nat) "LazyForge$Enter") ∈ lw_all := lw_g (lw_at lw_m1 140 rfl) rfl
theorem q304 : (Jvm.Cond.methodLinkNest "LazyForge$Machine" (32 : Nat) ({ cls := "LazyForge$Enter", name := "<init>", desc := "()V" } : Jvm.MethodName) "LazyForge") ∈ lw_tbl := lw_at lw_m1 142 rfl
theorem q314 : (Jvm.Cond.classLink "LazyForge$Machine" (36 : Nat) "LazyForge$Force") ∈ lw_all := lw_g (lw_at lw_m1 152 rfl) rfl
theorem q316 : (Jvm.Cond.methodLinkNest "LazyForge$Machine" (38 : Nat) ({ cls := "LazyForge$Force", name := "<init>", desc := "()V" } : Jvm.MethodName) "LazyForge") ∈ lw_tbl := lw_at lw_m1 154 rfl
theorem q326 : (Jvm.Cond.classLink "LazyForge$Machine" (46 : Nat) "LazyForge$Part") ∈ lw_all := lw_g (lw_at lw_m1 164 rfl) rfl
theorem q328 : (Jvm.Cond.fieldLink "LazyForge$Machine" (12 : Nat) "LazyForge$Machine" "update" "LLazyForge$Part;") ∈ lw_all := lw_g (lw_at lw_m1 166 rfl) rfl
theorem q329 : (Jvm.Cond.fieldLink "LazyForge$Machine" (21 : Nat) "LazyForge$Machine" "leaving" "LLazyForge$Part;") ∈ lw_all := lw_g (lw_at lw_m1 167 rfl) rfl
theorem q330 : (Jvm.Cond.fieldLink "LazyForge$Machine" (27 : Nat) "LazyForge$Machine" "applied" "LLazyForge$Part;") ∈ lw_all := lw_g (lw_at lw_m1 168 rfl) rfl
theorem q331 : (Jvm.Cond.fieldLink "LazyForge$Machine" (33 : Nat) "LazyForge$Machine" "entering" "LLazyForge$Part;") ∈ lw_all := lw_g (lw_at lw_m1 169 rfl) rfl
theorem q332 : (Jvm.Cond.fieldLink "LazyForge$Machine" (39 : Nat) "LazyForge$Machine" "forcing" "LLazyForge$Part;") ∈ lw_all := lw_g (lw_at lw_m1 170 rfl) rfl
theorem q333 : (Jvm.Cond.fieldLink "LazyForge$Machine" (42 : Nat) "LazyForge$Machine" "cells" "[J") ∈ lw_all := lw_g (lw_at lw_m1 171 rfl) rfl
theorem q335 : (Jvm.Cond.fieldLink "LazyForge$Machine" (48 : Nat) "LazyForge$Machine" "waiting" "[LLazyForge$Part;") ∈ lw_all := lw_g (lw_at lw_m1 173 rfl) rfl
theorem q336 : (Jvm.Cond.fieldLink "LazyForge$Machine" (52 : Nat) "LazyForge$Machine" "states" "[I") ∈ lw_all := lw_g (lw_at lw_m1 174 rfl) rfl
theorem q337 : (Jvm.Cond.fieldLink "LazyForge$Machine" (71 : Nat) "LazyForge$Machine" "waits" "I") ∈ lw_all := lw_g (lw_at lw_m1 175 rfl) rfl
theorem q338 : (Jvm.Cond.fieldLink "LazyForge$Machine" (56 : Nat) "LazyForge$Machine" "values" "[J") ∈ lw_all := lw_g (lw_at lw_m1 176 rfl) rfl
theorem q339 : (Jvm.Cond.fieldLink "LazyForge$Machine" (85 : Nat) "LazyForge$Machine" "has" "I") ∈ lw_all := lw_g (lw_at lw_m1 177 rfl) rfl
theorem q340 : (Jvm.Cond.fieldLink "LazyForge$Machine" (59 : Nat) "LazyForge$Machine" "slots" "[J") ∈ lw_all := lw_g (lw_at lw_m1 178 rfl) rfl
theorem q341 : (Jvm.Cond.fieldLink "LazyForge$Machine" (98 : Nat) "LazyForge$Machine" "base" "I") ∈ lw_all := lw_g (lw_at lw_m1 179 rfl) rfl
theorem q342 : (Jvm.Cond.fieldLink "LazyForge$Machine" (169 : Nat) "LazyForge$Machine" "top" "I") ∈ lw_all := lw_g (lw_at lw_m1 180 rfl) rfl
theorem q343 : (Jvm.Cond.fieldLink "LazyForge$Machine" (62 : Nat) "LazyForge$Machine" "bases" "[I") ∈ lw_all := lw_g (lw_at lw_m1 181 rfl) rfl
theorem q344 : (Jvm.Cond.fieldLink "LazyForge$Machine" (166 : Nat) "LazyForge$Machine" "frames" "I") ∈ lw_all := lw_g (lw_at lw_m1 182 rfl) rfl
theorem q345 : (Jvm.Cond.fieldLink "LazyForge$Machine" (186 : Nat) "LazyForge$Machine" "program" "LLazyForge$Program;") ∈ lw_all := lw_g (lw_at lw_m1 183 rfl) rfl
theorem q348 : (Jvm.Cond.fieldLink "LazyForge$Machine" (286 : Nat) "LazyForge$Machine" "isEager" "Z") ∈ lw_all := lw_g (lw_at lw_m1 186 rfl) rfl
theorem q349 : (Jvm.Cond.fieldLink "LazyForge$Machine" (224 : Nat) "LazyForge$Machine" "most" "I") ∈ lw_all := lw_g (lw_at lw_m1 187 rfl) rfl
theorem q350 : (Jvm.Cond.fieldLink "LazyForge$Machine" (65 : Nat) "LazyForge$Machine" "wholes" "[J") ∈ lw_all := lw_g (lw_at lw_m1 188 rfl) rfl
theorem q351 : (Jvm.Cond.fieldLink "LazyForge$Machine" (68 : Nat) "LazyForge$Machine" "row" "[I") ∈ lw_all := lw_g (lw_at lw_m1 189 rfl) rfl
theorem q354 : (Jvm.Cond.fieldLink "LazyForge$Machine" (268 : Nat) "LazyForge$Machine" "rowSize" "I") ∈ lw_all := lw_g (lw_at lw_m1 192 rfl) rfl
theorem q355 : (Jvm.Cond.fieldLink "LazyForge$Machine" (101 : Nat) "LazyForge$Machine" "ends" "I") ∈ lw_all := lw_g (lw_at lw_m1 193 rfl) rfl
theorem q357 : (Jvm.Cond.fieldLink "LazyForge$Machine" (104 : Nat) "LazyForge$Machine" "why" "I") ∈ lw_all := lw_g (lw_at lw_m1 195 rfl) rfl
theorem q360 : (Jvm.Cond.fieldLink "LazyForge$Machine" (221 : Nat) "LazyForge$Machine" "calls" "I") ∈ lw_all := lw_g (lw_at lw_m1 198 rfl) rfl
theorem q361 : (Jvm.Cond.fieldLink "LazyForge$Machine" (111 : Nat) "LazyForge$Machine" "used" "I") ∈ lw_all := lw_g (lw_at lw_m1 199 rfl) rfl
theorem q363 : (Jvm.Cond.fieldLink "LazyForge$Machine" (138 : Nat) "LazyForge$Machine" "suspensions" "I") ∈ lw_all := lw_g (lw_at lw_m1 201 rfl) rfl
theorem q365 : (Jvm.Cond.fieldLink "LazyForge$Machine" (125 : Nat) "LazyForge$Machine" "partsOfCalls" "I") ∈ lw_all := lw_g (lw_at lw_m1 203 rfl) rfl
theorem q367 : (Jvm.Cond.fieldLink "LazyForge$Machine" (120 : Nat) "LazyForge$Machine" "objects" "I") ∈ lw_all := lw_g (lw_at lw_m1 205 rfl) rfl
theorem q370 : (Jvm.Cond.fieldLink "LazyForge$Machine" (218 : Nat) "LazyForge$Machine" "updates" "I") ∈ lw_all := lw_g (lw_at lw_m1 208 rfl) rfl
theorem q374 : (Jvm.Cond.fieldLink "LazyForge$Machine" (306 : Nat) "LazyForge$Machine" "atOnce" "I") ∈ lw_all := lw_g (lw_at lw_m1 212 rfl) rfl
theorem q375 : (Jvm.Cond.laysFinal "LazyForge$Machine" "LazyForge$Machine" "update" "LLazyForge$Part;") ∈ lw_all := lw_g (lw_at lw_m1 213 rfl) rfl
theorem q376 : (Jvm.Cond.soleField "LazyForge$Machine" "update") ∈ lw_all := lw_g (lw_at lw_m1 214 rfl) rfl
theorem q377 : (Jvm.Cond.laysFinal "LazyForge$Machine" "LazyForge$Machine" "leaving" "LLazyForge$Part;") ∈ lw_all := lw_g (lw_at lw_m1 215 rfl) rfl
theorem q378 : (Jvm.Cond.soleField "LazyForge$Machine" "leaving") ∈ lw_all := lw_g (lw_at lw_m1 216 rfl) rfl
theorem q379 : (Jvm.Cond.laysFinal "LazyForge$Machine" "LazyForge$Machine" "applied" "LLazyForge$Part;") ∈ lw_all := lw_g (lw_at lw_m1 217 rfl) rfl
theorem q380 : (Jvm.Cond.soleField "LazyForge$Machine" "applied") ∈ lw_all := lw_g (lw_at lw_m1 218 rfl) rfl
theorem q381 : (Jvm.Cond.laysFinal "LazyForge$Machine" "LazyForge$Machine" "entering" "LLazyForge$Part;") ∈ lw_all := lw_g (lw_at lw_m1 219 rfl) rfl
theorem q382 : (Jvm.Cond.soleField "LazyForge$Machine" "entering") ∈ lw_all := lw_g (lw_at lw_m1 220 rfl) rfl
theorem q383 : (Jvm.Cond.laysFinal "LazyForge$Machine" "LazyForge$Machine" "forcing" "LLazyForge$Part;") ∈ lw_all := lw_g (lw_at lw_m1 221 rfl) rfl
theorem q384 : (Jvm.Cond.soleField "LazyForge$Machine" "forcing") ∈ lw_all := lw_g (lw_at lw_m1 222 rfl) rfl
theorem q385 : (Jvm.Cond.laysFinal "LazyForge$Machine" "LazyForge$Machine" "cells" "[J") ∈ lw_all := lw_g (lw_at lw_m1 223 rfl) rfl
theorem q386 : (Jvm.Cond.soleField "LazyForge$Machine" "cells") ∈ lw_all := lw_g (lw_at lw_m1 224 rfl) rfl
theorem q387 : (Jvm.Cond.lays "LazyForge$Machine" "LazyForge$Machine" "waiting" "[LLazyForge$Part;") ∈ lw_all := lw_g (lw_at lw_m1 225 rfl) rfl
theorem q388 : (Jvm.Cond.soleField "LazyForge$Machine" "waiting") ∈ lw_all := lw_g (lw_at lw_m1 226 rfl) rfl
theorem q389 : (Jvm.Cond.lays "LazyForge$Machine" "LazyForge$Machine" "states" "[I") ∈ lw_all := lw_g (lw_at lw_m1 227 rfl) rfl
theorem q390 : (Jvm.Cond.soleField "LazyForge$Machine" "states") ∈ lw_all := lw_g (lw_at lw_m1 228 rfl) rfl
theorem q391 : (Jvm.Cond.lays "LazyForge$Machine" "LazyForge$Machine" "waits" "I") ∈ lw_all := lw_g (lw_at lw_m1 229 rfl) rfl
theorem q392 : (Jvm.Cond.soleField "LazyForge$Machine" "waits") ∈ lw_all := lw_g (lw_at lw_m1 230 rfl) rfl
theorem q393 : (Jvm.Cond.lays "LazyForge$Machine" "LazyForge$Machine" "values" "[J") ∈ lw_all := lw_g (lw_at lw_m1 231 rfl) rfl
theorem q394 : (Jvm.Cond.soleField "LazyForge$Machine" "values") ∈ lw_all := lw_g (lw_at lw_m1 232 rfl) rfl
theorem q395 : (Jvm.Cond.lays "LazyForge$Machine" "LazyForge$Machine" "has" "I") ∈ lw_all := lw_g (lw_at lw_m1 233 rfl) rfl
theorem q396 : (Jvm.Cond.soleField "LazyForge$Machine" "has") ∈ lw_all := lw_g (lw_at lw_m1 234 rfl) rfl
theorem q397 : (Jvm.Cond.lays "LazyForge$Machine" "LazyForge$Machine" "slots" "[J") ∈ lw_all := lw_g (lw_at lw_m1 235 rfl) rfl
theorem q398 : (Jvm.Cond.soleField "LazyForge$Machine" "slots") ∈ lw_all := lw_g (lw_at lw_m1 236 rfl) rfl
theorem q399 : (Jvm.Cond.lays "LazyForge$Machine" "LazyForge$Machine" "base" "I") ∈ lw_all := lw_g (lw_at lw_m1 237 rfl) rfl
theorem q400 : (Jvm.Cond.soleField "LazyForge$Machine" "base") ∈ lw_all := lw_g (lw_at lw_m1 238 rfl) rfl
theorem q401 : (Jvm.Cond.lays "LazyForge$Machine" "LazyForge$Machine" "top" "I") ∈ lw_all := lw_g (lw_at lw_m1 239 rfl) rfl
theorem q402 : (Jvm.Cond.soleField "LazyForge$Machine" "top") ∈ lw_all := lw_g (lw_at lw_m2 0 rfl) rfl
theorem q403 : (Jvm.Cond.lays "LazyForge$Machine" "LazyForge$Machine" "bases" "[I") ∈ lw_all := lw_g (lw_at lw_m2 1 rfl) rfl
theorem q404 : (Jvm.Cond.soleField "LazyForge$Machine" "bases") ∈ lw_all := lw_g (lw_at lw_m2 2 rfl) rfl
theorem q405 : (Jvm.Cond.lays "LazyForge$Machine" "LazyForge$Machine" "frames" "I") ∈ lw_all := lw_g (lw_at lw_m2 3 rfl) rfl
theorem q406 : (Jvm.Cond.soleField "LazyForge$Machine" "frames") ∈ lw_all := lw_g (lw_at lw_m2 4 rfl) rfl
theorem q407 : (Jvm.Cond.lays "LazyForge$Machine" "LazyForge$Machine" "program" "LLazyForge$Program;") ∈ lw_all := lw_g (lw_at lw_m2 5 rfl) rfl
theorem q408 : (Jvm.Cond.soleField "LazyForge$Machine" "program") ∈ lw_all := lw_g (lw_at lw_m2 6 rfl) rfl
theorem q409 : (Jvm.Cond.lays "LazyForge$Machine" "LazyForge$Machine" "isEager" "Z") ∈ lw_all := lw_g (lw_at lw_m2 7 rfl) rfl
theorem q410 : (Jvm.Cond.soleField "LazyForge$Machine" "isEager") ∈ lw_all := lw_g (lw_at lw_m2 8 rfl) rfl
theorem q411 : (Jvm.Cond.lays "LazyForge$Machine" "LazyForge$Machine" "most" "I") ∈ lw_all := lw_g (lw_at lw_m2 9 rfl) rfl
theorem q412 : (Jvm.Cond.soleField "LazyForge$Machine" "most") ∈ lw_all := lw_g (lw_at lw_m2 10 rfl) rfl
theorem q413 : (Jvm.Cond.laysFinal "LazyForge$Machine" "LazyForge$Machine" "wholes" "[J") ∈ lw_all := lw_g (lw_at lw_m2 11 rfl) rfl
theorem q414 : (Jvm.Cond.soleField "LazyForge$Machine" "wholes") ∈ lw_all := lw_g (lw_at lw_m2 12 rfl) rfl
theorem q415 : (Jvm.Cond.laysFinal "LazyForge$Machine" "LazyForge$Machine" "row" "[I") ∈ lw_all := lw_g (lw_at lw_m2 13 rfl) rfl
theorem q416 : (Jvm.Cond.soleField "LazyForge$Machine" "row") ∈ lw_all := lw_g (lw_at lw_m2 14 rfl) rfl
theorem q417 : (Jvm.Cond.lays "LazyForge$Machine" "LazyForge$Machine" "rowSize" "I") ∈ lw_all := lw_g (lw_at lw_m2 15 rfl) rfl
theorem q418 : (Jvm.Cond.soleField "LazyForge$Machine" "rowSize") ∈ lw_all := lw_g (lw_at lw_m2 16 rfl) rfl
theorem q419 : (Jvm.Cond.lays "LazyForge$Machine" "LazyForge$Machine" "ends" "I") ∈ lw_all := lw_g (lw_at lw_m2 17 rfl) rfl
theorem q420 : (Jvm.Cond.soleField "LazyForge$Machine" "ends") ∈ lw_all := lw_g (lw_at lw_m2 18 rfl) rfl
theorem q421 : (Jvm.Cond.lays "LazyForge$Machine" "LazyForge$Machine" "why" "I") ∈ lw_all := lw_g (lw_at lw_m2 19 rfl) rfl
theorem q422 : (Jvm.Cond.soleField "LazyForge$Machine" "why") ∈ lw_all := lw_g (lw_at lw_m2 20 rfl) rfl
theorem q423 : (Jvm.Cond.lays "LazyForge$Machine" "LazyForge$Machine" "calls" "I") ∈ lw_all := lw_g (lw_at lw_m2 21 rfl) rfl
theorem q424 : (Jvm.Cond.soleField "LazyForge$Machine" "calls") ∈ lw_all := lw_g (lw_at lw_m2 22 rfl) rfl
theorem q425 : (Jvm.Cond.lays "LazyForge$Machine" "LazyForge$Machine" "used" "I") ∈ lw_all := lw_g (lw_at lw_m2 23 rfl) rfl
theorem q426 : (Jvm.Cond.soleField "LazyForge$Machine" "used") ∈ lw_all := lw_g (lw_at lw_m2 24 rfl) rfl
theorem q427 : (Jvm.Cond.lays "LazyForge$Machine" "LazyForge$Machine" "suspensions" "I") ∈ lw_all := lw_g (lw_at lw_m2 25 rfl) rfl
theorem q428 : (Jvm.Cond.soleField "LazyForge$Machine" "suspensions") ∈ lw_all := lw_g (lw_at lw_m2 26 rfl) rfl
theorem q429 : (Jvm.Cond.lays "LazyForge$Machine" "LazyForge$Machine" "partsOfCalls" "I") ∈ lw_all := lw_g (lw_at lw_m2 27 rfl) rfl
theorem q430 : (Jvm.Cond.soleField "LazyForge$Machine" "partsOfCalls") ∈ lw_all := lw_g (lw_at lw_m2 28 rfl) rfl
theorem q431 : (Jvm.Cond.lays "LazyForge$Machine" "LazyForge$Machine" "objects" "I") ∈ lw_all := lw_g (lw_at lw_m2 29 rfl) rfl
theorem q432 : (Jvm.Cond.soleField "LazyForge$Machine" "objects") ∈ lw_all := lw_g (lw_at lw_m2 30 rfl) rfl
theorem q433 : (Jvm.Cond.lays "LazyForge$Machine" "LazyForge$Machine" "updates" "I") ∈ lw_all := lw_g (lw_at lw_m2 31 rfl) rfl
theorem q434 : (Jvm.Cond.soleField "LazyForge$Machine" "updates") ∈ lw_all := lw_g (lw_at lw_m2 32 rfl) rfl
theorem q435 : (Jvm.Cond.lays "LazyForge$Machine" "LazyForge$Machine" "atOnce" "I") ∈ lw_all := lw_g (lw_at lw_m2 33 rfl) rfl
theorem q436 : (Jvm.Cond.soleField "LazyForge$Machine" "atOnce") ∈ lw_all := lw_g (lw_at lw_m2 34 rfl) rfl
theorem q437 : (Jvm.Cond.superclass "LazyForge$Machine" "java/lang/Object") ∈ lw_all := lw_g (lw_at lw_m2 35 rfl) rfl
theorem q736 : (Jvm.Cond.instanceMethod ({ cls := "LazyForge$Machine", name := "clear", desc := "()V" } : Jvm.MethodName)) ∈ lw_all := lw_g (lw_at lw_m3 94 rfl) rfl
theorem q737 : (Jvm.Cond.selects "LazyForge$Machine" ({ cls := "LazyForge$Machine", name := "clear", desc := "()V" } : Jvm.MethodName) ({ cls := "LazyForge$Machine", name := "clear", desc := "()V" } : Jvm.MethodName)) ∈ lw_all := lw_g (lw_at lw_m3 95 rfl) rfl
theorem q738 : (Jvm.Cond.code ({ cls := "LazyForge$Machine", name := "clear", desc := "()V" } : Jvm.MethodName) prog_12_method_35_code (1 : Nat) (Option.none : Option Jvm.ClassFile.FieldType)) ∈ lw_all := lw_g (lw_at lw_m3 96 rfl) rfl
theorem q1060 : (Jvm.Cond.fieldLinkNest "LazyForge$Machine" (243 : Nat) "LazyForge$Program" "functions" "Ljava/util/ArrayList;" "LazyForge") ∈ lw_tbl := lw_at lw_m4 178 rfl
theorem q1063 : (Jvm.Cond.fieldLinkNest "LazyForge$Machine" (190 : Nat) "LazyForge$Program" "suspended" "Ljava/util/ArrayList;" "LazyForge") ∈ lw_tbl := lw_at lw_m4 181 rfl
theorem q1071 : (Jvm.Cond.fieldLinkNest "LazyForge$Machine" (296 : Nat) "LazyForge$Program" "main" "I" "LazyForge") ∈ lw_tbl := lw_at lw_m4 189 rfl
theorem q1078 : (Jvm.Cond.fieldLinkNest "LazyForge$Machine" (283 : Nat) "LazyForge$Program" "fields" "[I" "LazyForge") ∈ lw_tbl := lw_at lw_m4 196 rfl
theorem q1147 : (Jvm.Cond.fieldLinkNest "LazyForge$Machine" (128 : Nat) "LazyForge$Function" "number" "I" "LazyForge") ∈ lw_tbl := lw_at lw_m5 25 rfl
theorem q1161 : (Jvm.Cond.fieldLinkNest "LazyForge$Machine" (234 : Nat) "LazyForge$Function" "body" "LLazyForge$Part;" "LazyForge") ∈ lw_tbl := lw_at lw_m5 39 rfl
theorem q1169 : (Jvm.Cond.fieldLinkNest "LazyForge$Machine" (227 : Nat) "LazyForge$Function" "calls" "I" "LazyForge") ∈ lw_tbl := lw_at lw_m5 47 rfl
theorem q1234 : (Jvm.Cond.selects "LazyForge$Machine" ({ cls := "java/lang/Object", name := "getClass", desc := "()Ljava/lang/Class;" } : Jvm.MethodName) ({ cls := "java/lang/Object", name := "getClass", desc := "()Ljava/lang/Class;" } : Jvm.MethodName)) ∈ lw_all := lw_g (lw_at lw_m5 112 rfl) rfl
theorem q1412 : (Jvm.Cond.selects "LazyForge$Machine" ({ cls := "java/lang/Object", name := "equals", desc := "(Ljava/lang/Object;)Z" } : Jvm.MethodName) ({ cls := "java/lang/Object", name := "equals", desc := "(Ljava/lang/Object;)Z" } : Jvm.MethodName)) ∈ lw_all := lw_g (lw_at lw_m6 50 rfl) rfl
theorem q2151 : (Jvm.Cond.instanceMethod ({ cls := "LazyForge$Machine", name := "run", desc := "(LLazyForge$Program;ZI)V" } : Jvm.MethodName)) ∈ lw_all := lw_g (lw_at lw_m9 69 rfl) rfl
theorem q2152 : (Jvm.Cond.selects "LazyForge$Machine" ({ cls := "LazyForge$Machine", name := "run", desc := "(LLazyForge$Program;ZI)V" } : Jvm.MethodName) ({ cls := "LazyForge$Machine", name := "run", desc := "(LLazyForge$Program;ZI)V" } : Jvm.MethodName)) ∈ lw_all := lw_g (lw_at lw_m9 70 rfl) rfl
theorem q2153 : (Jvm.Cond.code ({ cls := "LazyForge$Machine", name := "run", desc := "(LLazyForge$Program;ZI)V" } : Jvm.MethodName) prog_12_method_34_code (6 : Nat) (Option.none : Option Jvm.ClassFile.FieldType)) ∈ lw_all := lw_g (lw_at lw_m9 71 rfl) rfl
theorem q2154 : (Jvm.Cond.methodLink "LazyForge$Machine" (290 : Nat) ({ cls := "LazyForge$Machine", name := "clear", desc := "()V" } : Jvm.MethodName)) ∈ lw_all := lw_g (lw_at lw_m9 72 rfl) rfl
theorem q2155 : (Jvm.Cond.methodLink "LazyForge$Machine" (293 : Nat) ({ cls := "java/util/ArrayList", name := "size", desc := "()I" } : Jvm.MethodName)) ∈ lw_all := lw_g (lw_at lw_m9 73 rfl) rfl
theorem q2156 : (Jvm.Cond.methodLink "LazyForge$Machine" (196 : Nat) ({ cls := "java/util/ArrayList", name := "get", desc := "(I)Ljava/lang/Object;" } : Jvm.MethodName)) ∈ lw_all := lw_g (lw_at lw_m9 74 rfl) rfl
theorem q2157 : (Jvm.Cond.classLink "LazyForge$Machine" (129 : Nat) "LazyForge$Function") ∈ lw_all := lw_g (lw_at lw_m9 75 rfl) rfl
theorem q2158 : (Jvm.Cond.methodLink "LazyForge$Machine" (228 : Nat) ({ cls := "LazyForge$Function", name := "parameters", desc := "()I" } : Jvm.MethodName)) ∈ lw_all := lw_g (lw_at lw_m9 76 rfl) rfl
theorem q2159 : (Jvm.Cond.methodLink "LazyForge$Machine" (150 : Nat) ({ cls := "LazyForge$Machine", name := "reserve", desc := "(LLazyForge$Part;)J" } : Jvm.MethodName)) ∈ lw_all := lw_g (lw_at lw_m9 77 rfl) rfl
theorem q2160 : (Jvm.Cond.instanceMethod ({ cls := "LazyForge$Machine", name := "reserve", desc := "(LLazyForge$Part;)J" } : Jvm.MethodName)) ∈ lw_all := lw_g (lw_at lw_m9 78 rfl) rfl
theorem q2161 : (Jvm.Cond.selects "LazyForge$Machine" ({ cls := "LazyForge$Machine", name := "reserve", desc := "(LLazyForge$Part;)J" } : Jvm.MethodName) ({ cls := "LazyForge$Machine", name := "reserve", desc := "(LLazyForge$Part;)J" } : Jvm.MethodName)) ∈ lw_all := lw_g (lw_at lw_m9 79 rfl) rfl
theorem q2162 : (Jvm.Cond.code ({ cls := "LazyForge$Machine", name := "reserve", desc := "(LLazyForge$Part;)J" } : Jvm.MethodName) prog_12_method_15_code (3 : Nat) (Option.some Jvm.ClassFile.FieldType.long)) ∈ lw_all := lw_g (lw_at lw_m9 80 rfl) rfl
theorem q2163 : (Jvm.Cond.methodLink "LazyForge$Machine" (114 : Nat) ({ cls := "LazyForge$Machine", name := "make", desc := "(I)I" } : Jvm.MethodName)) ∈ lw_all := lw_g (lw_at lw_m9 81 rfl) rfl
theorem q2164 : (Jvm.Cond.privateMethod ({ cls := "LazyForge$Machine", name := "make", desc := "(I)I" } : Jvm.MethodName)) ∈ lw_tbl := lw_at lw_m9 82 rfl
theorem q2165 : (Jvm.Cond.instanceMethod ({ cls := "LazyForge$Machine", name := "make", desc := "(I)I" } : Jvm.MethodName)) ∈ lw_all := lw_g (lw_at lw_m9 83 rfl) rfl
theorem q2166 : (Jvm.Cond.code ({ cls := "LazyForge$Machine", name := "make", desc := "(I)I" } : Jvm.MethodName) prog_12_method_12_code (2 : Nat) (Option.some Jvm.ClassFile.FieldType.int)) ∈ lw_all := lw_g (lw_at lw_m9 84 rfl) rfl
theorem q2167 : (Jvm.Cond.methodLink "LazyForge$Machine" (107 : Nat) ({ cls := "LazyForge$Machine", name := "end", desc := "(II)V" } : Jvm.MethodName)) ∈ lw_all := lw_g (lw_at lw_m9 85 rfl) rfl
theorem q2168 : (Jvm.Cond.privateMethod ({ cls := "LazyForge$Machine", name := "end", desc := "(II)V" } : Jvm.MethodName)) ∈ lw_tbl := lw_at lw_m9 86 rfl
theorem q2169 : (Jvm.Cond.instanceMethod ({ cls := "LazyForge$Machine", name := "end", desc := "(II)V" } : Jvm.MethodName)) ∈ lw_all := lw_g (lw_at lw_m9 87 rfl) rfl
theorem q2170 : (Jvm.Cond.code ({ cls := "LazyForge$Machine", name := "end", desc := "(II)V" } : Jvm.MethodName) prog_12_method_10_code (3 : Nat) (Option.none : Option Jvm.ClassFile.FieldType)) ∈ lw_all := lw_g (lw_at lw_m9 88 rfl) rfl
theorem q2171 : (Jvm.Cond.constantLong "LazyForge$Machine" (118 : Nat) (-1 : Int64)) ∈ lw_all := lw_g (lw_at lw_m9 89 rfl) rfl
theorem q2172 : (Jvm.Cond.constantLong "LazyForge$Machine" (141 : Nat) (34359738368 : Int64)) ∈ lw_all := lw_g (lw_at lw_m9 90 rfl) rfl
theorem q2173 : (Jvm.Cond.constantLong "LazyForge$Machine" (144 : Nat) (21474836480 : Int64)) ∈ lw_all := lw_g (lw_at lw_m9 91 rfl) rfl
theorem q2174 : (Jvm.Cond.methodLink "LazyForge$Machine" (81 : Nat) ({ cls := "LazyForge$Machine", name := "again", desc := "(LLazyForge$Part;I)V" } : Jvm.MethodName)) ∈ lw_all := lw_g (lw_at lw_m9 92 rfl) rfl
theorem q2175 : (Jvm.Cond.instanceMethod ({ cls := "LazyForge$Machine", name := "again", desc := "(LLazyForge$Part;I)V" } : Jvm.MethodName)) ∈ lw_all := lw_g (lw_at lw_m9 93 rfl) rfl
theorem q2176 : (Jvm.Cond.selects "LazyForge$Machine" ({ cls := "LazyForge$Machine", name := "again", desc := "(LLazyForge$Part;I)V" } : Jvm.MethodName) ({ cls := "LazyForge$Machine", name := "again", desc := "(LLazyForge$Part;I)V" } : Jvm.MethodName)) ∈ lw_all := lw_g (lw_at lw_m9 94 rfl) rfl
theorem q2177 : (Jvm.Cond.code ({ cls := "LazyForge$Machine", name := "again", desc := "(LLazyForge$Part;I)V" } : Jvm.MethodName) prog_12_method_2_code (5 : Nat) (Option.none : Option Jvm.ClassFile.FieldType)) ∈ lw_all := lw_g (lw_at lw_m9 95 rfl) rfl
theorem q2178 : (Jvm.Cond.methodLink "LazyForge$Machine" (75 : Nat) ({ cls := "java/lang/System", name := "arraycopy", desc := "(Ljava/lang/Object;ILjava/lang/Object;II)V" } : Jvm.MethodName)) ∈ lw_all := lw_g (lw_at lw_m9 96 rfl) rfl
theorem q2179 : (Jvm.Cond.methodLink "LazyForge$Machine" (299 : Nat) ({ cls := "LazyForge$Machine", name := "enter", desc := "(J)V" } : Jvm.MethodName)) ∈ lw_all := lw_g (lw_at lw_m9 97 rfl) rfl
theorem q2180 : (Jvm.Cond.instanceMethod ({ cls := "LazyForge$Machine", name := "enter", desc := "(J)V" } : Jvm.MethodName)) ∈ lw_all := lw_g (lw_at lw_m9 98 rfl) rfl
theorem q2181 : (Jvm.Cond.selects "LazyForge$Machine" ({ cls := "LazyForge$Machine", name := "enter", desc := "(J)V" } : Jvm.MethodName) ({ cls := "LazyForge$Machine", name := "enter", desc := "(J)V" } : Jvm.MethodName)) ∈ lw_all := lw_g (lw_at lw_m9 99 rfl) rfl
theorem q2182 : (Jvm.Cond.code ({ cls := "LazyForge$Machine", name := "enter", desc := "(J)V" } : Jvm.MethodName) prog_12_method_25_code (8 : Nat) (Option.none : Option Jvm.ClassFile.FieldType)) ∈ lw_all := lw_g (lw_at lw_m9 100 rfl) rfl
theorem q2183 : (Jvm.Cond.methodLinkNest "LazyForge$Machine" (176 : Nat) ({ cls := "LazyForge", name := "isSort", desc := "(JJ)Z" } : Jvm.MethodName) "LazyForge") ∈ lw_tbl := lw_at lw_m9 101 rfl
theorem q2186 : (Jvm.Cond.methodLink "LazyForge$Machine" (162 : Nat) ({ cls := "LazyForge$Machine", name := "give", desc := "(J)V" } : Jvm.MethodName)) ∈ lw_all := lw_g (lw_at lw_m9 104 rfl) rfl
theorem q2187 : (Jvm.Cond.instanceMethod ({ cls := "LazyForge$Machine", name := "give", desc := "(J)V" } : Jvm.MethodName)) ∈ lw_all := lw_g (lw_at lw_m9 105 rfl) rfl
theorem q2188 : (Jvm.Cond.selects "LazyForge$Machine" ({ cls := "LazyForge$Machine", name := "give", desc := "(J)V" } : Jvm.MethodName) ({ cls := "LazyForge$Machine", name := "give", desc := "(J)V" } : Jvm.MethodName)) ∈ lw_all := lw_g (lw_at lw_m9 106 rfl) rfl
theorem q2189 : (Jvm.Cond.code ({ cls := "LazyForge$Machine", name := "give", desc := "(J)V" } : Jvm.MethodName) prog_12_method_5_code (3 : Nat) (Option.none : Option Jvm.ClassFile.FieldType)) ∈ lw_all := lw_g (lw_at lw_m9 107 rfl) rfl
theorem q2190 : (Jvm.Cond.methodLink "LazyForge$Machine" (88 : Nat) ({ cls := "LazyForge$Machine", name := "longer", desc := "([JI)[J" } : Jvm.MethodName)) ∈ lw_all := lw_g (lw_at lw_m9 108 rfl) rfl
theorem q2191 : (Jvm.Cond.static ({ cls := "LazyForge$Machine", name := "longer", desc := "([JI)[J" } : Jvm.MethodName)) ∈ lw_all := lw_g (lw_at lw_m9 109 rfl) rfl
theorem q2192 : (Jvm.Cond.code ({ cls := "LazyForge$Machine", name := "longer", desc := "([JI)[J" } : Jvm.MethodName) prog_12_method_7_code (3 : Nat) (Option.some (Jvm.ClassFile.FieldType.array Jvm.ClassFile.FieldType.long))) ∈ lw_all := lw_g (lw_at lw_m9 110 rfl) rfl
theorem q2193 : (Jvm.Cond.methodLink "LazyForge$Machine" (92 : Nat) ({ cls := "java/lang/Math", name := "max", desc := "(II)I" } : Jvm.MethodName)) ∈ lw_all := lw_g (lw_at lw_m9 111 rfl) rfl
theorem q2194 : (Jvm.Cond.constantLong "LazyForge$Machine" (180 : Nat) (38654705664 : Int64)) ∈ lw_all := lw_g (lw_at lw_m9 112 rfl) rfl
theorem q2195 : (Jvm.Cond.methodLink "LazyForge$Machine" (182 : Nat) ({ cls := "LazyForge$Machine", name := "fault", desc := "(I)V" } : Jvm.MethodName)) ∈ lw_all := lw_g (lw_at lw_m9 113 rfl) rfl
theorem q2196 : (Jvm.Cond.instanceMethod ({ cls := "LazyForge$Machine", name := "fault", desc := "(I)V" } : Jvm.MethodName)) ∈ lw_all := lw_g (lw_at lw_m9 114 rfl) rfl
theorem q2197 : (Jvm.Cond.selects "LazyForge$Machine" ({ cls := "LazyForge$Machine", name := "fault", desc := "(I)V" } : Jvm.MethodName) ({ cls := "LazyForge$Machine", name := "fault", desc := "(I)V" } : Jvm.MethodName)) ∈ lw_all := lw_g (lw_at lw_m9 115 rfl) rfl
theorem q2198 : (Jvm.Cond.code ({ cls := "LazyForge$Machine", name := "fault", desc := "(I)V" } : Jvm.MethodName) prog_12_method_11_code (2 : Nat) (Option.none : Option Jvm.ClassFile.FieldType)) ∈ lw_all := lw_g (lw_at lw_m9 116 rfl) rfl
theorem q2199 : (Jvm.Cond.methodLink "LazyForge$Machine" (206 : Nat) ({ cls := "LazyForge$Machine", name := "open", desc := "(LLazyForge$Function;)V" } : Jvm.MethodName)) ∈ lw_all := lw_g (lw_at lw_m9 117 rfl) rfl
theorem q2200 : (Jvm.Cond.privateMethod ({ cls := "LazyForge$Machine", name := "open", desc := "(LLazyForge$Function;)V" } : Jvm.MethodName)) ∈ lw_tbl := lw_at lw_m9 118 rfl
theorem q2201 : (Jvm.Cond.instanceMethod ({ cls := "LazyForge$Machine", name := "open", desc := "(LLazyForge$Function;)V" } : Jvm.MethodName)) ∈ lw_all := lw_g (lw_at lw_m9 119 rfl) rfl
theorem q2202 : (Jvm.Cond.code ({ cls := "LazyForge$Machine", name := "open", desc := "(LLazyForge$Function;)V" } : Jvm.MethodName) prog_12_method_23_code (3 : Nat) (Option.none : Option Jvm.ClassFile.FieldType)) ∈ lw_all := lw_g (lw_at lw_m9 120 rfl) rfl
theorem q2203 : (Jvm.Cond.methodLink "LazyForge$Machine" (172 : Nat) ({ cls := "LazyForge$Function", name := "variables", desc := "()I" } : Jvm.MethodName)) ∈ lw_all := lw_g (lw_at lw_m9 121 rfl) rfl
theorem q2204 : (Jvm.Cond.methodLink "LazyForge$Machine" (210 : Nat) ({ cls := "LazyForge$Machine", name := "set", desc := "(IJ)V" } : Jvm.MethodName)) ∈ lw_all := lw_g (lw_at lw_m9 122 rfl) rfl
theorem q2205 : (Jvm.Cond.instanceMethod ({ cls := "LazyForge$Machine", name := "set", desc := "(IJ)V" } : Jvm.MethodName)) ∈ lw_all := lw_g (lw_at lw_m9 123 rfl) rfl
theorem q2206 : (Jvm.Cond.selects "LazyForge$Machine" ({ cls := "LazyForge$Machine", name := "set", desc := "(IJ)V" } : Jvm.MethodName) ({ cls := "LazyForge$Machine", name := "set", desc := "(IJ)V" } : Jvm.MethodName)) ∈ lw_all := lw_g (lw_at lw_m9 124 rfl) rfl
theorem q2207 : (Jvm.Cond.code ({ cls := "LazyForge$Machine", name := "set", desc := "(IJ)V" } : Jvm.MethodName) prog_12_method_9_code (4 : Nat) (Option.none : Option Jvm.ClassFile.FieldType)) ∈ lw_all := lw_g (lw_at lw_m9 125 rfl) rfl
theorem q2208 : (Jvm.Cond.methodLink "LazyForge$Machine" (214 : Nat) ({ cls := "LazyForge$Machine", name := "work", desc := "(LLazyForge$Part;)V" } : Jvm.MethodName)) ∈ lw_all := lw_g (lw_at lw_m9 126 rfl) rfl
theorem q2209 : (Jvm.Cond.instanceMethod ({ cls := "LazyForge$Machine", name := "work", desc := "(LLazyForge$Part;)V" } : Jvm.MethodName)) ∈ lw_all := lw_g (lw_at lw_m9 127 rfl) rfl
theorem q2210 : (Jvm.Cond.selects "LazyForge$Machine" ({ cls := "LazyForge$Machine", name := "work", desc := "(LLazyForge$Part;)V" } : Jvm.MethodName) ({ cls := "LazyForge$Machine", name := "work", desc := "(LLazyForge$Part;)V" } : Jvm.MethodName)) ∈ lw_all := lw_g (lw_at lw_m9 128 rfl) rfl
theorem q2211 : (Jvm.Cond.code ({ cls := "LazyForge$Machine", name := "work", desc := "(LLazyForge$Part;)V" } : Jvm.MethodName) prog_12_method_3_code (2 : Nat) (Option.none : Option Jvm.ClassFile.FieldType)) ∈ lw_all := lw_g (lw_at lw_m9 129 rfl) rfl
theorem q2212 : (Jvm.Cond.methodLink "LazyForge$Machine" (302 : Nat) ({ cls := "LazyForge$Part", name := "step", desc := "(LLazyForge$Machine;I)V" } : Jvm.MethodName)) ∈ lw_all := lw_g (lw_at lw_m9 130 rfl) rfl
theorem q2219 : (Jvm.Cond.instanceMethod ({ cls := "LazyForge$Machine", name := "applyValue", desc := "(I)V" } : Jvm.MethodName)) ∈ lw_all := lw_g (lw_at lw_m9 137 rfl) rfl
theorem q2220 : (Jvm.Cond.selects "LazyForge$Machine" ({ cls := "LazyForge$Machine", name := "applyValue", desc := "(I)V" } : Jvm.MethodName) ({ cls := "LazyForge$Machine", name := "applyValue", desc := "(I)V" } : Jvm.MethodName)) ∈ lw_all := lw_g (lw_at lw_m9 138 rfl) rfl
theorem q2221 : (Jvm.Cond.code ({ cls := "LazyForge$Machine", name := "applyValue", desc := "(I)V" } : Jvm.MethodName) prog_12_method_28_code (11 : Nat) (Option.none : Option Jvm.ClassFile.FieldType)) ∈ lw_all := lw_g (lw_at lw_m9 139 rfl) rfl
theorem q2222 : (Jvm.Cond.methodLink "LazyForge$Machine" (237 : Nat) ({ cls := "LazyForge$Machine", name := "taken", desc := "()J" } : Jvm.MethodName)) ∈ lw_all := lw_g (lw_at lw_m9 140 rfl) rfl
theorem q2223 : (Jvm.Cond.instanceMethod ({ cls := "LazyForge$Machine", name := "taken", desc := "()J" } : Jvm.MethodName)) ∈ lw_all := lw_g (lw_at lw_m9 141 rfl) rfl
theorem q2224 : (Jvm.Cond.selects "LazyForge$Machine" ({ cls := "LazyForge$Machine", name := "taken", desc := "()J" } : Jvm.MethodName) ({ cls := "LazyForge$Machine", name := "taken", desc := "()J" } : Jvm.MethodName)) ∈ lw_all := lw_g (lw_at lw_m9 142 rfl) rfl
theorem q2225 : (Jvm.Cond.code ({ cls := "LazyForge$Machine", name := "taken", desc := "()J" } : Jvm.MethodName) prog_12_method_6_code (1 : Nat) (Option.some Jvm.ClassFile.FieldType.long)) ∈ lw_all := lw_g (lw_at lw_m9 143 rfl) rfl
theorem q2226 : (Jvm.Cond.constantLong "LazyForge$Machine" (241 : Nat) (8589934592 : Int64)) ∈ lw_all := lw_g (lw_at lw_m9 144 rfl) rfl
theorem q2227 : (Jvm.Cond.constantLong "LazyForge$Machine" (133 : Nat) (17179869184 : Int64)) ∈ lw_all := lw_g (lw_at lw_m9 145 rfl) rfl
theorem q2228 : (Jvm.Cond.methodLink "LazyForge$Machine" (246 : Nat) ({ cls := "LazyForge$Machine", name := "call", desc := "(LLazyForge$Function;II)V" } : Jvm.MethodName)) ∈ lw_all := lw_g (lw_at lw_m9 146 rfl) rfl
theorem q2229 : (Jvm.Cond.instanceMethod ({ cls := "LazyForge$Machine", name := "call", desc := "(LLazyForge$Function;II)V" } : Jvm.MethodName)) ∈ lw_all := lw_g (lw_at lw_m9 147 rfl) rfl
theorem q2230 : (Jvm.Cond.selects "LazyForge$Machine" ({ cls := "LazyForge$Machine", name := "call", desc := "(LLazyForge$Function;II)V" } : Jvm.MethodName) ({ cls := "LazyForge$Machine", name := "call", desc := "(LLazyForge$Function;II)V" } : Jvm.MethodName)) ∈ lw_all := lw_g (lw_at lw_m9 148 rfl) rfl
theorem q2231 : (Jvm.Cond.code ({ cls := "LazyForge$Machine", name := "call", desc := "(LLazyForge$Function;II)V" } : Jvm.MethodName) prog_12_method_27_code (9 : Nat) (Option.none : Option Jvm.ClassFile.FieldType)) ∈ lw_all := lw_g (lw_at lw_m9 149 rfl) rfl
theorem q2232 : (Jvm.Cond.methodLink "LazyForge$Machine" (231 : Nat) ({ cls := "LazyForge$Machine", name := "apply", desc := "(I)V" } : Jvm.MethodName)) ∈ lw_all := lw_g (lw_at lw_m9 150 rfl) rfl
theorem q2233 : (Jvm.Cond.instanceMethod ({ cls := "LazyForge$Machine", name := "apply", desc := "(I)V" } : Jvm.MethodName)) ∈ lw_all := lw_g (lw_at lw_m9 151 rfl) rfl
theorem q2234 : (Jvm.Cond.selects "LazyForge$Machine" ({ cls := "LazyForge$Machine", name := "apply", desc := "(I)V" } : Jvm.MethodName) ({ cls := "LazyForge$Machine", name := "apply", desc := "(I)V" } : Jvm.MethodName)) ∈ lw_all := lw_g (lw_at lw_m9 152 rfl) rfl
theorem q2235 : (Jvm.Cond.code ({ cls := "LazyForge$Machine", name := "apply", desc := "(I)V" } : Jvm.MethodName) prog_12_method_4_code (2 : Nat) (Option.none : Option Jvm.ClassFile.FieldType)) ∈ lw_all := lw_g (lw_at lw_m9 153 rfl) rfl
theorem q2236 : (Jvm.Cond.methodLink "LazyForge$Machine" (250 : Nat) ({ cls := "LazyForge$Machine", name := "partOfCall", desc := "(LLazyForge$Function;I)J" } : Jvm.MethodName)) ∈ lw_all := lw_g (lw_at lw_m9 154 rfl) rfl
theorem q2237 : (Jvm.Cond.instanceMethod ({ cls := "LazyForge$Machine", name := "partOfCall", desc := "(LLazyForge$Function;I)J" } : Jvm.MethodName)) ∈ lw_all := lw_g (lw_at lw_m9 155 rfl) rfl
theorem q2238 : (Jvm.Cond.selects "LazyForge$Machine" ({ cls := "LazyForge$Machine", name := "partOfCall", desc := "(LLazyForge$Function;I)J" } : Jvm.MethodName) ({ cls := "LazyForge$Machine", name := "partOfCall", desc := "(LLazyForge$Function;I)J" } : Jvm.MethodName)) ∈ lw_all := lw_g (lw_at lw_m9 156 rfl) rfl
theorem q2239 : (Jvm.Cond.code ({ cls := "LazyForge$Machine", name := "partOfCall", desc := "(LLazyForge$Function;I)J" } : Jvm.MethodName) prog_12_method_14_code (4 : Nat) (Option.some Jvm.ClassFile.FieldType.long)) ∈ lw_all := lw_g (lw_at lw_m9 157 rfl) rfl
theorem q2244 : (Jvm.Cond.instanceMethod ({ cls := "LazyForge$Machine", name := "keepAll", desc := "([LLazyForge$Part;I)Z" } : Jvm.MethodName)) ∈ lw_all := lw_g (lw_at lw_m9 162 rfl) rfl
theorem q2245 : (Jvm.Cond.selects "LazyForge$Machine" ({ cls := "LazyForge$Machine", name := "keepAll", desc := "([LLazyForge$Part;I)Z" } : Jvm.MethodName) ({ cls := "LazyForge$Machine", name := "keepAll", desc := "([LLazyForge$Part;I)Z" } : Jvm.MethodName)) ∈ lw_all := lw_g (lw_at lw_m9 163 rfl) rfl
theorem q2246 : (Jvm.Cond.code ({ cls := "LazyForge$Machine", name := "keepAll", desc := "([LLazyForge$Part;I)Z" } : Jvm.MethodName) prog_12_method_19_code (6 : Nat) (Option.some Jvm.ClassFile.FieldType.boolean)) ∈ lw_all := lw_g (lw_at lw_m9 164 rfl) rfl
theorem q2247 : (Jvm.Cond.methodLink "LazyForge$Machine" (158 : Nat) ({ cls := "LazyForge$Part", name := "keep", desc := "(LLazyForge$Machine;)J" } : Jvm.MethodName)) ∈ lw_all := lw_g (lw_at lw_m9 165 rfl) rfl
theorem q2258 : (Jvm.Cond.instanceMethod ({ cls := "LazyForge$Machine", name := "suspend", desc := "(LLazyForge$Part;)J" } : Jvm.MethodName)) ∈ lw_all := lw_g (lw_at lw_m9 176 rfl) rfl
theorem q2259 : (Jvm.Cond.selects "LazyForge$Machine" ({ cls := "LazyForge$Machine", name := "suspend", desc := "(LLazyForge$Part;)J" } : Jvm.MethodName) ({ cls := "LazyForge$Machine", name := "suspend", desc := "(LLazyForge$Part;)J" } : Jvm.MethodName)) ∈ lw_all := lw_g (lw_at lw_m9 177 rfl) rfl
theorem q2260 : (Jvm.Cond.code ({ cls := "LazyForge$Machine", name := "suspend", desc := "(LLazyForge$Part;)J" } : Jvm.MethodName) prog_12_method_17_code (4 : Nat) (Option.some Jvm.ClassFile.FieldType.long)) ∈ lw_all := lw_g (lw_at lw_m9 178 rfl) rfl
theorem q2261 : (Jvm.Cond.methodLink "LazyForge$Machine" (154 : Nat) ({ cls := "LazyForge$Machine", name := "capture", desc := "(LLazyForge$Part;J)V" } : Jvm.MethodName)) ∈ lw_all := lw_g (lw_at lw_m9 179 rfl) rfl
theorem q2262 : (Jvm.Cond.instanceMethod ({ cls := "LazyForge$Machine", name := "capture", desc := "(LLazyForge$Part;J)V" } : Jvm.MethodName)) ∈ lw_all := lw_g (lw_at lw_m9 180 rfl) rfl
theorem q2263 : (Jvm.Cond.selects "LazyForge$Machine" ({ cls := "LazyForge$Machine", name := "capture", desc := "(LLazyForge$Part;J)V" } : Jvm.MethodName) ({ cls := "LazyForge$Machine", name := "capture", desc := "(LLazyForge$Part;J)V" } : Jvm.MethodName)) ∈ lw_all := lw_g (lw_at lw_m9 181 rfl) rfl
theorem q2264 : (Jvm.Cond.code ({ cls := "LazyForge$Machine", name := "capture", desc := "(LLazyForge$Part;J)V" } : Jvm.MethodName) prog_12_method_16_code (6 : Nat) (Option.none : Option Jvm.ClassFile.FieldType)) ∈ lw_all := lw_g (lw_at lw_m9 182 rfl) rfl
theorem q2265 : (Jvm.Cond.methodLink "LazyForge$Machine" (146 : Nat) ({ cls := "LazyForge$Machine", name := "local", desc := "(I)J" } : Jvm.MethodName)) ∈ lw_all := lw_g (lw_at lw_m9 183 rfl) rfl
theorem q2266 : (Jvm.Cond.instanceMethod ({ cls := "LazyForge$Machine", name := "local", desc := "(I)J" } : Jvm.MethodName)) ∈ lw_all := lw_g (lw_at lw_m9 184 rfl) rfl
theorem q2267 : (Jvm.Cond.selects "LazyForge$Machine" ({ cls := "LazyForge$Machine", name := "local", desc := "(I)J" } : Jvm.MethodName) ({ cls := "LazyForge$Machine", name := "local", desc := "(I)J" } : Jvm.MethodName)) ∈ lw_all := lw_g (lw_at lw_m9 185 rfl) rfl
theorem q2268 : (Jvm.Cond.code ({ cls := "LazyForge$Machine", name := "local", desc := "(I)J" } : Jvm.MethodName) prog_12_method_8_code (2 : Nat) (Option.some Jvm.ClassFile.FieldType.long)) ∈ lw_all := lw_g (lw_at lw_m9 186 rfl) rfl
theorem q2279 : (Jvm.Cond.instanceMethod ({ cls := "LazyForge$Machine", name := "fill", desc := "(JI[LLazyForge$Part;)Z" } : Jvm.MethodName)) ∈ lw_all := lw_g (lw_at lw_m9 197 rfl) rfl
theorem q2280 : (Jvm.Cond.selects "LazyForge$Machine" ({ cls := "LazyForge$Machine", name := "fill", desc := "(JI[LLazyForge$Part;)Z" } : Jvm.MethodName) ({ cls := "LazyForge$Machine", name := "fill", desc := "(JI[LLazyForge$Part;)Z" } : Jvm.MethodName)) ∈ lw_all := lw_g (lw_at lw_m9 198 rfl) rfl
theorem q2281 : (Jvm.Cond.code ({ cls := "LazyForge$Machine", name := "fill", desc := "(JI[LLazyForge$Part;)Z" } : Jvm.MethodName) prog_12_method_18_code (9 : Nat) (Option.some Jvm.ClassFile.FieldType.boolean)) ∈ lw_all := lw_g (lw_at lw_m9 199 rfl) rfl
theorem q2300 : (Jvm.Cond.instanceMethod ({ cls := "LazyForge$Machine", name := "object", desc := "(II)J" } : Jvm.MethodName)) ∈ lw_all := lw_g (lw_at lw_m9 218 rfl) rfl
theorem q2301 : (Jvm.Cond.selects "LazyForge$Machine" ({ cls := "LazyForge$Machine", name := "object", desc := "(II)J" } : Jvm.MethodName) ({ cls := "LazyForge$Machine", name := "object", desc := "(II)J" } : Jvm.MethodName)) ∈ lw_all := lw_g (lw_at lw_m9 219 rfl) rfl
theorem q2302 : (Jvm.Cond.code ({ cls := "LazyForge$Machine", name := "object", desc := "(II)J" } : Jvm.MethodName) prog_12_method_13_code (4 : Nat) (Option.some Jvm.ClassFile.FieldType.long)) ∈ lw_all := lw_g (lw_at lw_m9 220 rfl) rfl
theorem q2303 : (Jvm.Cond.constantLong "LazyForge$Machine" (123 : Nat) (12884901888 : Int64)) ∈ lw_all := lw_g (lw_at lw_m9 221 rfl) rfl
theorem q2313 : (Jvm.Cond.instanceMethod ({ cls := "LazyForge$Machine", name := "whole", desc := "(LLazyForge$Function;)J" } : Jvm.MethodName)) ∈ lw_all := lw_g (lw_at lw_m9 231 rfl) rfl
theorem q2314 : (Jvm.Cond.selects "LazyForge$Machine" ({ cls := "LazyForge$Machine", name := "whole", desc := "(LLazyForge$Function;)J" } : Jvm.MethodName) ({ cls := "LazyForge$Machine", name := "whole", desc := "(LLazyForge$Function;)J" } : Jvm.MethodName)) ∈ lw_all := lw_g (lw_at lw_m9 232 rfl) rfl
theorem q2315 : (Jvm.Cond.code ({ cls := "LazyForge$Machine", name := "whole", desc := "(LLazyForge$Function;)J" } : Jvm.MethodName) prog_12_method_22_code (2 : Nat) (Option.some Jvm.ClassFile.FieldType.long)) ∈ lw_all := lw_g (lw_at lw_m9 233 rfl) rfl
theorem q2359 : (Jvm.Cond.instanceMethod ({ cls := "LazyForge$Machine", name := "constructorOf", desc := "(J)I" } : Jvm.MethodName)) ∈ lw_all := lw_g (lw_at lw_m10 37 rfl) rfl
theorem q2360 : (Jvm.Cond.selects "LazyForge$Machine" ({ cls := "LazyForge$Machine", name := "constructorOf", desc := "(J)I" } : Jvm.MethodName) ({ cls := "LazyForge$Machine", name := "constructorOf", desc := "(J)I" } : Jvm.MethodName)) ∈ lw_all := lw_g (lw_at lw_m10 38 rfl) rfl
theorem q2361 : (Jvm.Cond.code ({ cls := "LazyForge$Machine", name := "constructorOf", desc := "(J)I" } : Jvm.MethodName) prog_12_method_20_code (3 : Nat) (Option.some Jvm.ClassFile.FieldType.int)) ∈ lw_all := lw_g (lw_at lw_m10 39 rfl) rfl
theorem q2364 : (Jvm.Cond.instanceMethod ({ cls := "LazyForge$Machine", name := "fieldOf", desc := "(JI)J" } : Jvm.MethodName)) ∈ lw_all := lw_g (lw_at lw_m10 42 rfl) rfl
theorem q2365 : (Jvm.Cond.selects "LazyForge$Machine" ({ cls := "LazyForge$Machine", name := "fieldOf", desc := "(JI)J" } : Jvm.MethodName) ({ cls := "LazyForge$Machine", name := "fieldOf", desc := "(JI)J" } : Jvm.MethodName)) ∈ lw_all := lw_g (lw_at lw_m10 43 rfl) rfl
theorem q2366 : (Jvm.Cond.code ({ cls := "LazyForge$Machine", name := "fieldOf", desc := "(JI)J" } : Jvm.MethodName) prog_12_method_21_code (4 : Nat) (Option.some Jvm.ClassFile.FieldType.long)) ∈ lw_all := lw_g (lw_at lw_m10 44 rfl) rfl
theorem q2380 : (Jvm.Cond.instanceMethod ({ cls := "LazyForge$Machine", name := "force", desc := "()V" } : Jvm.MethodName)) ∈ lw_all := lw_g (lw_at lw_m10 58 rfl) rfl
theorem q2381 : (Jvm.Cond.selects "LazyForge$Machine" ({ cls := "LazyForge$Machine", name := "force", desc := "()V" } : Jvm.MethodName) ({ cls := "LazyForge$Machine", name := "force", desc := "()V" } : Jvm.MethodName)) ∈ lw_all := lw_g (lw_at lw_m10 59 rfl) rfl
theorem q2382 : (Jvm.Cond.code ({ cls := "LazyForge$Machine", name := "force", desc := "()V" } : Jvm.MethodName) prog_12_method_33_code (4 : Nat) (Option.none : Option Jvm.ClassFile.FieldType)) ∈ lw_all := lw_g (lw_at lw_m10 60 rfl) rfl
theorem q2383 : (Jvm.Cond.methodLink "LazyForge$Machine" (271 : Nat) ({ cls := "LazyForge$Machine", name := "say", desc := "(I)Z" } : Jvm.MethodName)) ∈ lw_all := lw_g (lw_at lw_m10 61 rfl) rfl
theorem q2384 : (Jvm.Cond.privateMethod ({ cls := "LazyForge$Machine", name := "say", desc := "(I)Z" } : Jvm.MethodName)) ∈ lw_tbl := lw_at lw_m10 62 rfl
theorem q2385 : (Jvm.Cond.instanceMethod ({ cls := "LazyForge$Machine", name := "say", desc := "(I)Z" } : Jvm.MethodName)) ∈ lw_all := lw_g (lw_at lw_m10 63 rfl) rfl
theorem q2386 : (Jvm.Cond.code ({ cls := "LazyForge$Machine", name := "say", desc := "(I)Z" } : Jvm.MethodName) prog_12_method_31_code (2 : Nat) (Option.some Jvm.ClassFile.FieldType.boolean)) ∈ lw_all := lw_g (lw_at lw_m10 64 rfl) rfl
theorem q2387 : (Jvm.Cond.methodLink "LazyForge$Machine" (275 : Nat) ({ cls := "LazyForge$Machine", name := "number", desc := "(I)V" } : Jvm.MethodName)) ∈ lw_all := lw_g (lw_at lw_m10 65 rfl) rfl
theorem q2388 : (Jvm.Cond.privateMethod ({ cls := "LazyForge$Machine", name := "number", desc := "(I)V" } : Jvm.MethodName)) ∈ lw_tbl := lw_at lw_m10 66 rfl
theorem q2389 : (Jvm.Cond.instanceMethod ({ cls := "LazyForge$Machine", name := "number", desc := "(I)V" } : Jvm.MethodName)) ∈ lw_all := lw_g (lw_at lw_m10 67 rfl) rfl
theorem q2390 : (Jvm.Cond.code ({ cls := "LazyForge$Machine", name := "number", desc := "(I)V" } : Jvm.MethodName) prog_12_method_32_code (2 : Nat) (Option.none : Option Jvm.ClassFile.FieldType)) ∈ lw_all := lw_g (lw_at lw_m10 68 rfl) rfl
theorem q2391 : (Jvm.Cond.methodLinkNest "LazyForge$Machine" (254 : Nat) ({ cls := "LazyForge", name := "isInt", desc := "(J)Z" } : Jvm.MethodName) "LazyForge") ∈ lw_tbl := lw_at lw_m10 69 rfl
theorem q2392 : (Jvm.Cond.constantLong "LazyForge$Machine" (277 : Nat) (4294967296 : Int64)) ∈ lw_all := lw_g (lw_at lw_m10 70 rfl) rfl
theorem q2393 : (Jvm.Cond.methodLink "LazyForge$Machine" (279 : Nat) ({ cls := "LazyForge$Machine", name := "constructorOf", desc := "(J)I" } : Jvm.MethodName)) ∈ lw_all := lw_g (lw_at lw_m10 71 rfl) rfl
theorem q2398 : (Jvm.Cond.instanceMethod ({ cls := "LazyForge$Machine", name := "leave", desc := "()V" } : Jvm.MethodName)) ∈ lw_all := lw_g (lw_at lw_m10 76 rfl) rfl
theorem q2399 : (Jvm.Cond.selects "LazyForge$Machine" ({ cls := "LazyForge$Machine", name := "leave", desc := "()V" } : Jvm.MethodName) ({ cls := "LazyForge$Machine", name := "leave", desc := "()V" } : Jvm.MethodName)) ∈ lw_all := lw_g (lw_at lw_m10 77 rfl) rfl
theorem q2400 : (Jvm.Cond.code ({ cls := "LazyForge$Machine", name := "leave", desc := "()V" } : Jvm.MethodName) prog_12_method_24_code (1 : Nat) (Option.none : Option Jvm.ClassFile.FieldType)) ∈ lw_all := lw_g (lw_at lw_m10 78 rfl) rfl
theorem q2445 : (Jvm.Cond.instanceMethod ({ cls := "LazyForge$Machine", name := "reckon", desc := "(I)V" } : Jvm.MethodName)) ∈ lw_all := lw_g (lw_at lw_m10 123 rfl) rfl
theorem q2446 : (Jvm.Cond.selects "LazyForge$Machine" ({ cls := "LazyForge$Machine", name := "reckon", desc := "(I)V" } : Jvm.MethodName) ({ cls := "LazyForge$Machine", name := "reckon", desc := "(I)V" } : Jvm.MethodName)) ∈ lw_all := lw_g (lw_at lw_m10 124 rfl) rfl
theorem q2447 : (Jvm.Cond.code ({ cls := "LazyForge$Machine", name := "reckon", desc := "(I)V" } : Jvm.MethodName) prog_12_method_29_code (6 : Nat) (Option.none : Option Jvm.ClassFile.FieldType)) ∈ lw_all := lw_g (lw_at lw_m10 125 rfl) rfl
theorem q2448 : (Jvm.Cond.methodLink "LazyForge$Machine" (258 : Nat) ({ cls := "LazyForge$Machine", name := "reckoned", desc := "(III)J" } : Jvm.MethodName)) ∈ lw_all := lw_g (lw_at lw_m10 126 rfl) rfl
theorem q2449 : (Jvm.Cond.static ({ cls := "LazyForge$Machine", name := "reckoned", desc := "(III)J" } : Jvm.MethodName)) ∈ lw_all := lw_g (lw_at lw_m10 127 rfl) rfl
theorem q2450 : (Jvm.Cond.code ({ cls := "LazyForge$Machine", name := "reckoned", desc := "(III)J" } : Jvm.MethodName) prog_12_method_30_code (3 : Nat) (Option.some Jvm.ClassFile.FieldType.long)) ∈ lw_all := lw_g (lw_at lw_m10 128 rfl) rfl
theorem q2451 : (Jvm.Cond.methodLinkNest "LazyForge$Machine" (262 : Nat) ({ cls := "LazyForge", name := "of", desc := "(I)J" } : Jvm.MethodName) "LazyForge") ∈ lw_tbl := lw_at lw_m10 129 rfl
theorem q2452 : (Jvm.Cond.methodLinkNest "LazyForge$Machine" (265 : Nat) ({ cls := "LazyForge", name := "atom", desc := "(I)J" } : Jvm.MethodName) "LazyForge") ∈ lw_tbl := lw_at lw_m10 130 rfl
theorem q2459 : (Jvm.Cond.instanceMethod ({ cls := "LazyForge$Machine", name := "update", desc := "(I)V" } : Jvm.MethodName)) ∈ lw_all := lw_g (lw_at lw_m10 137 rfl) rfl
theorem q2460 : (Jvm.Cond.selects "LazyForge$Machine" ({ cls := "LazyForge$Machine", name := "update", desc := "(I)V" } : Jvm.MethodName) ({ cls := "LazyForge$Machine", name := "update", desc := "(I)V" } : Jvm.MethodName)) ∈ lw_all := lw_g (lw_at lw_m10 138 rfl) rfl
theorem q2461 : (Jvm.Cond.code ({ cls := "LazyForge$Machine", name := "update", desc := "(I)V" } : Jvm.MethodName) prog_12_method_26_code (2 : Nat) (Option.none : Option Jvm.ClassFile.FieldType)) ∈ lw_all := lw_g (lw_at lw_m10 139 rfl) rfl
theorem q3493 : (Jvm.Cond.castable "LazyForge$Machine" "java/lang/Object") ∈ lw_tbl := lw_at lw_m14 211 rfl
theorem in_X3 : ∀ w ∈ wsX30, w ∈ lw_all := lw_in wsX30 [375, 377, 379, 381, 383, 385, 387, 389, 391, 393, 395, 397, 399, 401, 403, 405, 407, 409, 411, 413, 415, 417, 419, 421, 423, 425, 427, 429, 431, 433, 435] (by decide +kernel) (by decide +kernel)

/-! LazyForge$Part -/
set_option maxRecDepth 100000
def RX4 : String := "LazyForge$Part"
abbrev cX4_init : ByteArray := prog_15_method_1_code
def yX4_init : MethodName := ⟨RX4, "<init>", "()V"⟩
abbrev cX4_has : ByteArray := prog_15_method_2_code
def yX4_has : MethodName := ⟨RX4, "has", "(LLazyForge$Part;)V"⟩
abbrev cX4_least : ByteArray := prog_15_method_5_code
def yX4_least : MethodName := ⟨RX4, "least", "([Z)Z"⟩
abbrev cX4_clear : ByteArray := prog_15_method_4_code
def yX4_clear : MethodName := ⟨RX4, "clear", "([Z)V"⟩
abbrev cX4_mayWait : ByteArray := prog_15_method_12_code
def yX4_mayWait : MethodName := ⟨RX4, "mayWait", "(LLazyForge$Program;LLazyForge$Function;)V"⟩
abbrev cX4_bound : ByteArray := prog_15_method_7_code
def yX4_bound : MethodName := ⟨RX4, "bound", "([Z)V"⟩
theorem q166 : (Jvm.Cond.initialized "LazyForge$Part") ∈ lw_all := lw_g (lw_at lw_m1 4 rfl) rfl
theorem q252 : (Jvm.Cond.instanceMethod ({ cls := "LazyForge$Part", name := "<init>", desc := "()V" } : Jvm.MethodName)) ∈ lw_all := lw_g (lw_at lw_m1 90 rfl) rfl
theorem q253 : (Jvm.Cond.code ({ cls := "LazyForge$Part", name := "<init>", desc := "()V" } : Jvm.MethodName) prog_15_method_1_code (1 : Nat) (Option.none : Option Jvm.ClassFile.FieldType)) ∈ lw_all := lw_g (lw_at lw_m1 91 rfl) rfl
theorem q254 : (Jvm.Cond.methodLink "LazyForge$Part" (3 : Nat) ({ cls := "java/lang/Object", name := "<init>", desc := "()V" } : Jvm.MethodName)) ∈ lw_all := lw_g (lw_at lw_m1 92 rfl) rfl
theorem q255 : (Jvm.Cond.fieldLink "LazyForge$Part" (9 : Nat) "LazyForge$Part" "parts" "I") ∈ lw_all := lw_g (lw_at lw_m1 93 rfl) rfl
theorem q257 : (Jvm.Cond.fieldLink "LazyForge$Part" (15 : Nat) "LazyForge$Part" "high" "I") ∈ lw_all := lw_g (lw_at lw_m1 95 rfl) rfl
theorem q260 : (Jvm.Cond.fieldLink "LazyForge$Part" (18 : Nat) "LazyForge$Part" "number" "I") ∈ lw_all := lw_g (lw_at lw_m1 98 rfl) rfl
theorem q263 : (Jvm.Cond.fieldLink "LazyForge$Part" (47 : Nat) "LazyForge$Part" "captured" "[I") ∈ lw_all := lw_g (lw_at lw_m1 101 rfl) rfl
theorem q265 : (Jvm.Cond.fieldLink "LazyForge$Part" (65 : Nat) "LazyForge$Part" "in" "LLazyForge$Function;") ∈ lw_all := lw_g (lw_at lw_m1 103 rfl) rfl
theorem q268 : (Jvm.Cond.soleField "LazyForge$Part" "parts") ∈ lw_all := lw_g (lw_at lw_m1 106 rfl) rfl
theorem q270 : (Jvm.Cond.soleField "LazyForge$Part" "high") ∈ lw_all := lw_g (lw_at lw_m1 108 rfl) rfl
theorem q272 : (Jvm.Cond.soleField "LazyForge$Part" "number") ∈ lw_all := lw_g (lw_at lw_m1 110 rfl) rfl
theorem q274 : (Jvm.Cond.soleField "LazyForge$Part" "captured") ∈ lw_all := lw_g (lw_at lw_m1 112 rfl) rfl
theorem q276 : (Jvm.Cond.soleField "LazyForge$Part" "in") ∈ lw_all := lw_g (lw_at lw_m1 114 rfl) rfl
theorem q1062 : (Jvm.Cond.fieldLinkNest "LazyForge$Part" (51 : Nat) "LazyForge$Program" "suspended" "Ljava/util/ArrayList;" "LazyForge") ∈ lw_tbl := lw_at lw_m4 180 rfl
theorem q1067 : (Jvm.Cond.fieldLinkNest "LazyForge$Part" (35 : Nat) "LazyForge$Program" "some" "[Z" "LazyForge") ∈ lw_tbl := lw_at lw_m4 185 rfl
theorem q1330 : (Jvm.Cond.declares ({ cls := "LazyForge$Part", name := "has", desc := "(LLazyForge$Part;)V" } : Jvm.MethodName)) ∈ lw_tbl := lw_at lw_m5 208 rfl
theorem q1332 : (Jvm.Cond.instanceMethod ({ cls := "LazyForge$Part", name := "has", desc := "(LLazyForge$Part;)V" } : Jvm.MethodName)) ∈ lw_all := lw_g (lw_at lw_m5 210 rfl) rfl
theorem q1333 : (Jvm.Cond.code ({ cls := "LazyForge$Part", name := "has", desc := "(LLazyForge$Part;)V" } : Jvm.MethodName) prog_15_method_2_code (2 : Nat) (Option.none : Option Jvm.ClassFile.FieldType)) ∈ lw_all := lw_g (lw_at lw_m5 211 rfl) rfl
theorem q1334 : (Jvm.Cond.methodLink "LazyForge$Part" (21 : Nat) ({ cls := "java/lang/Math", name := "max", desc := "(II)I" } : Jvm.MethodName)) ∈ lw_all := lw_g (lw_at lw_m5 212 rfl) rfl
theorem q1643 : (Jvm.Cond.instanceMethod ({ cls := "LazyForge$Part", name := "least", desc := "([Z)Z" } : Jvm.MethodName)) ∈ lw_all := lw_g (lw_at lw_m7 41 rfl) rfl
theorem q1644 : (Jvm.Cond.sameMethod "LazyForge$Part" "LazyForge$Part" "least" "([Z)Z") ∈ lw_all := lw_g (lw_at lw_m7 42 rfl) rfl
theorem q1659 : (Jvm.Cond.code ({ cls := "LazyForge$Part", name := "least", desc := "([Z)Z" } : Jvm.MethodName) prog_15_method_5_code (4 : Nat) (Option.some Jvm.ClassFile.FieldType.boolean)) ∈ lw_all := lw_g (lw_at lw_m7 57 rfl) rfl
theorem q1660 : (Jvm.Cond.methodLink "LazyForge$Part" (27 : Nat) ({ cls := "LazyForge$Part", name := "clear", desc := "([Z)V" } : Jvm.MethodName)) ∈ lw_all := lw_g (lw_at lw_m7 58 rfl) rfl
theorem q1661 : (Jvm.Cond.instanceMethod ({ cls := "LazyForge$Part", name := "clear", desc := "([Z)V" } : Jvm.MethodName)) ∈ lw_all := lw_g (lw_at lw_m7 59 rfl) rfl
theorem q1662 : (Jvm.Cond.sameMethod "LazyForge$Part" "LazyForge$Part" "clear" "([Z)V") ∈ lw_all := lw_g (lw_at lw_m7 60 rfl) rfl
theorem q1692 : (Jvm.Cond.code ({ cls := "LazyForge$Part", name := "clear", desc := "([Z)V" } : Jvm.MethodName) prog_15_method_4_code (2 : Nat) (Option.none : Option Jvm.ClassFile.FieldType)) ∈ lw_all := lw_g (lw_at lw_m7 90 rfl) rfl
theorem q1693 : (Jvm.Cond.methodLink "LazyForge$Part" (31 : Nat) ({ cls := "LazyForge$Part", name := "bit", desc := "([Z)Z" } : Jvm.MethodName)) ∈ lw_all := lw_g (lw_at lw_m7 91 rfl) rfl
theorem q1694 : (Jvm.Cond.declares ({ cls := "LazyForge$Part", name := "bit", desc := "([Z)Z" } : Jvm.MethodName)) ∈ lw_tbl := lw_at lw_m7 92 rfl
theorem q1695 : (Jvm.Cond.sameMethod "LazyForge$Part" "LazyForge$Part" "bit" "([Z)Z") ∈ lw_all := lw_g (lw_at lw_m7 93 rfl) rfl
theorem q1744 : (Jvm.Cond.declares ({ cls := "LazyForge$Part", name := "prepare", desc := "(LLazyForge$Program;LLazyForge$Function;)V" } : Jvm.MethodName)) ∈ lw_tbl := lw_at lw_m7 142 rfl
theorem q1745 : (Jvm.Cond.sameMethod "LazyForge$Part" "LazyForge$Part" "prepare" "(LLazyForge$Program;LLazyForge$Function;)V") ∈ lw_all := lw_g (lw_at lw_m7 143 rfl) rfl
theorem q1760 : (Jvm.Cond.declares ({ cls := "LazyForge$Part", name := "mayWait", desc := "(LLazyForge$Program;LLazyForge$Function;)V" } : Jvm.MethodName)) ∈ lw_tbl := lw_at lw_m7 158 rfl
theorem q1762 : (Jvm.Cond.instanceMethod ({ cls := "LazyForge$Part", name := "mayWait", desc := "(LLazyForge$Program;LLazyForge$Function;)V" } : Jvm.MethodName)) ∈ lw_all := lw_g (lw_at lw_m7 160 rfl) rfl
theorem q1763 : (Jvm.Cond.code ({ cls := "LazyForge$Part", name := "mayWait", desc := "(LLazyForge$Program;LLazyForge$Function;)V" } : Jvm.MethodName) prog_15_method_12_code (6 : Nat) (Option.none : Option Jvm.ClassFile.FieldType)) ∈ lw_all := lw_g (lw_at lw_m7 161 rfl) rfl
theorem q1764 : (Jvm.Cond.methodLink "LazyForge$Part" (41 : Nat) ({ cls := "LazyForge$Part", name := "uses", desc := "([Z)V" } : Jvm.MethodName)) ∈ lw_all := lw_g (lw_at lw_m7 162 rfl) rfl
theorem q1765 : (Jvm.Cond.declares ({ cls := "LazyForge$Part", name := "uses", desc := "([Z)V" } : Jvm.MethodName)) ∈ lw_tbl := lw_at lw_m7 163 rfl
theorem q1766 : (Jvm.Cond.sameMethod "LazyForge$Part" "LazyForge$Part" "uses" "([Z)V") ∈ lw_all := lw_g (lw_at lw_m7 164 rfl) rfl
theorem q1806 : (Jvm.Cond.methodLink "LazyForge$Part" (44 : Nat) ({ cls := "LazyForge$Part", name := "bound", desc := "([Z)V" } : Jvm.MethodName)) ∈ lw_all := lw_g (lw_at lw_m7 204 rfl) rfl
theorem q1807 : (Jvm.Cond.instanceMethod ({ cls := "LazyForge$Part", name := "bound", desc := "([Z)V" } : Jvm.MethodName)) ∈ lw_all := lw_g (lw_at lw_m7 205 rfl) rfl
theorem q1808 : (Jvm.Cond.sameMethod "LazyForge$Part" "LazyForge$Part" "bound" "([Z)V") ∈ lw_all := lw_g (lw_at lw_m7 206 rfl) rfl
theorem q1838 : (Jvm.Cond.code ({ cls := "LazyForge$Part", name := "bound", desc := "([Z)V" } : Jvm.MethodName) prog_15_method_7_code (2 : Nat) (Option.none : Option Jvm.ClassFile.FieldType)) ∈ lw_all := lw_g (lw_at lw_m7 236 rfl) rfl
theorem q1839 : (Jvm.Cond.methodLink "LazyForge$Part" (55 : Nat) ({ cls := "java/util/ArrayList", name := "size", desc := "()I" } : Jvm.MethodName)) ∈ lw_all := lw_g (lw_at lw_m7 237 rfl) rfl
theorem q1840 : (Jvm.Cond.methodLink "LazyForge$Part" (61 : Nat) ({ cls := "java/util/ArrayList", name := "add", desc := "(Ljava/lang/Object;)Z" } : Jvm.MethodName)) ∈ lw_all := lw_g (lw_at lw_m7 238 rfl) rfl
theorem q1973 : (Jvm.Cond.declares ({ cls := "LazyForge$Part", name := "write", desc := "(LLazyForge$Writer;)V" } : Jvm.MethodName)) ∈ lw_tbl := lw_at lw_m8 131 rfl
theorem q1974 : (Jvm.Cond.sameMethod "LazyForge$Part" "LazyForge$Part" "write" "(LLazyForge$Writer;)V") ∈ lw_all := lw_g (lw_at lw_m8 132 rfl) rfl
theorem q2213 : (Jvm.Cond.declares ({ cls := "LazyForge$Part", name := "step", desc := "(LLazyForge$Machine;I)V" } : Jvm.MethodName)) ∈ lw_tbl := lw_at lw_m9 131 rfl
theorem q2214 : (Jvm.Cond.sameMethod "LazyForge$Part" "LazyForge$Part" "step" "(LLazyForge$Machine;I)V") ∈ lw_all := lw_g (lw_at lw_m9 132 rfl) rfl
theorem q2248 : (Jvm.Cond.declares ({ cls := "LazyForge$Part", name := "keep", desc := "(LLazyForge$Machine;)J" } : Jvm.MethodName)) ∈ lw_tbl := lw_at lw_m9 166 rfl
theorem q2249 : (Jvm.Cond.sameMethod "LazyForge$Part" "LazyForge$Part" "keep" "(LLazyForge$Machine;)J") ∈ lw_all := lw_g (lw_at lw_m9 167 rfl) rfl
theorem q3449 : (Jvm.Cond.sameMethod "LazyForge$Part" "LazyForge$Part" "mayWait" "(LLazyForge$Program;LLazyForge$Function;)V") ∈ lw_all := lw_g (lw_at lw_m14 167 rfl) rfl

/-! LazyForge$Task -/
set_option maxRecDepth 100000
def RX5 : String := "LazyForge$Task"
abbrev cX5_init : ByteArray := prog_21_method_1_code
def yX5_init : MethodName := ⟨RX5, "<init>", "()V"⟩
abbrev cX5_bit : ByteArray := prog_21_method_2_code
def yX5_bit : MethodName := ⟨RX5, "bit", "([Z)Z"⟩
abbrev cX5_prepare : ByteArray := prog_21_method_6_code
def yX5_prepare : MethodName := ⟨RX5, "prepare", "(LLazyForge$Program;LLazyForge$Function;)V"⟩
abbrev cX5_uses : ByteArray := prog_21_method_3_code
def yX5_uses : MethodName := ⟨RX5, "uses", "([Z)V"⟩
abbrev cX5_write : ByteArray := prog_21_method_5_code
def yX5_write : MethodName := ⟨RX5, "write", "(LLazyForge$Writer;)V"⟩
abbrev cX5_keep : ByteArray := prog_21_method_4_code
def yX5_keep : MethodName := ⟨RX5, "keep", "(LLazyForge$Machine;)J"⟩
theorem q167 : (Jvm.Cond.initialized "LazyForge$Task") ∈ lw_all := lw_g (lw_at lw_m1 5 rfl) rfl
theorem q249 : (Jvm.Cond.instanceMethod ({ cls := "LazyForge$Task", name := "<init>", desc := "()V" } : Jvm.MethodName)) ∈ lw_all := lw_g (lw_at lw_m1 87 rfl) rfl
theorem q250 : (Jvm.Cond.code ({ cls := "LazyForge$Task", name := "<init>", desc := "()V" } : Jvm.MethodName) prog_21_method_1_code (1 : Nat) (Option.none : Option Jvm.ClassFile.FieldType)) ∈ lw_all := lw_g (lw_at lw_m1 88 rfl) rfl
theorem q251 : (Jvm.Cond.methodLinkNest "LazyForge$Task" (3 : Nat) ({ cls := "LazyForge$Part", name := "<init>", desc := "()V" } : Jvm.MethodName) "LazyForge") ∈ lw_tbl := lw_at lw_m1 89 rfl
theorem q1697 : (Jvm.Cond.instanceMethod ({ cls := "LazyForge$Task", name := "bit", desc := "([Z)Z" } : Jvm.MethodName)) ∈ lw_all := lw_g (lw_at lw_m7 95 rfl) rfl
theorem q1698 : (Jvm.Cond.code ({ cls := "LazyForge$Task", name := "bit", desc := "([Z)Z" } : Jvm.MethodName) prog_21_method_2_code (2 : Nat) (Option.some Jvm.ClassFile.FieldType.boolean)) ∈ lw_all := lw_g (lw_at lw_m7 96 rfl) rfl
theorem q1747 : (Jvm.Cond.instanceMethod ({ cls := "LazyForge$Task", name := "prepare", desc := "(LLazyForge$Program;LLazyForge$Function;)V" } : Jvm.MethodName)) ∈ lw_all := lw_g (lw_at lw_m7 145 rfl) rfl
theorem q1748 : (Jvm.Cond.code ({ cls := "LazyForge$Task", name := "prepare", desc := "(LLazyForge$Program;LLazyForge$Function;)V" } : Jvm.MethodName) prog_21_method_6_code (3 : Nat) (Option.none : Option Jvm.ClassFile.FieldType)) ∈ lw_all := lw_g (lw_at lw_m7 146 rfl) rfl
theorem q1768 : (Jvm.Cond.instanceMethod ({ cls := "LazyForge$Task", name := "uses", desc := "([Z)V" } : Jvm.MethodName)) ∈ lw_all := lw_g (lw_at lw_m7 166 rfl) rfl
theorem q1769 : (Jvm.Cond.code ({ cls := "LazyForge$Task", name := "uses", desc := "([Z)V" } : Jvm.MethodName) prog_21_method_3_code (2 : Nat) (Option.none : Option Jvm.ClassFile.FieldType)) ∈ lw_all := lw_g (lw_at lw_m7 167 rfl) rfl
theorem q1976 : (Jvm.Cond.instanceMethod ({ cls := "LazyForge$Task", name := "write", desc := "(LLazyForge$Writer;)V" } : Jvm.MethodName)) ∈ lw_all := lw_g (lw_at lw_m8 134 rfl) rfl
theorem q1977 : (Jvm.Cond.code ({ cls := "LazyForge$Task", name := "write", desc := "(LLazyForge$Writer;)V" } : Jvm.MethodName) prog_21_method_5_code (2 : Nat) (Option.none : Option Jvm.ClassFile.FieldType)) ∈ lw_all := lw_g (lw_at lw_m8 135 rfl) rfl
theorem q2251 : (Jvm.Cond.instanceMethod ({ cls := "LazyForge$Task", name := "keep", desc := "(LLazyForge$Machine;)J" } : Jvm.MethodName)) ∈ lw_all := lw_g (lw_at lw_m9 169 rfl) rfl
theorem q2252 : (Jvm.Cond.code ({ cls := "LazyForge$Task", name := "keep", desc := "(LLazyForge$Machine;)J" } : Jvm.MethodName) prog_21_method_4_code (2 : Nat) (Option.some Jvm.ClassFile.FieldType.long)) ∈ lw_all := lw_g (lw_at lw_m9 170 rfl) rfl
theorem q2253 : (Jvm.Cond.constantLong "LazyForge$Task" (9 : Nat) (-1 : Int64)) ∈ lw_all := lw_g (lw_at lw_m9 171 rfl) rfl

/-! LazyForge$Update -/
set_option maxRecDepth 100000
def RX6 : String := "LazyForge$Update"
def TX6 : u_T := fun k => match k with
  | 0 => ("LazyForge$Part", "parts", "I", false)
  | 1 => ("LazyForge$Part", "high", "I", false)
  | 2 => ("LazyForge$Part", "number", "I", false)
  | 3 => ("LazyForge$Part", "captured", "[I", false)
  | _ => ("LazyForge$Part", "in", "LLazyForge$Function;", false)
def tyX6 : Nat → FieldType := fun k => match k with
  | 0 => .int
  | 1 => .int
  | 2 => .int
  | 3 => .array .int
  | _ => .object "LazyForge$Function"
abbrev wsX60 : List Cond := u_ws RX6 TX6 5
theorem nmX6 : ∀ a, a < 5 → ∀ b, b < 5 → a ≠ b → (TX6 a).2.1 ≠ (TX6 b).2.1 := by decide +kernel
theorem tyX6_ok : ∀ k, k < 5 → parseFieldDescriptor (TX6 k).2.2.1 = some (tyX6 k) := by decide +kernel
abbrev cX6_init : ByteArray := prog_22_method_1_code
def yX6_init : MethodName := ⟨RX6, "<init>", "()V"⟩
abbrev cX6_step : ByteArray := prog_22_method_2_code
def yX6_step : MethodName := ⟨RX6, "step", "(LLazyForge$Machine;I)V"⟩
theorem q168 : (Jvm.Cond.initialized "LazyForge$Update") ∈ lw_all := lw_g (lw_at lw_m1 6 rfl) rfl
theorem q244 : (Jvm.Cond.instantiable "LazyForge$Update" (5 : Nat)) ∈ lw_all := lw_g (lw_at lw_m1 82 rfl) rfl
theorem q246 : (Jvm.Cond.instanceMethod ({ cls := "LazyForge$Update", name := "<init>", desc := "()V" } : Jvm.MethodName)) ∈ lw_all := lw_g (lw_at lw_m1 84 rfl) rfl
theorem q247 : (Jvm.Cond.code ({ cls := "LazyForge$Update", name := "<init>", desc := "()V" } : Jvm.MethodName) prog_22_method_1_code (1 : Nat) (Option.none : Option Jvm.ClassFile.FieldType)) ∈ lw_all := lw_g (lw_at lw_m1 85 rfl) rfl
theorem q248 : (Jvm.Cond.methodLinkNest "LazyForge$Update" (1 : Nat) ({ cls := "LazyForge$Task", name := "<init>", desc := "()V" } : Jvm.MethodName) "LazyForge") ∈ lw_tbl := lw_at lw_m1 86 rfl
theorem q267 : (Jvm.Cond.lays "LazyForge$Update" "LazyForge$Part" "parts" "I") ∈ lw_all := lw_g (lw_at lw_m1 105 rfl) rfl
theorem q269 : (Jvm.Cond.lays "LazyForge$Update" "LazyForge$Part" "high" "I") ∈ lw_all := lw_g (lw_at lw_m1 107 rfl) rfl
theorem q271 : (Jvm.Cond.lays "LazyForge$Update" "LazyForge$Part" "number" "I") ∈ lw_all := lw_g (lw_at lw_m1 109 rfl) rfl
theorem q273 : (Jvm.Cond.lays "LazyForge$Update" "LazyForge$Part" "captured" "[I") ∈ lw_all := lw_g (lw_at lw_m1 111 rfl) rfl
theorem q275 : (Jvm.Cond.lays "LazyForge$Update" "LazyForge$Part" "in" "LLazyForge$Function;") ∈ lw_all := lw_g (lw_at lw_m1 113 rfl) rfl
theorem q277 : (Jvm.Cond.superclass "LazyForge$Update" "LazyForge$Task") ∈ lw_all := lw_g (lw_at lw_m1 115 rfl) rfl
theorem q1242 : (Jvm.Cond.selects "LazyForge$Update" ({ cls := "java/lang/Object", name := "getClass", desc := "()Ljava/lang/Class;" } : Jvm.MethodName) ({ cls := "java/lang/Object", name := "getClass", desc := "()Ljava/lang/Class;" } : Jvm.MethodName)) ∈ lw_all := lw_g (lw_at lw_m5 120 rfl) rfl
theorem q1420 : (Jvm.Cond.selects "LazyForge$Update" ({ cls := "java/lang/Object", name := "equals", desc := "(Ljava/lang/Object;)Z" } : Jvm.MethodName) ({ cls := "java/lang/Object", name := "equals", desc := "(Ljava/lang/Object;)Z" } : Jvm.MethodName)) ∈ lw_all := lw_g (lw_at lw_m6 58 rfl) rfl
theorem q1657 : (Jvm.Cond.selects "LazyForge$Update" ({ cls := "LazyForge$Part", name := "least", desc := "([Z)Z" } : Jvm.MethodName) ({ cls := "LazyForge$Part", name := "least", desc := "([Z)Z" } : Jvm.MethodName)) ∈ lw_all := lw_g (lw_at lw_m7 55 rfl) rfl
theorem q1690 : (Jvm.Cond.selects "LazyForge$Update" ({ cls := "LazyForge$Part", name := "clear", desc := "([Z)V" } : Jvm.MethodName) ({ cls := "LazyForge$Part", name := "clear", desc := "([Z)V" } : Jvm.MethodName)) ∈ lw_all := lw_g (lw_at lw_m7 88 rfl) rfl
theorem q1741 : (Jvm.Cond.selects "LazyForge$Update" ({ cls := "LazyForge$Part", name := "bit", desc := "([Z)Z" } : Jvm.MethodName) ({ cls := "LazyForge$Task", name := "bit", desc := "([Z)Z" } : Jvm.MethodName)) ∈ lw_all := lw_g (lw_at lw_m7 139 rfl) rfl
theorem q1804 : (Jvm.Cond.selects "LazyForge$Update" ({ cls := "LazyForge$Part", name := "uses", desc := "([Z)V" } : Jvm.MethodName) ({ cls := "LazyForge$Task", name := "uses", desc := "([Z)V" } : Jvm.MethodName)) ∈ lw_all := lw_g (lw_at lw_m7 202 rfl) rfl
theorem q1836 : (Jvm.Cond.selects "LazyForge$Update" ({ cls := "LazyForge$Part", name := "bound", desc := "([Z)V" } : Jvm.MethodName) ({ cls := "LazyForge$Part", name := "bound", desc := "([Z)V" } : Jvm.MethodName)) ∈ lw_all := lw_g (lw_at lw_m7 234 rfl) rfl
theorem q1891 : (Jvm.Cond.selects "LazyForge$Update" ({ cls := "LazyForge$Part", name := "prepare", desc := "(LLazyForge$Program;LLazyForge$Function;)V" } : Jvm.MethodName) ({ cls := "LazyForge$Task", name := "prepare", desc := "(LLazyForge$Program;LLazyForge$Function;)V" } : Jvm.MethodName)) ∈ lw_all := lw_g (lw_at lw_m8 49 rfl) rfl
theorem q2056 : (Jvm.Cond.selects "LazyForge$Update" ({ cls := "LazyForge$Part", name := "write", desc := "(LLazyForge$Writer;)V" } : Jvm.MethodName) ({ cls := "LazyForge$Task", name := "write", desc := "(LLazyForge$Writer;)V" } : Jvm.MethodName)) ∈ lw_all := lw_g (lw_at lw_m8 214 rfl) rfl
theorem q2334 : (Jvm.Cond.selects "LazyForge$Update" ({ cls := "LazyForge$Part", name := "keep", desc := "(LLazyForge$Machine;)J" } : Jvm.MethodName) ({ cls := "LazyForge$Task", name := "keep", desc := "(LLazyForge$Machine;)J" } : Jvm.MethodName)) ∈ lw_all := lw_g (lw_at lw_m10 12 rfl) rfl
theorem q2455 : (Jvm.Cond.selects "LazyForge$Update" ({ cls := "LazyForge$Part", name := "step", desc := "(LLazyForge$Machine;I)V" } : Jvm.MethodName) ({ cls := "LazyForge$Update", name := "step", desc := "(LLazyForge$Machine;I)V" } : Jvm.MethodName)) ∈ lw_all := lw_g (lw_at lw_m10 133 rfl) rfl
theorem q2456 : (Jvm.Cond.instanceMethod ({ cls := "LazyForge$Update", name := "step", desc := "(LLazyForge$Machine;I)V" } : Jvm.MethodName)) ∈ lw_all := lw_g (lw_at lw_m10 134 rfl) rfl
theorem q2457 : (Jvm.Cond.code ({ cls := "LazyForge$Update", name := "step", desc := "(LLazyForge$Machine;I)V" } : Jvm.MethodName) prog_22_method_2_code (3 : Nat) (Option.none : Option Jvm.ClassFile.FieldType)) ∈ lw_all := lw_g (lw_at lw_m10 135 rfl) rfl
theorem q2458 : (Jvm.Cond.methodLink "LazyForge$Update" (7 : Nat) ({ cls := "LazyForge$Machine", name := "update", desc := "(I)V" } : Jvm.MethodName)) ∈ lw_all := lw_g (lw_at lw_m10 136 rfl) rfl
theorem q3462 : (Jvm.Cond.selects "LazyForge$Update" ({ cls := "LazyForge$Part", name := "mayWait", desc := "(LLazyForge$Program;LLazyForge$Function;)V" } : Jvm.MethodName) ({ cls := "LazyForge$Part", name := "mayWait", desc := "(LLazyForge$Program;LLazyForge$Function;)V" } : Jvm.MethodName)) ∈ lw_all := lw_g (lw_at lw_m14 180 rfl) rfl
theorem q3483 : (Jvm.Cond.castable "LazyForge$Update" "LazyForge$Part") ∈ lw_tbl := lw_at lw_m14 201 rfl
theorem q3494 : (Jvm.Cond.castable "LazyForge$Update" "java/lang/Object") ∈ lw_tbl := lw_at lw_m14 212 rfl
theorem in_X6 : ∀ w ∈ wsX60, w ∈ lw_all := lw_in wsX60 [267, 269, 271, 273, 275] (by decide +kernel) (by decide +kernel)

/-! LazyForge$Leave -/
set_option maxRecDepth 100000
def RX7 : String := "LazyForge$Leave"
def TX7 : u_T := fun k => match k with
  | 0 => ("LazyForge$Part", "parts", "I", false)
  | 1 => ("LazyForge$Part", "high", "I", false)
  | 2 => ("LazyForge$Part", "number", "I", false)
  | 3 => ("LazyForge$Part", "captured", "[I", false)
  | _ => ("LazyForge$Part", "in", "LLazyForge$Function;", false)
def tyX7 : Nat → FieldType := fun k => match k with
  | 0 => .int
  | 1 => .int
  | 2 => .int
  | 3 => .array .int
  | _ => .object "LazyForge$Function"
abbrev wsX70 : List Cond := u_ws RX7 TX7 5
theorem nmX7 : ∀ a, a < 5 → ∀ b, b < 5 → a ≠ b → (TX7 a).2.1 ≠ (TX7 b).2.1 := by decide +kernel
theorem tyX7_ok : ∀ k, k < 5 → parseFieldDescriptor (TX7 k).2.2.1 = some (tyX7 k) := by decide +kernel
abbrev cX7_init : ByteArray := prog_9_method_1_code
def yX7_init : MethodName := ⟨RX7, "<init>", "()V"⟩
abbrev cX7_step : ByteArray := prog_9_method_2_code
def yX7_step : MethodName := ⟨RX7, "step", "(LLazyForge$Machine;I)V"⟩
theorem q169 : (Jvm.Cond.initialized "LazyForge$Leave") ∈ lw_all := lw_g (lw_at lw_m1 7 rfl) rfl
theorem q279 : (Jvm.Cond.instantiable "LazyForge$Leave" (5 : Nat)) ∈ lw_all := lw_g (lw_at lw_m1 117 rfl) rfl
theorem q281 : (Jvm.Cond.instanceMethod ({ cls := "LazyForge$Leave", name := "<init>", desc := "()V" } : Jvm.MethodName)) ∈ lw_all := lw_g (lw_at lw_m1 119 rfl) rfl
theorem q282 : (Jvm.Cond.code ({ cls := "LazyForge$Leave", name := "<init>", desc := "()V" } : Jvm.MethodName) prog_9_method_1_code (1 : Nat) (Option.none : Option Jvm.ClassFile.FieldType)) ∈ lw_all := lw_g (lw_at lw_m1 120 rfl) rfl
theorem q283 : (Jvm.Cond.methodLinkNest "LazyForge$Leave" (1 : Nat) ({ cls := "LazyForge$Task", name := "<init>", desc := "()V" } : Jvm.MethodName) "LazyForge") ∈ lw_tbl := lw_at lw_m1 121 rfl
theorem q284 : (Jvm.Cond.lays "LazyForge$Leave" "LazyForge$Part" "parts" "I") ∈ lw_all := lw_g (lw_at lw_m1 122 rfl) rfl
theorem q285 : (Jvm.Cond.lays "LazyForge$Leave" "LazyForge$Part" "high" "I") ∈ lw_all := lw_g (lw_at lw_m1 123 rfl) rfl
theorem q286 : (Jvm.Cond.lays "LazyForge$Leave" "LazyForge$Part" "number" "I") ∈ lw_all := lw_g (lw_at lw_m1 124 rfl) rfl
theorem q287 : (Jvm.Cond.lays "LazyForge$Leave" "LazyForge$Part" "captured" "[I") ∈ lw_all := lw_g (lw_at lw_m1 125 rfl) rfl
theorem q288 : (Jvm.Cond.lays "LazyForge$Leave" "LazyForge$Part" "in" "LLazyForge$Function;") ∈ lw_all := lw_g (lw_at lw_m1 126 rfl) rfl
theorem q289 : (Jvm.Cond.superclass "LazyForge$Leave" "LazyForge$Task") ∈ lw_all := lw_g (lw_at lw_m1 127 rfl) rfl
theorem q1231 : (Jvm.Cond.selects "LazyForge$Leave" ({ cls := "java/lang/Object", name := "getClass", desc := "()Ljava/lang/Class;" } : Jvm.MethodName) ({ cls := "java/lang/Object", name := "getClass", desc := "()Ljava/lang/Class;" } : Jvm.MethodName)) ∈ lw_all := lw_g (lw_at lw_m5 109 rfl) rfl
theorem q1409 : (Jvm.Cond.selects "LazyForge$Leave" ({ cls := "java/lang/Object", name := "equals", desc := "(Ljava/lang/Object;)Z" } : Jvm.MethodName) ({ cls := "java/lang/Object", name := "equals", desc := "(Ljava/lang/Object;)Z" } : Jvm.MethodName)) ∈ lw_all := lw_g (lw_at lw_m6 47 rfl) rfl
theorem q1651 : (Jvm.Cond.selects "LazyForge$Leave" ({ cls := "LazyForge$Part", name := "least", desc := "([Z)Z" } : Jvm.MethodName) ({ cls := "LazyForge$Part", name := "least", desc := "([Z)Z" } : Jvm.MethodName)) ∈ lw_all := lw_g (lw_at lw_m7 49 rfl) rfl
theorem q1684 : (Jvm.Cond.selects "LazyForge$Leave" ({ cls := "LazyForge$Part", name := "clear", desc := "([Z)V" } : Jvm.MethodName) ({ cls := "LazyForge$Part", name := "clear", desc := "([Z)V" } : Jvm.MethodName)) ∈ lw_all := lw_g (lw_at lw_m7 82 rfl) rfl
theorem q1735 : (Jvm.Cond.selects "LazyForge$Leave" ({ cls := "LazyForge$Part", name := "bit", desc := "([Z)Z" } : Jvm.MethodName) ({ cls := "LazyForge$Task", name := "bit", desc := "([Z)Z" } : Jvm.MethodName)) ∈ lw_all := lw_g (lw_at lw_m7 133 rfl) rfl
theorem q1798 : (Jvm.Cond.selects "LazyForge$Leave" ({ cls := "LazyForge$Part", name := "uses", desc := "([Z)V" } : Jvm.MethodName) ({ cls := "LazyForge$Task", name := "uses", desc := "([Z)V" } : Jvm.MethodName)) ∈ lw_all := lw_g (lw_at lw_m7 196 rfl) rfl
theorem q1830 : (Jvm.Cond.selects "LazyForge$Leave" ({ cls := "LazyForge$Part", name := "bound", desc := "([Z)V" } : Jvm.MethodName) ({ cls := "LazyForge$Part", name := "bound", desc := "([Z)V" } : Jvm.MethodName)) ∈ lw_all := lw_g (lw_at lw_m7 228 rfl) rfl
theorem q1885 : (Jvm.Cond.selects "LazyForge$Leave" ({ cls := "LazyForge$Part", name := "prepare", desc := "(LLazyForge$Program;LLazyForge$Function;)V" } : Jvm.MethodName) ({ cls := "LazyForge$Task", name := "prepare", desc := "(LLazyForge$Program;LLazyForge$Function;)V" } : Jvm.MethodName)) ∈ lw_all := lw_g (lw_at lw_m8 43 rfl) rfl
theorem q2050 : (Jvm.Cond.selects "LazyForge$Leave" ({ cls := "LazyForge$Part", name := "write", desc := "(LLazyForge$Writer;)V" } : Jvm.MethodName) ({ cls := "LazyForge$Task", name := "write", desc := "(LLazyForge$Writer;)V" } : Jvm.MethodName)) ∈ lw_all := lw_g (lw_at lw_m8 208 rfl) rfl
theorem q2328 : (Jvm.Cond.selects "LazyForge$Leave" ({ cls := "LazyForge$Part", name := "keep", desc := "(LLazyForge$Machine;)J" } : Jvm.MethodName) ({ cls := "LazyForge$Task", name := "keep", desc := "(LLazyForge$Machine;)J" } : Jvm.MethodName)) ∈ lw_all := lw_g (lw_at lw_m10 6 rfl) rfl
theorem q2394 : (Jvm.Cond.selects "LazyForge$Leave" ({ cls := "LazyForge$Part", name := "step", desc := "(LLazyForge$Machine;I)V" } : Jvm.MethodName) ({ cls := "LazyForge$Leave", name := "step", desc := "(LLazyForge$Machine;I)V" } : Jvm.MethodName)) ∈ lw_all := lw_g (lw_at lw_m10 72 rfl) rfl
theorem q2395 : (Jvm.Cond.instanceMethod ({ cls := "LazyForge$Leave", name := "step", desc := "(LLazyForge$Machine;I)V" } : Jvm.MethodName)) ∈ lw_all := lw_g (lw_at lw_m10 73 rfl) rfl
theorem q2396 : (Jvm.Cond.code ({ cls := "LazyForge$Leave", name := "step", desc := "(LLazyForge$Machine;I)V" } : Jvm.MethodName) prog_9_method_2_code (3 : Nat) (Option.none : Option Jvm.ClassFile.FieldType)) ∈ lw_all := lw_g (lw_at lw_m10 74 rfl) rfl
theorem q2397 : (Jvm.Cond.methodLink "LazyForge$Leave" (7 : Nat) ({ cls := "LazyForge$Machine", name := "leave", desc := "()V" } : Jvm.MethodName)) ∈ lw_all := lw_g (lw_at lw_m10 75 rfl) rfl
theorem q3456 : (Jvm.Cond.selects "LazyForge$Leave" ({ cls := "LazyForge$Part", name := "mayWait", desc := "(LLazyForge$Program;LLazyForge$Function;)V" } : Jvm.MethodName) ({ cls := "LazyForge$Part", name := "mayWait", desc := "(LLazyForge$Program;LLazyForge$Function;)V" } : Jvm.MethodName)) ∈ lw_all := lw_g (lw_at lw_m14 174 rfl) rfl
theorem q3477 : (Jvm.Cond.castable "LazyForge$Leave" "LazyForge$Part") ∈ lw_tbl := lw_at lw_m14 195 rfl
theorem q3495 : (Jvm.Cond.castable "LazyForge$Leave" "java/lang/Object") ∈ lw_tbl := lw_at lw_m14 213 rfl
theorem in_X7 : ∀ w ∈ wsX70, w ∈ lw_all := lw_in wsX70 [284, 285, 286, 287, 288] (by decide +kernel) (by decide +kernel)

/-! LazyForge$Applied -/
set_option maxRecDepth 100000
def RX8 : String := "LazyForge$Applied"
def TX8 : u_T := fun k => match k with
  | 0 => ("LazyForge$Part", "parts", "I", false)
  | 1 => ("LazyForge$Part", "high", "I", false)
  | 2 => ("LazyForge$Part", "number", "I", false)
  | 3 => ("LazyForge$Part", "captured", "[I", false)
  | _ => ("LazyForge$Part", "in", "LLazyForge$Function;", false)
def tyX8 : Nat → FieldType := fun k => match k with
  | 0 => .int
  | 1 => .int
  | 2 => .int
  | 3 => .array .int
  | _ => .object "LazyForge$Function"
abbrev wsX80 : List Cond := u_ws RX8 TX8 5
theorem nmX8 : ∀ a, a < 5 → ∀ b, b < 5 → a ≠ b → (TX8 a).2.1 ≠ (TX8 b).2.1 := by decide +kernel
theorem tyX8_ok : ∀ k, k < 5 → parseFieldDescriptor (TX8 k).2.2.1 = some (tyX8 k) := by decide +kernel
abbrev cX8_init : ByteArray := prog_2_method_1_code
def yX8_init : MethodName := ⟨RX8, "<init>", "()V"⟩
abbrev cX8_step : ByteArray := prog_2_method_2_code
def yX8_step : MethodName := ⟨RX8, "step", "(LLazyForge$Machine;I)V"⟩
theorem q170 : (Jvm.Cond.initialized "LazyForge$Applied") ∈ lw_all := lw_g (lw_at lw_m1 8 rfl) rfl
theorem q291 : (Jvm.Cond.instantiable "LazyForge$Applied" (5 : Nat)) ∈ lw_all := lw_g (lw_at lw_m1 129 rfl) rfl
theorem q293 : (Jvm.Cond.instanceMethod ({ cls := "LazyForge$Applied", name := "<init>", desc := "()V" } : Jvm.MethodName)) ∈ lw_all := lw_g (lw_at lw_m1 131 rfl) rfl
theorem q294 : (Jvm.Cond.code ({ cls := "LazyForge$Applied", name := "<init>", desc := "()V" } : Jvm.MethodName) prog_2_method_1_code (1 : Nat) (Option.none : Option Jvm.ClassFile.FieldType)) ∈ lw_all := lw_g (lw_at lw_m1 132 rfl) rfl
theorem q295 : (Jvm.Cond.methodLinkNest "LazyForge$Applied" (1 : Nat) ({ cls := "LazyForge$Task", name := "<init>", desc := "()V" } : Jvm.MethodName) "LazyForge") ∈ lw_tbl := lw_at lw_m1 133 rfl
theorem q296 : (Jvm.Cond.lays "LazyForge$Applied" "LazyForge$Part" "parts" "I") ∈ lw_all := lw_g (lw_at lw_m1 134 rfl) rfl
theorem q297 : (Jvm.Cond.lays "LazyForge$Applied" "LazyForge$Part" "high" "I") ∈ lw_all := lw_g (lw_at lw_m1 135 rfl) rfl
theorem q298 : (Jvm.Cond.lays "LazyForge$Applied" "LazyForge$Part" "number" "I") ∈ lw_all := lw_g (lw_at lw_m1 136 rfl) rfl
theorem q299 : (Jvm.Cond.lays "LazyForge$Applied" "LazyForge$Part" "captured" "[I") ∈ lw_all := lw_g (lw_at lw_m1 137 rfl) rfl
theorem q300 : (Jvm.Cond.lays "LazyForge$Applied" "LazyForge$Part" "in" "LLazyForge$Function;") ∈ lw_all := lw_g (lw_at lw_m1 138 rfl) rfl
theorem q301 : (Jvm.Cond.superclass "LazyForge$Applied" "LazyForge$Task") ∈ lw_all := lw_g (lw_at lw_m1 139 rfl) rfl
theorem q1224 : (Jvm.Cond.selects "LazyForge$Applied" ({ cls := "java/lang/Object", name := "getClass", desc := "()Ljava/lang/Class;" } : Jvm.MethodName) ({ cls := "java/lang/Object", name := "getClass", desc := "()Ljava/lang/Class;" } : Jvm.MethodName)) ∈ lw_all := lw_g (lw_at lw_m5 102 rfl) rfl
theorem q1402 : (Jvm.Cond.selects "LazyForge$Applied" ({ cls := "java/lang/Object", name := "equals", desc := "(Ljava/lang/Object;)Z" } : Jvm.MethodName) ({ cls := "java/lang/Object", name := "equals", desc := "(Ljava/lang/Object;)Z" } : Jvm.MethodName)) ∈ lw_all := lw_g (lw_at lw_m6 40 rfl) rfl
theorem q1645 : (Jvm.Cond.selects "LazyForge$Applied" ({ cls := "LazyForge$Part", name := "least", desc := "([Z)Z" } : Jvm.MethodName) ({ cls := "LazyForge$Part", name := "least", desc := "([Z)Z" } : Jvm.MethodName)) ∈ lw_all := lw_g (lw_at lw_m7 43 rfl) rfl
theorem q1663 : (Jvm.Cond.selects "LazyForge$Applied" ({ cls := "LazyForge$Part", name := "clear", desc := "([Z)V" } : Jvm.MethodName) ({ cls := "LazyForge$Part", name := "clear", desc := "([Z)V" } : Jvm.MethodName)) ∈ lw_all := lw_g (lw_at lw_m7 61 rfl) rfl
theorem q1696 : (Jvm.Cond.selects "LazyForge$Applied" ({ cls := "LazyForge$Part", name := "bit", desc := "([Z)Z" } : Jvm.MethodName) ({ cls := "LazyForge$Task", name := "bit", desc := "([Z)Z" } : Jvm.MethodName)) ∈ lw_all := lw_g (lw_at lw_m7 94 rfl) rfl
theorem q1746 : (Jvm.Cond.selects "LazyForge$Applied" ({ cls := "LazyForge$Part", name := "prepare", desc := "(LLazyForge$Program;LLazyForge$Function;)V" } : Jvm.MethodName) ({ cls := "LazyForge$Task", name := "prepare", desc := "(LLazyForge$Program;LLazyForge$Function;)V" } : Jvm.MethodName)) ∈ lw_all := lw_g (lw_at lw_m7 144 rfl) rfl
theorem q1767 : (Jvm.Cond.selects "LazyForge$Applied" ({ cls := "LazyForge$Part", name := "uses", desc := "([Z)V" } : Jvm.MethodName) ({ cls := "LazyForge$Task", name := "uses", desc := "([Z)V" } : Jvm.MethodName)) ∈ lw_all := lw_g (lw_at lw_m7 165 rfl) rfl
theorem q1809 : (Jvm.Cond.selects "LazyForge$Applied" ({ cls := "LazyForge$Part", name := "bound", desc := "([Z)V" } : Jvm.MethodName) ({ cls := "LazyForge$Part", name := "bound", desc := "([Z)V" } : Jvm.MethodName)) ∈ lw_all := lw_g (lw_at lw_m7 207 rfl) rfl
theorem q1975 : (Jvm.Cond.selects "LazyForge$Applied" ({ cls := "LazyForge$Part", name := "write", desc := "(LLazyForge$Writer;)V" } : Jvm.MethodName) ({ cls := "LazyForge$Task", name := "write", desc := "(LLazyForge$Writer;)V" } : Jvm.MethodName)) ∈ lw_all := lw_g (lw_at lw_m8 133 rfl) rfl
theorem q2215 : (Jvm.Cond.selects "LazyForge$Applied" ({ cls := "LazyForge$Part", name := "step", desc := "(LLazyForge$Machine;I)V" } : Jvm.MethodName) ({ cls := "LazyForge$Applied", name := "step", desc := "(LLazyForge$Machine;I)V" } : Jvm.MethodName)) ∈ lw_all := lw_g (lw_at lw_m9 133 rfl) rfl
theorem q2216 : (Jvm.Cond.instanceMethod ({ cls := "LazyForge$Applied", name := "step", desc := "(LLazyForge$Machine;I)V" } : Jvm.MethodName)) ∈ lw_all := lw_g (lw_at lw_m9 134 rfl) rfl
theorem q2217 : (Jvm.Cond.code ({ cls := "LazyForge$Applied", name := "step", desc := "(LLazyForge$Machine;I)V" } : Jvm.MethodName) prog_2_method_2_code (3 : Nat) (Option.none : Option Jvm.ClassFile.FieldType)) ∈ lw_all := lw_g (lw_at lw_m9 135 rfl) rfl
theorem q2218 : (Jvm.Cond.methodLink "LazyForge$Applied" (7 : Nat) ({ cls := "LazyForge$Machine", name := "applyValue", desc := "(I)V" } : Jvm.MethodName)) ∈ lw_all := lw_g (lw_at lw_m9 136 rfl) rfl
theorem q2250 : (Jvm.Cond.selects "LazyForge$Applied" ({ cls := "LazyForge$Part", name := "keep", desc := "(LLazyForge$Machine;)J" } : Jvm.MethodName) ({ cls := "LazyForge$Task", name := "keep", desc := "(LLazyForge$Machine;)J" } : Jvm.MethodName)) ∈ lw_all := lw_g (lw_at lw_m9 168 rfl) rfl
theorem q3450 : (Jvm.Cond.selects "LazyForge$Applied" ({ cls := "LazyForge$Part", name := "mayWait", desc := "(LLazyForge$Program;LLazyForge$Function;)V" } : Jvm.MethodName) ({ cls := "LazyForge$Part", name := "mayWait", desc := "(LLazyForge$Program;LLazyForge$Function;)V" } : Jvm.MethodName)) ∈ lw_all := lw_g (lw_at lw_m14 168 rfl) rfl
theorem q3471 : (Jvm.Cond.castable "LazyForge$Applied" "LazyForge$Part") ∈ lw_tbl := lw_at lw_m14 189 rfl
theorem q3496 : (Jvm.Cond.castable "LazyForge$Applied" "java/lang/Object") ∈ lw_tbl := lw_at lw_m14 214 rfl
theorem in_X8 : ∀ w ∈ wsX80, w ∈ lw_all := lw_in wsX80 [296, 297, 298, 299, 300] (by decide +kernel) (by decide +kernel)

/-! LazyForge$Enter -/
set_option maxRecDepth 100000
def RX9 : String := "LazyForge$Enter"
def TX9 : u_T := fun k => match k with
  | 0 => ("LazyForge$Part", "parts", "I", false)
  | 1 => ("LazyForge$Part", "high", "I", false)
  | 2 => ("LazyForge$Part", "number", "I", false)
  | 3 => ("LazyForge$Part", "captured", "[I", false)
  | _ => ("LazyForge$Part", "in", "LLazyForge$Function;", false)
def tyX9 : Nat → FieldType := fun k => match k with
  | 0 => .int
  | 1 => .int
  | 2 => .int
  | 3 => .array .int
  | _ => .object "LazyForge$Function"
abbrev wsX90 : List Cond := u_ws RX9 TX9 5
theorem nmX9 : ∀ a, a < 5 → ∀ b, b < 5 → a ≠ b → (TX9 a).2.1 ≠ (TX9 b).2.1 := by decide +kernel
theorem tyX9_ok : ∀ k, k < 5 → parseFieldDescriptor (TX9 k).2.2.1 = some (tyX9 k) := by decide +kernel
abbrev cX9_init : ByteArray := prog_5_method_1_code
def yX9_init : MethodName := ⟨RX9, "<init>", "()V"⟩
abbrev cX9_step : ByteArray := prog_5_method_2_code
def yX9_step : MethodName := ⟨RX9, "step", "(LLazyForge$Machine;I)V"⟩
theorem q171 : (Jvm.Cond.initialized "LazyForge$Enter") ∈ lw_all := lw_g (lw_at lw_m1 9 rfl) rfl
theorem q303 : (Jvm.Cond.instantiable "LazyForge$Enter" (5 : Nat)) ∈ lw_all := lw_g (lw_at lw_m1 141 rfl) rfl
theorem q305 : (Jvm.Cond.instanceMethod ({ cls := "LazyForge$Enter", name := "<init>", desc := "()V" } : Jvm.MethodName)) ∈ lw_all := lw_g (lw_at lw_m1 143 rfl) rfl
theorem q306 : (Jvm.Cond.code ({ cls := "LazyForge$Enter", name := "<init>", desc := "()V" } : Jvm.MethodName) prog_5_method_1_code (1 : Nat) (Option.none : Option Jvm.ClassFile.FieldType)) ∈ lw_all := lw_g (lw_at lw_m1 144 rfl) rfl
theorem q307 : (Jvm.Cond.methodLinkNest "LazyForge$Enter" (1 : Nat) ({ cls := "LazyForge$Task", name := "<init>", desc := "()V" } : Jvm.MethodName) "LazyForge") ∈ lw_tbl := lw_at lw_m1 145 rfl
theorem q308 : (Jvm.Cond.lays "LazyForge$Enter" "LazyForge$Part" "parts" "I") ∈ lw_all := lw_g (lw_at lw_m1 146 rfl) rfl
theorem q309 : (Jvm.Cond.lays "LazyForge$Enter" "LazyForge$Part" "high" "I") ∈ lw_all := lw_g (lw_at lw_m1 147 rfl) rfl
theorem q310 : (Jvm.Cond.lays "LazyForge$Enter" "LazyForge$Part" "number" "I") ∈ lw_all := lw_g (lw_at lw_m1 148 rfl) rfl
theorem q311 : (Jvm.Cond.lays "LazyForge$Enter" "LazyForge$Part" "captured" "[I") ∈ lw_all := lw_g (lw_at lw_m1 149 rfl) rfl
theorem q312 : (Jvm.Cond.lays "LazyForge$Enter" "LazyForge$Part" "in" "LLazyForge$Function;") ∈ lw_all := lw_g (lw_at lw_m1 150 rfl) rfl
theorem q313 : (Jvm.Cond.superclass "LazyForge$Enter" "LazyForge$Task") ∈ lw_all := lw_g (lw_at lw_m1 151 rfl) rfl
theorem q334 : (Jvm.Cond.fieldLinkNest "LazyForge$Enter" (7 : Nat) "LazyForge$Machine" "cells" "[J" "LazyForge") ∈ lw_tbl := lw_at lw_m1 172 rfl
theorem q1227 : (Jvm.Cond.selects "LazyForge$Enter" ({ cls := "java/lang/Object", name := "getClass", desc := "()Ljava/lang/Class;" } : Jvm.MethodName) ({ cls := "java/lang/Object", name := "getClass", desc := "()Ljava/lang/Class;" } : Jvm.MethodName)) ∈ lw_all := lw_g (lw_at lw_m5 105 rfl) rfl
theorem q1405 : (Jvm.Cond.selects "LazyForge$Enter" ({ cls := "java/lang/Object", name := "equals", desc := "(Ljava/lang/Object;)Z" } : Jvm.MethodName) ({ cls := "java/lang/Object", name := "equals", desc := "(Ljava/lang/Object;)Z" } : Jvm.MethodName)) ∈ lw_all := lw_g (lw_at lw_m6 43 rfl) rfl
theorem q1648 : (Jvm.Cond.selects "LazyForge$Enter" ({ cls := "LazyForge$Part", name := "least", desc := "([Z)Z" } : Jvm.MethodName) ({ cls := "LazyForge$Part", name := "least", desc := "([Z)Z" } : Jvm.MethodName)) ∈ lw_all := lw_g (lw_at lw_m7 46 rfl) rfl
theorem q1681 : (Jvm.Cond.selects "LazyForge$Enter" ({ cls := "LazyForge$Part", name := "clear", desc := "([Z)V" } : Jvm.MethodName) ({ cls := "LazyForge$Part", name := "clear", desc := "([Z)V" } : Jvm.MethodName)) ∈ lw_all := lw_g (lw_at lw_m7 79 rfl) rfl
theorem q1732 : (Jvm.Cond.selects "LazyForge$Enter" ({ cls := "LazyForge$Part", name := "bit", desc := "([Z)Z" } : Jvm.MethodName) ({ cls := "LazyForge$Task", name := "bit", desc := "([Z)Z" } : Jvm.MethodName)) ∈ lw_all := lw_g (lw_at lw_m7 130 rfl) rfl
theorem q1795 : (Jvm.Cond.selects "LazyForge$Enter" ({ cls := "LazyForge$Part", name := "uses", desc := "([Z)V" } : Jvm.MethodName) ({ cls := "LazyForge$Task", name := "uses", desc := "([Z)V" } : Jvm.MethodName)) ∈ lw_all := lw_g (lw_at lw_m7 193 rfl) rfl
theorem q1827 : (Jvm.Cond.selects "LazyForge$Enter" ({ cls := "LazyForge$Part", name := "bound", desc := "([Z)V" } : Jvm.MethodName) ({ cls := "LazyForge$Part", name := "bound", desc := "([Z)V" } : Jvm.MethodName)) ∈ lw_all := lw_g (lw_at lw_m7 225 rfl) rfl
theorem q1882 : (Jvm.Cond.selects "LazyForge$Enter" ({ cls := "LazyForge$Part", name := "prepare", desc := "(LLazyForge$Program;LLazyForge$Function;)V" } : Jvm.MethodName) ({ cls := "LazyForge$Task", name := "prepare", desc := "(LLazyForge$Program;LLazyForge$Function;)V" } : Jvm.MethodName)) ∈ lw_all := lw_g (lw_at lw_m8 40 rfl) rfl
theorem q2047 : (Jvm.Cond.selects "LazyForge$Enter" ({ cls := "LazyForge$Part", name := "write", desc := "(LLazyForge$Writer;)V" } : Jvm.MethodName) ({ cls := "LazyForge$Task", name := "write", desc := "(LLazyForge$Writer;)V" } : Jvm.MethodName)) ∈ lw_all := lw_g (lw_at lw_m8 205 rfl) rfl
theorem q2325 : (Jvm.Cond.selects "LazyForge$Enter" ({ cls := "LazyForge$Part", name := "keep", desc := "(LLazyForge$Machine;)J" } : Jvm.MethodName) ({ cls := "LazyForge$Task", name := "keep", desc := "(LLazyForge$Machine;)J" } : Jvm.MethodName)) ∈ lw_all := lw_g (lw_at lw_m10 3 rfl) rfl
theorem q2368 : (Jvm.Cond.selects "LazyForge$Enter" ({ cls := "LazyForge$Part", name := "step", desc := "(LLazyForge$Machine;I)V" } : Jvm.MethodName) ({ cls := "LazyForge$Enter", name := "step", desc := "(LLazyForge$Machine;I)V" } : Jvm.MethodName)) ∈ lw_all := lw_g (lw_at lw_m10 46 rfl) rfl
theorem q2369 : (Jvm.Cond.instanceMethod ({ cls := "LazyForge$Enter", name := "step", desc := "(LLazyForge$Machine;I)V" } : Jvm.MethodName)) ∈ lw_all := lw_g (lw_at lw_m10 47 rfl) rfl
theorem q2370 : (Jvm.Cond.code ({ cls := "LazyForge$Enter", name := "step", desc := "(LLazyForge$Machine;I)V" } : Jvm.MethodName) prog_5_method_2_code (3 : Nat) (Option.none : Option Jvm.ClassFile.FieldType)) ∈ lw_all := lw_g (lw_at lw_m10 48 rfl) rfl
theorem q2371 : (Jvm.Cond.methodLink "LazyForge$Enter" (13 : Nat) ({ cls := "LazyForge$Machine", name := "enter", desc := "(J)V" } : Jvm.MethodName)) ∈ lw_all := lw_g (lw_at lw_m10 49 rfl) rfl
theorem q3453 : (Jvm.Cond.selects "LazyForge$Enter" ({ cls := "LazyForge$Part", name := "mayWait", desc := "(LLazyForge$Program;LLazyForge$Function;)V" } : Jvm.MethodName) ({ cls := "LazyForge$Part", name := "mayWait", desc := "(LLazyForge$Program;LLazyForge$Function;)V" } : Jvm.MethodName)) ∈ lw_all := lw_g (lw_at lw_m14 171 rfl) rfl
theorem q3474 : (Jvm.Cond.castable "LazyForge$Enter" "LazyForge$Part") ∈ lw_tbl := lw_at lw_m14 192 rfl
theorem q3497 : (Jvm.Cond.castable "LazyForge$Enter" "java/lang/Object") ∈ lw_tbl := lw_at lw_m14 215 rfl
theorem in_X9 : ∀ w ∈ wsX90, w ∈ lw_all := lw_in wsX90 [308, 309, 310, 311, 312] (by decide +kernel) (by decide +kernel)

/-! LazyForge$Force -/
set_option maxRecDepth 100000
def RX10 : String := "LazyForge$Force"
def TX10 : u_T := fun k => match k with
  | 0 => ("LazyForge$Part", "parts", "I", false)
  | 1 => ("LazyForge$Part", "high", "I", false)
  | 2 => ("LazyForge$Part", "number", "I", false)
  | 3 => ("LazyForge$Part", "captured", "[I", false)
  | _ => ("LazyForge$Part", "in", "LLazyForge$Function;", false)
def tyX10 : Nat → FieldType := fun k => match k with
  | 0 => .int
  | 1 => .int
  | 2 => .int
  | 3 => .array .int
  | _ => .object "LazyForge$Function"
abbrev wsX100 : List Cond := u_ws RX10 TX10 5
theorem nmX10 : ∀ a, a < 5 → ∀ b, b < 5 → a ≠ b → (TX10 a).2.1 ≠ (TX10 b).2.1 := by decide +kernel
theorem tyX10_ok : ∀ k, k < 5 → parseFieldDescriptor (TX10 k).2.2.1 = some (tyX10 k) := by decide +kernel
abbrev cX10_init : ByteArray := prog_7_method_1_code
def yX10_init : MethodName := ⟨RX10, "<init>", "()V"⟩
abbrev cX10_step : ByteArray := prog_7_method_2_code
def yX10_step : MethodName := ⟨RX10, "step", "(LLazyForge$Machine;I)V"⟩
theorem q172 : (Jvm.Cond.initialized "LazyForge$Force") ∈ lw_all := lw_g (lw_at lw_m1 10 rfl) rfl
theorem q315 : (Jvm.Cond.instantiable "LazyForge$Force" (5 : Nat)) ∈ lw_all := lw_g (lw_at lw_m1 153 rfl) rfl
theorem q317 : (Jvm.Cond.instanceMethod ({ cls := "LazyForge$Force", name := "<init>", desc := "()V" } : Jvm.MethodName)) ∈ lw_all := lw_g (lw_at lw_m1 155 rfl) rfl
theorem q318 : (Jvm.Cond.code ({ cls := "LazyForge$Force", name := "<init>", desc := "()V" } : Jvm.MethodName) prog_7_method_1_code (1 : Nat) (Option.none : Option Jvm.ClassFile.FieldType)) ∈ lw_all := lw_g (lw_at lw_m1 156 rfl) rfl
theorem q319 : (Jvm.Cond.methodLinkNest "LazyForge$Force" (1 : Nat) ({ cls := "LazyForge$Task", name := "<init>", desc := "()V" } : Jvm.MethodName) "LazyForge") ∈ lw_tbl := lw_at lw_m1 157 rfl
theorem q320 : (Jvm.Cond.lays "LazyForge$Force" "LazyForge$Part" "parts" "I") ∈ lw_all := lw_g (lw_at lw_m1 158 rfl) rfl
theorem q321 : (Jvm.Cond.lays "LazyForge$Force" "LazyForge$Part" "high" "I") ∈ lw_all := lw_g (lw_at lw_m1 159 rfl) rfl
theorem q322 : (Jvm.Cond.lays "LazyForge$Force" "LazyForge$Part" "number" "I") ∈ lw_all := lw_g (lw_at lw_m1 160 rfl) rfl
theorem q323 : (Jvm.Cond.lays "LazyForge$Force" "LazyForge$Part" "captured" "[I") ∈ lw_all := lw_g (lw_at lw_m1 161 rfl) rfl
theorem q324 : (Jvm.Cond.lays "LazyForge$Force" "LazyForge$Part" "in" "LLazyForge$Function;") ∈ lw_all := lw_g (lw_at lw_m1 162 rfl) rfl
theorem q325 : (Jvm.Cond.superclass "LazyForge$Force" "LazyForge$Task") ∈ lw_all := lw_g (lw_at lw_m1 163 rfl) rfl
theorem q1229 : (Jvm.Cond.selects "LazyForge$Force" ({ cls := "java/lang/Object", name := "getClass", desc := "()Ljava/lang/Class;" } : Jvm.MethodName) ({ cls := "java/lang/Object", name := "getClass", desc := "()Ljava/lang/Class;" } : Jvm.MethodName)) ∈ lw_all := lw_g (lw_at lw_m5 107 rfl) rfl
theorem q1407 : (Jvm.Cond.selects "LazyForge$Force" ({ cls := "java/lang/Object", name := "equals", desc := "(Ljava/lang/Object;)Z" } : Jvm.MethodName) ({ cls := "java/lang/Object", name := "equals", desc := "(Ljava/lang/Object;)Z" } : Jvm.MethodName)) ∈ lw_all := lw_g (lw_at lw_m6 45 rfl) rfl
theorem q1650 : (Jvm.Cond.selects "LazyForge$Force" ({ cls := "LazyForge$Part", name := "least", desc := "([Z)Z" } : Jvm.MethodName) ({ cls := "LazyForge$Part", name := "least", desc := "([Z)Z" } : Jvm.MethodName)) ∈ lw_all := lw_g (lw_at lw_m7 48 rfl) rfl
theorem q1683 : (Jvm.Cond.selects "LazyForge$Force" ({ cls := "LazyForge$Part", name := "clear", desc := "([Z)V" } : Jvm.MethodName) ({ cls := "LazyForge$Part", name := "clear", desc := "([Z)V" } : Jvm.MethodName)) ∈ lw_all := lw_g (lw_at lw_m7 81 rfl) rfl
theorem q1734 : (Jvm.Cond.selects "LazyForge$Force" ({ cls := "LazyForge$Part", name := "bit", desc := "([Z)Z" } : Jvm.MethodName) ({ cls := "LazyForge$Task", name := "bit", desc := "([Z)Z" } : Jvm.MethodName)) ∈ lw_all := lw_g (lw_at lw_m7 132 rfl) rfl
theorem q1797 : (Jvm.Cond.selects "LazyForge$Force" ({ cls := "LazyForge$Part", name := "uses", desc := "([Z)V" } : Jvm.MethodName) ({ cls := "LazyForge$Task", name := "uses", desc := "([Z)V" } : Jvm.MethodName)) ∈ lw_all := lw_g (lw_at lw_m7 195 rfl) rfl
theorem q1829 : (Jvm.Cond.selects "LazyForge$Force" ({ cls := "LazyForge$Part", name := "bound", desc := "([Z)V" } : Jvm.MethodName) ({ cls := "LazyForge$Part", name := "bound", desc := "([Z)V" } : Jvm.MethodName)) ∈ lw_all := lw_g (lw_at lw_m7 227 rfl) rfl
theorem q1884 : (Jvm.Cond.selects "LazyForge$Force" ({ cls := "LazyForge$Part", name := "prepare", desc := "(LLazyForge$Program;LLazyForge$Function;)V" } : Jvm.MethodName) ({ cls := "LazyForge$Task", name := "prepare", desc := "(LLazyForge$Program;LLazyForge$Function;)V" } : Jvm.MethodName)) ∈ lw_all := lw_g (lw_at lw_m8 42 rfl) rfl
theorem q2049 : (Jvm.Cond.selects "LazyForge$Force" ({ cls := "LazyForge$Part", name := "write", desc := "(LLazyForge$Writer;)V" } : Jvm.MethodName) ({ cls := "LazyForge$Task", name := "write", desc := "(LLazyForge$Writer;)V" } : Jvm.MethodName)) ∈ lw_all := lw_g (lw_at lw_m8 207 rfl) rfl
theorem q2327 : (Jvm.Cond.selects "LazyForge$Force" ({ cls := "LazyForge$Part", name := "keep", desc := "(LLazyForge$Machine;)J" } : Jvm.MethodName) ({ cls := "LazyForge$Task", name := "keep", desc := "(LLazyForge$Machine;)J" } : Jvm.MethodName)) ∈ lw_all := lw_g (lw_at lw_m10 5 rfl) rfl
theorem q2376 : (Jvm.Cond.selects "LazyForge$Force" ({ cls := "LazyForge$Part", name := "step", desc := "(LLazyForge$Machine;I)V" } : Jvm.MethodName) ({ cls := "LazyForge$Force", name := "step", desc := "(LLazyForge$Machine;I)V" } : Jvm.MethodName)) ∈ lw_all := lw_g (lw_at lw_m10 54 rfl) rfl
theorem q2377 : (Jvm.Cond.instanceMethod ({ cls := "LazyForge$Force", name := "step", desc := "(LLazyForge$Machine;I)V" } : Jvm.MethodName)) ∈ lw_all := lw_g (lw_at lw_m10 55 rfl) rfl
theorem q2378 : (Jvm.Cond.code ({ cls := "LazyForge$Force", name := "step", desc := "(LLazyForge$Machine;I)V" } : Jvm.MethodName) prog_7_method_2_code (3 : Nat) (Option.none : Option Jvm.ClassFile.FieldType)) ∈ lw_all := lw_g (lw_at lw_m10 56 rfl) rfl
theorem q2379 : (Jvm.Cond.methodLink "LazyForge$Force" (7 : Nat) ({ cls := "LazyForge$Machine", name := "force", desc := "()V" } : Jvm.MethodName)) ∈ lw_all := lw_g (lw_at lw_m10 57 rfl) rfl
theorem q3455 : (Jvm.Cond.selects "LazyForge$Force" ({ cls := "LazyForge$Part", name := "mayWait", desc := "(LLazyForge$Program;LLazyForge$Function;)V" } : Jvm.MethodName) ({ cls := "LazyForge$Part", name := "mayWait", desc := "(LLazyForge$Program;LLazyForge$Function;)V" } : Jvm.MethodName)) ∈ lw_all := lw_g (lw_at lw_m14 173 rfl) rfl
theorem q3476 : (Jvm.Cond.castable "LazyForge$Force" "LazyForge$Part") ∈ lw_tbl := lw_at lw_m14 194 rfl
theorem q3498 : (Jvm.Cond.castable "LazyForge$Force" "java/lang/Object") ∈ lw_tbl := lw_at lw_m14 216 rfl
theorem in_X10 : ∀ w ∈ wsX100, w ∈ lw_all := lw_in wsX100 [320, 321, 322, 323, 324] (by decide +kernel) (by decide +kernel)

/-! LazyForgeModel -/
set_option maxRecDepth 100000
def RX11 : String := "LazyForgeModel"
def TX11 : u_T := fun k => match k with
  | 0 => ("LazyForgeModel", "thrown", "I", false)
  | 1 => ("LazyForgeModel", "text", "[I", true)
  | 2 => ("LazyForgeModel", "size", "I", false)
  | 3 => ("LazyForgeModel", "out", "[I", true)
  | 4 => ("LazyForgeModel", "outSize", "I", false)
  | 5 => ("LazyForgeModel", "at", "I", false)
  | 6 => ("LazyForgeModel", "word", "I", false)
  | 7 => ("LazyForgeModel", "wordPlace", "I", false)
  | 8 => ("LazyForgeModel", "wordName", "J", false)
  | 9 => ("LazyForgeModel", "wordNumber", "I", false)
  | 10 => ("LazyForgeModel", "fault", "I", false)
  | 11 => ("LazyForgeModel", "faultPlace", "I", false)
  | 12 => ("LazyForgeModel", "nodes", "I", false)
  | 13 => ("LazyForgeModel", "kinds", "[I", true)
  | 14 => ("LazyForgeModel", "firsts", "[I", true)
  | 15 => ("LazyForgeModel", "seconds", "[I", true)
  | 16 => ("LazyForgeModel", "nexts", "[I", true)
  | 17 => ("LazyForgeModel", "places", "[I", true)
  | 18 => ("LazyForgeModel", "values", "[I", true)
  | 19 => ("LazyForgeModel", "sorts", "[I", true)
  | 20 => ("LazyForgeModel", "nodeNames", "[J", true)
  | 21 => ("LazyForgeModel", "giveBegins", "[I", true)
  | 22 => ("LazyForgeModel", "giveCounts", "[I", true)
  | 23 => ("LazyForgeModel", "gives", "I", false)
  | 24 => ("LazyForgeModel", "given", "[J", true)
  | 25 => ("LazyForgeModel", "parts", "I", false)
  | 26 => ("LazyForgeModel", "allParts", "I", false)
  | 27 => ("LazyForgeModel", "functions", "I", false)
  | 28 => ("LazyForgeModel", "functionNames", "[J", true)
  | 29 => ("LazyForgeModel", "functionPlaces", "[I", true)
  | 30 => ("LazyForgeModel", "functionNodes", "[I", true)
  | 31 => ("LazyForgeModel", "constructors", "I", false)
  | 32 => ("LazyForgeModel", "constructorNames", "[J", true)
  | 33 => ("LazyForgeModel", "fieldCounts", "[I", true)
  | 34 => ("LazyForgeModel", "open", "I", false)
  | 35 => ("LazyForgeModel", "piled", "I", false)
  | 36 => ("LazyForgeModel", "pileKinds", "[I", true)
  | 37 => ("LazyForgeModel", "pileNodes", "[I", true)
  | 38 => ("LazyForgeModel", "pileRanks", "[I", true)
  | 39 => ("LazyForgeModel", "pileCounts", "[I", true)
  | 40 => ("LazyForgeModel", "operands", "I", false)
  | 41 => ("LazyForgeModel", "operandNodes", "[I", true)
  | 42 => ("LazyForgeModel", "startsE", "Z", false)
  | 43 => ("LazyForgeModel", "wants", "Z", false)
  | 44 => ("LazyForgeModel", "isApplied", "Z", false)
  | 45 => ("LazyForgeModel", "isEnded", "Z", false)
  | 46 => ("LazyForgeModel", "named", "I", false)
  | 47 => ("LazyForgeModel", "functionOf", "[I", true)
  | 48 => ("LazyForgeModel", "freeCounts", "[I", true)
  | 49 => ("LazyForgeModel", "frees", "[I", true)
  | 50 => ("LazyForgeModel", "variables", "I", false)
  | 51 => ("LazyForgeModel", "homes", "[I", true)
  | 52 => ("LazyForgeModel", "owns", "[I", true)
  | 53 => ("LazyForgeModel", "ownCounts", "[I", true)
  | 54 => ("LazyForgeModel", "firstVariables", "[I", true)
  | 55 => ("LazyForgeModel", "seen", "I", false)
  | 56 => ("LazyForgeModel", "seenNames", "[J", true)
  | 57 => ("LazyForgeModel", "seenVariables", "[I", true)
  | 58 => ("LazyForgeModel", "around", "I", false)
  | 59 => ("LazyForgeModel", "arounds", "[I", true)
  | 60 => ("LazyForgeModel", "walk", "[I", true)
  | 61 => ("LazyForgeModel", "walkStages", "[I", true)
  | 62 => ("LazyForgeModel", "walkChildren", "[I", true)
  | 63 => ("LazyForgeModel", "lifted", "I", false)
  | 64 => ("LazyForgeModel", "liftKinds", "[I", true)
  | 65 => ("LazyForgeModel", "liftValues", "[I", true)
  | 66 => ("LazyForgeModel", "liftBegins", "[I", true)
  | 67 => ("LazyForgeModel", "liftCounts", "[I", true)
  | 68 => ("LazyForgeModel", "liftVariables", "[I", true)
  | 69 => ("LazyForgeModel", "liftNeeds", "[Z", true)
  | 70 => ("LazyForgeModel", "heights", "[I", true)
  | 71 => ("LazyForgeModel", "liftFunctions", "[I", true)
  | 72 => ("LazyForgeModel", "outside", "[J", true)
  | 73 => ("LazyForgeModel", "childTop", "I", false)
  | 74 => ("LazyForgeModel", "liftChildren", "[I", true)
  | 75 => ("LazyForgeModel", "branchSorts", "[I", true)
  | 76 => ("LazyForgeModel", "branchValues", "[I", true)
  | 77 => ("LazyForgeModel", "branchVariables", "[I", true)
  | 78 => ("LazyForgeModel", "branchCounts", "[I", true)
  | 79 => ("LazyForgeModel", "begins", "[I", true)
  | 80 => ("LazyForgeModel", "roots", "[I", true)
  | 81 => ("LazyForgeModel", "variableCounts", "[I", true)
  | 82 => ("LazyForgeModel", "parameterCounts", "[I", true)
  | 83 => ("LazyForgeModel", "held", "I", false)
  | 84 => ("LazyForgeModel", "heldNodes", "[I", true)
  | 85 => ("LazyForgeModel", "tables", "[Z", true)
  | 86 => ("LazyForgeModel", "bitOf", "[Z", true)
  | 87 => ("LazyForgeModel", "has", "[Z", true)
  | 88 => ("LazyForgeModel", "hasProgram", "Z", false)
  | 89 => ("LazyForgeModel", "lastFault", "I", false)
  | 90 => ("LazyForgeModel", "lastPlace", "I", false)
  | 91 => ("LazyForgeModel", "needed", "[Z", true)
  | 92 => ("LazyForgeModel", "cellSorts", "[I", true)
  | 93 => ("LazyForgeModel", "cellValues", "[I", true)
  | 94 => ("LazyForgeModel", "cellDone", "[J", true)
  | 95 => ("LazyForgeModel", "cellBegins", "[I", true)
  | 96 => ("LazyForgeModel", "cellCounts", "[I", true)
  | 97 => ("LazyForgeModel", "cellsMade", "I", false)
  | 98 => ("LazyForgeModel", "fieldTop", "I", false)
  | 99 => ("LazyForgeModel", "fields", "[J", true)
  | 100 => ("LazyForgeModel", "cells", "I", false)
  | 101 => ("LazyForgeModel", "allCells", "I", false)
  | 102 => ("LazyForgeModel", "allCalls", "I", false)
  | 103 => ("LazyForgeModel", "callsLeft", "I", false)
  | 104 => ("LazyForgeModel", "calls", "I", false)
  | 105 => ("LazyForgeModel", "suspensions", "I", false)
  | 106 => ("LazyForgeModel", "partials", "I", false)
  | 107 => ("LazyForgeModel", "objects", "I", false)
  | 108 => ("LazyForgeModel", "updates", "I", false)
  | 109 => ("LazyForgeModel", "atOnce", "I", false)
  | 110 => ("LazyForgeModel", "calledCounts", "[I", true)
  | 111 => ("LazyForgeModel", "how", "I", false)
  | 112 => ("LazyForgeModel", "why", "I", false)
  | 113 => ("LazyForgeModel", "rowCounted", "I", false)
  | 114 => ("LazyForgeModel", "row", "[I", true)
  | 115 => ("LazyForgeModel", "eager", "Z", false)
  | 116 => ("LazyForgeModel", "waiting", "I", false)
  | 117 => ("LazyForgeModel", "waitKinds", "[I", true)
  | 118 => ("LazyForgeModel", "waitBases", "[I", true)
  | 119 => ("LazyForgeModel", "waitMore", "[I", true)
  | 120 => ("LazyForgeModel", "top", "I", false)
  | 121 => ("LazyForgeModel", "stack", "[J", true)
  | 122 => ("LazyForgeModel", "base", "I", false)
  | 123 => ("LazyForgeModel", "localTop", "I", false)
  | 124 => ("LazyForgeModel", "locals", "[J", true)
  | 125 => ("LazyForgeModel", "current", "I", false)
  | 126 => ("LazyForgeModel", "has0", "Z", false)
  | 127 => ("LazyForgeModel", "result", "J", false)
  | 128 => ("LazyForgeModel", "tasks", "I", false)
  | 129 => ("LazyForgeModel", "taskParts", "[I", true)
  | 130 => ("LazyForgeModel", "taskPlaces", "[I", true)
  | 131 => ("LazyForgeModel", "functionCells", "[I", true)
  | 132 => ("LazyForgeModel", "pending", "I", false)
  | 133 => ("LazyForgeModel", "pendings", "[J", true)
  | 134 => ("LazyForgeModel", "drafted", "I", false)
  | _ => ("LazyForgeModel", "draft", "[I", true)
def tyX11 : Nat → FieldType := fun k => match k with
  | 0 => .int
  | 1 => .array .int
  | 2 => .int
  | 3 => .array .int
  | 4 => .int
  | 5 => .int
  | 6 => .int
  | 7 => .int
  | 8 => .long
  | 9 => .int
  | 10 => .int
  | 11 => .int
  | 12 => .int
  | 13 => .array .int
  | 14 => .array .int
  | 15 => .array .int
  | 16 => .array .int
  | 17 => .array .int
  | 18 => .array .int
  | 19 => .array .int
  | 20 => .array .long
  | 21 => .array .int
  | 22 => .array .int
  | 23 => .int
  | 24 => .array .long
  | 25 => .int
  | 26 => .int
  | 27 => .int
  | 28 => .array .long
  | 29 => .array .int
  | 30 => .array .int
  | 31 => .int
  | 32 => .array .long
  | 33 => .array .int
  | 34 => .int
  | 35 => .int
  | 36 => .array .int
  | 37 => .array .int
  | 38 => .array .int
  | 39 => .array .int
  | 40 => .int
  | 41 => .array .int
  | 42 => .boolean
  | 43 => .boolean
  | 44 => .boolean
  | 45 => .boolean
  | 46 => .int
  | 47 => .array .int
  | 48 => .array .int
  | 49 => .array .int
  | 50 => .int
  | 51 => .array .int
  | 52 => .array .int
  | 53 => .array .int
  | 54 => .array .int
  | 55 => .int
  | 56 => .array .long
  | 57 => .array .int
  | 58 => .int
  | 59 => .array .int
  | 60 => .array .int
  | 61 => .array .int
  | 62 => .array .int
  | 63 => .int
  | 64 => .array .int
  | 65 => .array .int
  | 66 => .array .int
  | 67 => .array .int
  | 68 => .array .int
  | 69 => .array .boolean
  | 70 => .array .int
  | 71 => .array .int
  | 72 => .array .long
  | 73 => .int
  | 74 => .array .int
  | 75 => .array .int
  | 76 => .array .int
  | 77 => .array .int
  | 78 => .array .int
  | 79 => .array .int
  | 80 => .array .int
  | 81 => .array .int
  | 82 => .array .int
  | 83 => .int
  | 84 => .array .int
  | 85 => .array .boolean
  | 86 => .array .boolean
  | 87 => .array .boolean
  | 88 => .boolean
  | 89 => .int
  | 90 => .int
  | 91 => .array .boolean
  | 92 => .array .int
  | 93 => .array .int
  | 94 => .array .long
  | 95 => .array .int
  | 96 => .array .int
  | 97 => .int
  | 98 => .int
  | 99 => .array .long
  | 100 => .int
  | 101 => .int
  | 102 => .int
  | 103 => .int
  | 104 => .int
  | 105 => .int
  | 106 => .int
  | 107 => .int
  | 108 => .int
  | 109 => .int
  | 110 => .array .int
  | 111 => .int
  | 112 => .int
  | 113 => .int
  | 114 => .array .int
  | 115 => .boolean
  | 116 => .int
  | 117 => .array .int
  | 118 => .array .int
  | 119 => .array .int
  | 120 => .int
  | 121 => .array .long
  | 122 => .int
  | 123 => .int
  | 124 => .array .long
  | 125 => .int
  | 126 => .boolean
  | 127 => .long
  | 128 => .int
  | 129 => .array .int
  | 130 => .array .int
  | 131 => .array .int
  | 132 => .int
  | 133 => .array .long
  | 134 => .int
  | _ => .array .int
abbrev wsX110 : List Cond := u_ws RX11 TX11 136
set_option maxRecDepth 100000 in
theorem nmX11 : ∀ a, a < 136 → ∀ b, b < 136 → a ≠ b → (TX11 a).2.1 ≠ (TX11 b).2.1 := by decide +kernel
set_option maxRecDepth 100000 in
theorem tyX11_ok : ∀ k, k < 136 → parseFieldDescriptor (TX11 k).2.2.1 = some (tyX11 k) := by decide +kernel
abbrev cX11_init : ByteArray := prog_27_method_1_code
def yX11_init : MethodName := ⟨RX11, "<init>", "()V"⟩
abbrev cX11_thrown : ByteArray := prog_27_method_2_code
def yX11_thrown : MethodName := ⟨RX11, "thrown", "()I"⟩
abbrev cX11_program : ByteArray := prog_27_method_80_code
def yX11_program : MethodName := ⟨RX11, "program", "()I"⟩
abbrev cX11_clearRun : ByteArray := prog_27_method_109_code
def yX11_clearRun : MethodName := ⟨RX11, "clearRun", "()V"⟩
abbrev cX11_readProgram : ByteArray := prog_27_method_49_code
def yX11_readProgram : MethodName := ⟨RX11, "readProgram", "()V"⟩
abbrev cX11_pack : ByteArray := prog_27_method_7_code
def yX11_pack : MethodName := ⟨RX11, "pack", "(IIIII)J"⟩
abbrev cX11_next : ByteArray := prog_27_method_12_code
def yX11_next : MethodName := ⟨RX11, "next", "()V"⟩
abbrev cX11_passBlanks : ByteArray := prog_27_method_9_code
def yX11_passBlanks : MethodName := ⟨RX11, "passBlanks", "()V"⟩
abbrev cX11_sign : ByteArray := prog_27_method_3_code
def yX11_sign : MethodName := ⟨RX11, "sign", "(I)I"⟩
abbrev cX11_isSmall : ByteArray := prog_27_method_5_code
def yX11_isSmall : MethodName := ⟨RX11, "isSmall", "(I)Z"⟩
abbrev cX11_isCapital : ByteArray := prog_27_method_6_code
def yX11_isCapital : MethodName := ⟨RX11, "isCapital", "(I)Z"⟩
abbrev cX11_readName : ByteArray := prog_27_method_10_code
def yX11_readName : MethodName := ⟨RX11, "readName", "(Z)V"⟩
abbrev cX11_isDigit : ByteArray := prog_27_method_4_code
def yX11_isDigit : MethodName := ⟨RX11, "isDigit", "(I)Z"⟩
abbrev cX11_keyword : ByteArray := prog_27_method_8_code
def yX11_keyword : MethodName := ⟨RX11, "keyword", "(J)I"⟩
abbrev cX11_readNumber : ByteArray := prog_27_method_11_code
def yX11_readNumber : MethodName := ⟨RX11, "readNumber", "()V"⟩
abbrev cX11_readData : ByteArray := prog_27_method_47_code
def yX11_readData : MethodName := ⟨RX11, "readData", "()V"⟩
abbrev cX11_findConstructor : ByteArray := prog_27_method_24_code
def yX11_findConstructor : MethodName := ⟨RX11, "findConstructor", "(J)I"⟩
abbrev cX11_fail : ByteArray := prog_27_method_14_code
def yX11_fail : MethodName := ⟨RX11, "fail", "(II)V"⟩
abbrev cX11_accept : ByteArray := prog_27_method_16_code
def yX11_accept : MethodName := ⟨RX11, "accept", "(Z)V"⟩
abbrev cX11_wrong : ByteArray := prog_27_method_15_code
def yX11_wrong : MethodName := ⟨RX11, "wrong", "()V"⟩
abbrev cX11_isSign : ByteArray := prog_27_method_13_code
def yX11_isSign : MethodName := ⟨RX11, "isSign", "(I)Z"⟩
abbrev cX11_readFunction : ByteArray := prog_27_method_48_code
def yX11_readFunction : MethodName := ⟨RX11, "readFunction", "()V"⟩
abbrev cX11_node : ByteArray := prog_27_method_17_code
def yX11_node : MethodName := ⟨RX11, "node", "(I)I"⟩
abbrev cX11_parameters : ByteArray := prog_27_method_27_code
def yX11_parameters : MethodName := ⟨RX11, "parameters", "(II)V"⟩
abbrev cX11_isGiven : ByteArray := prog_27_method_25_code
def yX11_isGiven : MethodName := ⟨RX11, "isGiven", "(IJ)Z"⟩
abbrev cX11_part : ByteArray := prog_27_method_18_code
def yX11_part : MethodName := ⟨RX11, "part", "()Z"⟩
abbrev cX11_giveName : ByteArray := prog_27_method_26_code
def yX11_giveName : MethodName := ⟨RX11, "giveName", "(IJ)V"⟩
abbrev cX11_readE : ByteArray := prog_27_method_45_code
def yX11_readE : MethodName := ⟨RX11, "readE", "(I)V"⟩
abbrev cX11_pile : ByteArray := prog_27_method_20_code
def yX11_pile : MethodName := ⟨RX11, "pile", "(III)V"⟩
abbrev cX11_wantE : ByteArray := prog_27_method_46_code
def yX11_wantE : MethodName := ⟨RX11, "wantE", "()V"⟩
abbrev cX11_begins : ByteArray := prog_27_method_28_code
def yX11_begins : MethodName := ⟨RX11, "begins", "()Z"⟩
abbrev cX11_opens : ByteArray := prog_27_method_19_code
def yX11_opens : MethodName := ⟨RX11, "opens", "()V"⟩
abbrev cX11_binding : ByteArray := prog_27_method_29_code
def yX11_binding : MethodName := ⟨RX11, "binding", "(I)V"⟩
abbrev cX11_append : ByteArray := prog_27_method_23_code
def yX11_append : MethodName := ⟨RX11, "append", "(II)V"⟩
abbrev cX11_application : ByteArray := prog_27_method_32_code
def yX11_application : MethodName := ⟨RX11, "application", "()Z"⟩
abbrev cX11_field : ByteArray := prog_27_method_35_code
def yX11_field : MethodName := ⟨RX11, "field", "(I)Z"⟩
abbrev cX11_judgeAtom : ByteArray := prog_27_method_34_code
def yX11_judgeAtom : MethodName := ⟨RX11, "judgeAtom", "()V"⟩
abbrev cX11_tooDeep : ByteArray := prog_27_method_33_code
def yX11_tooDeep : MethodName := ⟨RX11, "tooDeep", "()V"⟩
abbrev cX11_isAtom : ByteArray := prog_27_method_30_code
def yX11_isAtom : MethodName := ⟨RX11, "isAtom", "()Z"⟩
abbrev cX11_atom : ByteArray := prog_27_method_31_code
def yX11_atom : MethodName := ⟨RX11, "atom", "()Z"⟩
abbrev cX11_operand : ByteArray := prog_27_method_21_code
def yX11_operand : MethodName := ⟨RX11, "operand", "(I)V"⟩
abbrev cX11_atomEnds : ByteArray := prog_27_method_36_code
def yX11_atomEnds : MethodName := ⟨RX11, "atomEnds", "()V"⟩
abbrev cX11_taken : ByteArray := prog_27_method_22_code
def yX11_taken : MethodName := ⟨RX11, "taken", "()I"⟩
abbrev cX11_rank : ByteArray := prog_27_method_37_code
def yX11_rank : MethodName := ⟨RX11, "rank", "(I)I"⟩
abbrev cX11_signE : ByteArray := prog_27_method_39_code
def yX11_signE : MethodName := ⟨RX11, "signE", "()V"⟩
abbrev cX11_reduce : ByteArray := prog_27_method_38_code
def yX11_reduce : MethodName := ⟨RX11, "reduce", "(I)V"⟩
abbrev cX11_endE : ByteArray := prog_27_method_40_code
def yX11_endE : MethodName := ⟨RX11, "endE", "()V"⟩
abbrev cX11_endBinding : ByteArray := prog_27_method_42_code
def yX11_endBinding : MethodName := ⟨RX11, "endBinding", "(I)V"⟩
abbrev cX11_close : ByteArray := prog_27_method_41_code
def yX11_close : MethodName := ⟨RX11, "close", "(I)V"⟩
abbrev cX11_branch : ByteArray := prog_27_method_43_code
def yX11_branch : MethodName := ⟨RX11, "branch", "(I)V"⟩
abbrev cX11_endBranch : ByteArray := prog_27_method_44_code
def yX11_endBranch : MethodName := ⟨RX11, "endBranch", "(I)V"⟩
abbrev cX11_numberAll : ByteArray := prog_27_method_52_code
def yX11_numberAll : MethodName := ⟨RX11, "numberAll", "()V"⟩
abbrev cX11_find : ByteArray := prog_27_method_61_code
def yX11_find : MethodName := ⟨RX11, "find", "()V"⟩
abbrev cX11_beginAt : ByteArray := prog_27_method_60_code
def yX11_beginAt : MethodName := ⟨RX11, "beginAt", "(II)V"⟩
abbrev cX11_hasRow : ByteArray := prog_27_method_58_code
def yX11_hasRow : MethodName := ⟨RX11, "hasRow", "(I)Z"⟩
abbrev cX11_comeInto : ByteArray := prog_27_method_55_code
def yX11_comeInto : MethodName := ⟨RX11, "comeInto", "(I)V"⟩
abbrev cX11_newVariable : ByteArray := prog_27_method_50_code
def yX11_newVariable : MethodName := ⟨RX11, "newVariable", "(J)I"⟩
abbrev cX11_use : ByteArray := prog_27_method_53_code
def yX11_use : MethodName := ⟨RX11, "use", "(I)V"⟩
abbrev cX11_addFree : ByteArray := prog_27_method_54_code
def yX11_addFree : MethodName := ⟨RX11, "addFree", "(II)V"⟩
abbrev cX11_giveNames : ByteArray := prog_27_method_51_code
def yX11_giveNames : MethodName := ⟨RX11, "giveNames", "(I)V"⟩
abbrev cX11_nextChild : ByteArray := prog_27_method_59_code
def yX11_nextChild : MethodName := ⟨RX11, "nextChild", "(I)I"⟩
abbrev cX11_childAt : ByteArray := prog_27_method_57_code
def yX11_childAt : MethodName := ⟨RX11, "childAt", "(III)I"⟩
abbrev cX11_goOutOf : ByteArray := prog_27_method_56_code
def yX11_goOutOf : MethodName := ⟨RX11, "goOutOf", "(I)V"⟩
abbrev cX11_judge : ByteArray := prog_27_method_62_code
def yX11_judge : MethodName := ⟨RX11, "judge", "()V"⟩
abbrev cX11_mainFunction : ByteArray := prog_27_method_63_code
def yX11_mainFunction : MethodName := ⟨RX11, "mainFunction", "()I"⟩
abbrev cX11_liftAll : ByteArray := prog_27_method_71_code
def yX11_liftAll : MethodName := ⟨RX11, "liftAll", "()V"⟩
abbrev cX11_closePart : ByteArray := prog_27_method_70_code
def yX11_closePart : MethodName := ⟨RX11, "closePart", "(II)V"⟩
abbrev cX11_rowCount : ByteArray := prog_27_method_68_code
def yX11_rowCount : MethodName := ⟨RX11, "rowCount", "(I)I"⟩
abbrev cX11_lift : ByteArray := prog_27_method_64_code
def yX11_lift : MethodName := ⟨RX11, "lift", "(III)I"⟩
abbrev cX11_local : ByteArray := prog_27_method_66_code
def yX11_local : MethodName := ⟨RX11, "local", "(II)I"⟩
abbrev cX11_bits : ByteArray := prog_27_method_69_code
def yX11_bits : MethodName := ⟨RX11, "bits", "(II)J"⟩
abbrev cX11_child : ByteArray := prog_27_method_65_code
def yX11_child : MethodName := ⟨RX11, "child", "(II)I"⟩
abbrev cX11_liftFunction : ByteArray := prog_27_method_67_code
def yX11_liftFunction : MethodName := ⟨RX11, "liftFunction", "(II)V"⟩
abbrev cX11_findTables : ByteArray := prog_27_method_76_code
def yX11_findTables : MethodName := ⟨RX11, "findTables", "()V"⟩
abbrev cX11_bitOfPart : ByteArray := prog_27_method_75_code
def yX11_bitOfPart : MethodName := ⟨RX11, "bitOfPart", "(II)Z"⟩
abbrev cX11_partBit : ByteArray := prog_27_method_73_code
def yX11_partBit : MethodName := ⟨RX11, "partBit", "(I)Z"⟩
abbrev cX11_table : ByteArray := prog_27_method_72_code
def yX11_table : MethodName := ⟨RX11, "table", "(II)Z"⟩
abbrev cX11_appliedBit : ByteArray := prog_27_method_74_code
def yX11_appliedBit : MethodName := ⟨RX11, "appliedBit", "(I)Z"⟩
abbrev cX11_findNeeds : ByteArray := prog_27_method_78_code
def yX11_findNeeds : MethodName := ⟨RX11, "findNeeds", "()V"⟩
abbrev cX11_firstWithin : ByteArray := prog_27_method_77_code
def yX11_firstWithin : MethodName := ⟨RX11, "firstWithin", "(I)I"⟩
abbrev cX11_isNeeded : ByteArray := prog_27_method_79_code
def yX11_isNeeded : MethodName := ⟨RX11, "isNeeded", "(II)Z"⟩
abbrev cX11_run : ByteArray := prog_27_method_112_code
def yX11_run : MethodName := ⟨RX11, "run", "(ZI)I"⟩
abbrev cX11_newCell : ByteArray := prog_27_method_88_code
def yX11_newCell : MethodName := ⟨RX11, "newCell", "(IIII)I"⟩
abbrev cX11_ends : ByteArray := prog_27_method_84_code
def yX11_ends : MethodName := ⟨RX11, "ends", "(II)V"⟩
abbrev cX11_value : ByteArray := prog_27_method_81_code
def yX11_value : MethodName := ⟨RX11, "value", "(II)J"⟩
abbrev cX11_workOut : ByteArray := prog_27_method_108_code
def yX11_workOut : MethodName := ⟨RX11, "workOut", "(J)V"⟩
abbrev cX11_enter : ByteArray := prog_27_method_98_code
def yX11_enter : MethodName := ⟨RX11, "enter", "(J)V"⟩
abbrev cX11_kindOf : ByteArray := prog_27_method_82_code
def yX11_kindOf : MethodName := ⟨RX11, "kindOf", "(J)I"⟩
abbrev cX11_gives : ByteArray := prog_27_method_87_code
def yX11_gives : MethodName := ⟨RX11, "gives", "(J)V"⟩
abbrev cX11_of : ByteArray := prog_27_method_83_code
def yX11_of : MethodName := ⟨RX11, "of", "(J)I"⟩
abbrev cX11_waits : ByteArray := prog_27_method_85_code
def yX11_waits : MethodName := ⟨RX11, "waits", "(III)V"⟩
abbrev cX11_frame : ByteArray := prog_27_method_97_code
def yX11_frame : MethodName := ⟨RX11, "frame", "(I)V"⟩
abbrev cX11_evaluate : ByteArray := prog_27_method_86_code
def yX11_evaluate : MethodName := ⟨RX11, "evaluate", "(I)V"⟩
abbrev cX11_goOn : ByteArray := prog_27_method_105_code
def yX11_goOn : MethodName := ⟨RX11, "goOn", "()V"⟩
abbrev cX11_push : ByteArray := prog_27_method_101_code
def yX11_push : MethodName := ⟨RX11, "push", "(J)V"⟩
abbrev cX11_reckon : ByteArray := prog_27_method_106_code
def yX11_reckon : MethodName := ⟨RX11, "reckon", "(IJJ)V"⟩
abbrev cX11_choose : ByteArray := prog_27_method_107_code
def yX11_choose : MethodName := ⟨RX11, "choose", "(IJ)V"⟩
abbrev cX11_arguments : ByteArray := prog_27_method_102_code
def yX11_arguments : MethodName := ⟨RX11, "arguments", "(II)V"⟩
abbrev cX11_keep : ByteArray := prog_27_method_95_code
def yX11_keep : MethodName := ⟨RX11, "keep", "(I)J"⟩
abbrev cX11_plain : ByteArray := prog_27_method_91_code
def yX11_plain : MethodName := ⟨RX11, "plain", "(I)J"⟩
abbrev cX11_make : ByteArray := prog_27_method_92_code
def yX11_make : MethodName := ⟨RX11, "make", "(I)I"⟩
abbrev cX11_isLess : ByteArray := prog_27_method_89_code
def yX11_isLess : MethodName := ⟨RX11, "isLess", "(I)Z"⟩
abbrev cX11_ones : ByteArray := prog_27_method_90_code
def yX11_ones : MethodName := ⟨RX11, "ones", "(J)I"⟩
abbrev cX11_fill : ByteArray := prog_27_method_93_code
def yX11_fill : MethodName := ⟨RX11, "fill", "(II)V"⟩
abbrev cX11_doTasks : ByteArray := prog_27_method_94_code
def yX11_doTasks : MethodName := ⟨RX11, "doTasks", "()V"⟩
abbrev cX11_call : ByteArray := prog_27_method_103_code
def yX11_call : MethodName := ⟨RX11, "call", "(III)V"⟩
abbrev cX11_apply : ByteArray := prog_27_method_104_code
def yX11_apply : MethodName := ⟨RX11, "apply", "(JI)V"⟩
abbrev cX11_workPart : ByteArray := prog_27_method_99_code
def yX11_workPart : MethodName := ⟨RX11, "workPart", "()V"⟩
abbrev cX11_keepBindings : ByteArray := prog_27_method_96_code
def yX11_keepBindings : MethodName := ⟨RX11, "keepBindings", "(I)V"⟩
abbrev cX11_workApplication : ByteArray := prog_27_method_100_code
def yX11_workApplication : MethodName := ⟨RX11, "workApplication", "(I)V"⟩
abbrev cX11_force : ByteArray := prog_27_method_111_code
def yX11_force : MethodName := ⟨RX11, "force", "(J)V"⟩
abbrev cX11_putRow : ByteArray := prog_27_method_110_code
def yX11_putRow : MethodName := ⟨RX11, "putRow", "(III)Z"⟩
abbrev cX11_put : ByteArray := prog_27_method_113_code
def yX11_put : MethodName := ⟨RX11, "put", "(I)I"⟩
abbrev cX11_end : ByteArray := prog_27_method_114_code
def yX11_end : MethodName := ⟨RX11, "end", "(I)V"⟩
abbrev cX11_take : ByteArray := prog_27_method_115_code
def yX11_take : MethodName := ⟨RX11, "take", "()I"⟩
abbrev cX11_fault : ByteArray := prog_27_method_116_code
def yX11_fault : MethodName := ⟨RX11, "fault", "(I)I"⟩
abbrev cX11_write : ByteArray := prog_27_method_127_code
def yX11_write : MethodName := ⟨RX11, "write", "()I"⟩
abbrev cX11_signs : ByteArray := prog_27_method_118_code
def yX11_signs : MethodName := ⟨RX11, "signs", "(J)V"⟩
abbrev cX11_letters : ByteArray := prog_27_method_117_code
def yX11_letters : MethodName := ⟨RX11, "letters", "(I)V"⟩
abbrev cX11_digits : ByteArray := prog_27_method_119_code
def yX11_digits : MethodName := ⟨RX11, "digits", "(I)V"⟩
abbrev cX11_functionName : ByteArray := prog_27_method_121_code
def yX11_functionName : MethodName := ⟨RX11, "functionName", "(I)V"⟩
abbrev cX11_variable : ByteArray := prog_27_method_120_code
def yX11_variable : MethodName := ⟨RX11, "variable", "(I)V"⟩
abbrev cX11_writeE : ByteArray := prog_27_method_126_code
def yX11_writeE : MethodName := ⟨RX11, "writeE", "(I)V"⟩
abbrev cX11_atom_2 : ByteArray := prog_27_method_125_code
def yX11_atom_2 : MethodName := ⟨RX11, "atom", "(I)V"⟩
abbrev cX11_around : ByteArray := prog_27_method_124_code
def yX11_around : MethodName := ⟨RX11, "around", "(II)V"⟩
abbrev cX11_pattern : ByteArray := prog_27_method_123_code
def yX11_pattern : MethodName := ⟨RX11, "pattern", "(I)V"⟩
abbrev cX11_operation : ByteArray := prog_27_method_122_code
def yX11_operation : MethodName := ⟨RX11, "operation", "(I)V"⟩
abbrev cX11_letter : ByteArray := prog_27_method_128_code
def yX11_letter : MethodName := ⟨RX11, "letter", "(I)I"⟩
abbrev cX11_function : ByteArray := prog_27_method_130_code
def yX11_function : MethodName := ⟨RX11, "function", "(II)I"⟩
abbrev cX11_codeOf : ByteArray := prog_27_method_129_code
def yX11_codeOf : MethodName := ⟨RX11, "codeOf", "(I)I"⟩
abbrev cX11_needs : ByteArray := prog_27_method_131_code
def yX11_needs : MethodName := ⟨RX11, "needs", "(II)Z"⟩
abbrev cX11_bit : ByteArray := prog_27_method_132_code
def yX11_bit : MethodName := ⟨RX11, "bit", "(II)I"⟩
abbrev cX11_result : ByteArray := prog_27_method_133_code
def yX11_result : MethodName := ⟨RX11, "result", "(I)I"⟩
abbrev cX11_number : ByteArray := prog_27_method_134_code
def yX11_number : MethodName := ⟨RX11, "number", "(I)I"⟩
abbrev cX11_called : ByteArray := prog_27_method_135_code
def yX11_called : MethodName := ⟨RX11, "called", "(I)I"⟩
abbrev cX11_about : ByteArray := prog_27_method_136_code
def yX11_about : MethodName := ⟨RX11, "about", "(I)I"⟩
theorem q173 : (Jvm.Cond.initialized "LazyForgeModel") ∈ lw_all := lw_g (lw_at lw_m1 11 rfl) rfl
theorem q1246 : (Jvm.Cond.selects "LazyForgeModel" ({ cls := "java/lang/Object", name := "getClass", desc := "()Ljava/lang/Class;" } : Jvm.MethodName) ({ cls := "java/lang/Object", name := "getClass", desc := "()Ljava/lang/Class;" } : Jvm.MethodName)) ∈ lw_all := lw_g (lw_at lw_m5 124 rfl) rfl
theorem q1424 : (Jvm.Cond.selects "LazyForgeModel" ({ cls := "java/lang/Object", name := "equals", desc := "(Ljava/lang/Object;)Z" } : Jvm.MethodName) ({ cls := "java/lang/Object", name := "equals", desc := "(Ljava/lang/Object;)Z" } : Jvm.MethodName)) ∈ lw_all := lw_g (lw_at lw_m6 62 rfl) rfl
theorem q2495 : (Jvm.Cond.instantiable "LazyForgeModel" (136 : Nat)) ∈ lw_all := lw_g (lw_at lw_m10 173 rfl) rfl
theorem q2497 : (Jvm.Cond.instanceMethod ({ cls := "LazyForgeModel", name := "<init>", desc := "()V" } : Jvm.MethodName)) ∈ lw_all := lw_g (lw_at lw_m10 175 rfl) rfl
theorem q2498 : (Jvm.Cond.code ({ cls := "LazyForgeModel", name := "<init>", desc := "()V" } : Jvm.MethodName) prog_27_method_1_code (1 : Nat) (Option.none : Option Jvm.ClassFile.FieldType)) ∈ lw_all := lw_g (lw_at lw_m10 176 rfl) rfl
theorem q2499 : (Jvm.Cond.methodLink "LazyForgeModel" (1 : Nat) ({ cls := "java/lang/Object", name := "<init>", desc := "()V" } : Jvm.MethodName)) ∈ lw_all := lw_g (lw_at lw_m10 177 rfl) rfl
theorem q2500 : (Jvm.Cond.constant "LazyForgeModel" (177 : Nat) (163840 : Int32)) ∈ lw_all := lw_g (lw_at lw_m10 178 rfl) rfl
theorem q2501 : (Jvm.Cond.constant "LazyForgeModel" (218 : Nat) (202000 : Int32)) ∈ lw_all := lw_g (lw_at lw_m10 179 rfl) rfl
theorem q2502 : (Jvm.Cond.constant "LazyForgeModel" (228 : Nat) (580000 : Int32)) ∈ lw_all := lw_g (lw_at lw_m10 180 rfl) rfl
theorem q2503 : (Jvm.Cond.constant "LazyForgeModel" (232 : Nat) (193000 : Int32)) ∈ lw_all := lw_g (lw_at lw_m10 181 rfl) rfl
theorem q2504 : (Jvm.Cond.fieldLink "LazyForgeModel" (251 : Nat) "LazyForgeModel" "thrown" "I") ∈ lw_all := lw_g (lw_at lw_m10 182 rfl) rfl
theorem q2505 : (Jvm.Cond.fieldLink "LazyForgeModel" (7 : Nat) "LazyForgeModel" "text" "[I") ∈ lw_all := lw_g (lw_at lw_m10 183 rfl) rfl
theorem q2506 : (Jvm.Cond.fieldLink "LazyForgeModel" (254 : Nat) "LazyForgeModel" "size" "I") ∈ lw_all := lw_g (lw_at lw_m10 184 rfl) rfl
theorem q2507 : (Jvm.Cond.fieldLink "LazyForgeModel" (13 : Nat) "LazyForgeModel" "out" "[I") ∈ lw_all := lw_g (lw_at lw_m10 185 rfl) rfl
theorem q2508 : (Jvm.Cond.fieldLink "LazyForgeModel" (777 : Nat) "LazyForgeModel" "outSize" "I") ∈ lw_all := lw_g (lw_at lw_m10 186 rfl) rfl
theorem q2509 : (Jvm.Cond.fieldLink "LazyForgeModel" (261 : Nat) "LazyForgeModel" "at" "I") ∈ lw_all := lw_g (lw_at lw_m10 187 rfl) rfl
theorem q2510 : (Jvm.Cond.fieldLink "LazyForgeModel" (286 : Nat) "LazyForgeModel" "word" "I") ∈ lw_all := lw_g (lw_at lw_m10 188 rfl) rfl
theorem q2511 : (Jvm.Cond.fieldLink "LazyForgeModel" (275 : Nat) "LazyForgeModel" "wordPlace" "I") ∈ lw_all := lw_g (lw_at lw_m10 189 rfl) rfl
theorem q2512 : (Jvm.Cond.fieldLink "LazyForgeModel" (278 : Nat) "LazyForgeModel" "wordName" "J") ∈ lw_all := lw_g (lw_at lw_m10 190 rfl) rfl
theorem q2513 : (Jvm.Cond.fieldLink "LazyForgeModel" (295 : Nat) "LazyForgeModel" "wordNumber" "I") ∈ lw_all := lw_g (lw_at lw_m10 191 rfl) rfl
theorem q2514 : (Jvm.Cond.fieldLink "LazyForgeModel" (311 : Nat) "LazyForgeModel" "fault" "I") ∈ lw_all := lw_g (lw_at lw_m10 192 rfl) rfl
theorem q2515 : (Jvm.Cond.fieldLink "LazyForgeModel" (314 : Nat) "LazyForgeModel" "faultPlace" "I") ∈ lw_all := lw_g (lw_at lw_m10 193 rfl) rfl
theorem q2516 : (Jvm.Cond.fieldLink "LazyForgeModel" (327 : Nat) "LazyForgeModel" "nodes" "I") ∈ lw_all := lw_g (lw_at lw_m10 194 rfl) rfl
theorem q2517 : (Jvm.Cond.fieldLink "LazyForgeModel" (16 : Nat) "LazyForgeModel" "kinds" "[I") ∈ lw_all := lw_g (lw_at lw_m10 195 rfl) rfl
theorem q2518 : (Jvm.Cond.fieldLink "LazyForgeModel" (19 : Nat) "LazyForgeModel" "firsts" "[I") ∈ lw_all := lw_g (lw_at lw_m10 196 rfl) rfl
theorem q2519 : (Jvm.Cond.fieldLink "LazyForgeModel" (22 : Nat) "LazyForgeModel" "seconds" "[I") ∈ lw_all := lw_g (lw_at lw_m10 197 rfl) rfl
theorem q2520 : (Jvm.Cond.fieldLink "LazyForgeModel" (25 : Nat) "LazyForgeModel" "nexts" "[I") ∈ lw_all := lw_g (lw_at lw_m10 198 rfl) rfl
theorem q2521 : (Jvm.Cond.fieldLink "LazyForgeModel" (28 : Nat) "LazyForgeModel" "places" "[I") ∈ lw_all := lw_g (lw_at lw_m10 199 rfl) rfl
theorem q2522 : (Jvm.Cond.fieldLink "LazyForgeModel" (31 : Nat) "LazyForgeModel" "values" "[I") ∈ lw_all := lw_g (lw_at lw_m10 200 rfl) rfl
theorem q2523 : (Jvm.Cond.fieldLink "LazyForgeModel" (34 : Nat) "LazyForgeModel" "sorts" "[I") ∈ lw_all := lw_g (lw_at lw_m10 201 rfl) rfl
theorem q2524 : (Jvm.Cond.fieldLink "LazyForgeModel" (37 : Nat) "LazyForgeModel" "nodeNames" "[J") ∈ lw_all := lw_g (lw_at lw_m10 202 rfl) rfl
theorem q2525 : (Jvm.Cond.fieldLink "LazyForgeModel" (41 : Nat) "LazyForgeModel" "giveBegins" "[I") ∈ lw_all := lw_g (lw_at lw_m10 203 rfl) rfl
theorem q2526 : (Jvm.Cond.fieldLink "LazyForgeModel" (44 : Nat) "LazyForgeModel" "giveCounts" "[I") ∈ lw_all := lw_g (lw_at lw_m10 204 rfl) rfl
theorem q2527 : (Jvm.Cond.fieldLink "LazyForgeModel" (330 : Nat) "LazyForgeModel" "gives" "I") ∈ lw_all := lw_g (lw_at lw_m10 205 rfl) rfl
theorem q2528 : (Jvm.Cond.fieldLink "LazyForgeModel" (47 : Nat) "LazyForgeModel" "given" "[J") ∈ lw_all := lw_g (lw_at lw_m10 206 rfl) rfl
theorem q2529 : (Jvm.Cond.fieldLink "LazyForgeModel" (333 : Nat) "LazyForgeModel" "parts" "I") ∈ lw_all := lw_g (lw_at lw_m10 207 rfl) rfl
theorem q2530 : (Jvm.Cond.fieldLink "LazyForgeModel" (336 : Nat) "LazyForgeModel" "allParts" "I") ∈ lw_all := lw_g (lw_at lw_m10 208 rfl) rfl
theorem q2531 : (Jvm.Cond.fieldLink "LazyForgeModel" (462 : Nat) "LazyForgeModel" "functions" "I") ∈ lw_all := lw_g (lw_at lw_m10 209 rfl) rfl
theorem q2532 : (Jvm.Cond.fieldLink "LazyForgeModel" (50 : Nat) "LazyForgeModel" "functionNames" "[J") ∈ lw_all := lw_g (lw_at lw_m10 210 rfl) rfl
theorem q2533 : (Jvm.Cond.fieldLink "LazyForgeModel" (53 : Nat) "LazyForgeModel" "functionPlaces" "[I") ∈ lw_all := lw_g (lw_at lw_m10 211 rfl) rfl
theorem q2534 : (Jvm.Cond.fieldLink "LazyForgeModel" (56 : Nat) "LazyForgeModel" "functionNodes" "[I") ∈ lw_all := lw_g (lw_at lw_m10 212 rfl) rfl
theorem q2535 : (Jvm.Cond.fieldLink "LazyForgeModel" (348 : Nat) "LazyForgeModel" "constructors" "I") ∈ lw_all := lw_g (lw_at lw_m10 213 rfl) rfl
theorem q2536 : (Jvm.Cond.fieldLink "LazyForgeModel" (59 : Nat) "LazyForgeModel" "constructorNames" "[J") ∈ lw_all := lw_g (lw_at lw_m10 214 rfl) rfl
theorem q2537 : (Jvm.Cond.fieldLink "LazyForgeModel" (62 : Nat) "LazyForgeModel" "fieldCounts" "[I") ∈ lw_all := lw_g (lw_at lw_m10 215 rfl) rfl
theorem q2538 : (Jvm.Cond.fieldLink "LazyForgeModel" (339 : Nat) "LazyForgeModel" "open" "I") ∈ lw_all := lw_g (lw_at lw_m10 216 rfl) rfl
theorem q2539 : (Jvm.Cond.fieldLink "LazyForgeModel" (342 : Nat) "LazyForgeModel" "piled" "I") ∈ lw_all := lw_g (lw_at lw_m10 217 rfl) rfl
theorem q2540 : (Jvm.Cond.fieldLink "LazyForgeModel" (65 : Nat) "LazyForgeModel" "pileKinds" "[I") ∈ lw_all := lw_g (lw_at lw_m10 218 rfl) rfl
theorem q2541 : (Jvm.Cond.fieldLink "LazyForgeModel" (68 : Nat) "LazyForgeModel" "pileNodes" "[I") ∈ lw_all := lw_g (lw_at lw_m10 219 rfl) rfl
theorem q2542 : (Jvm.Cond.fieldLink "LazyForgeModel" (71 : Nat) "LazyForgeModel" "pileRanks" "[I") ∈ lw_all := lw_g (lw_at lw_m10 220 rfl) rfl
theorem q2543 : (Jvm.Cond.fieldLink "LazyForgeModel" (74 : Nat) "LazyForgeModel" "pileCounts" "[I") ∈ lw_all := lw_g (lw_at lw_m10 221 rfl) rfl
theorem q2544 : (Jvm.Cond.fieldLink "LazyForgeModel" (345 : Nat) "LazyForgeModel" "operands" "I") ∈ lw_all := lw_g (lw_at lw_m10 222 rfl) rfl
theorem q2545 : (Jvm.Cond.fieldLink "LazyForgeModel" (77 : Nat) "LazyForgeModel" "operandNodes" "[I") ∈ lw_all := lw_g (lw_at lw_m10 223 rfl) rfl
theorem q2546 : (Jvm.Cond.fieldLink "LazyForgeModel" (393 : Nat) "LazyForgeModel" "startsE" "Z") ∈ lw_all := lw_g (lw_at lw_m10 224 rfl) rfl
theorem q2547 : (Jvm.Cond.fieldLink "LazyForgeModel" (389 : Nat) "LazyForgeModel" "wants" "Z") ∈ lw_all := lw_g (lw_at lw_m10 225 rfl) rfl
theorem q2548 : (Jvm.Cond.fieldLink "LazyForgeModel" (424 : Nat) "LazyForgeModel" "isApplied" "Z") ∈ lw_all := lw_g (lw_at lw_m10 226 rfl) rfl
theorem q2549 : (Jvm.Cond.fieldLink "LazyForgeModel" (405 : Nat) "LazyForgeModel" "isEnded" "Z") ∈ lw_all := lw_g (lw_at lw_m10 227 rfl) rfl
theorem q2550 : (Jvm.Cond.fieldLink "LazyForgeModel" (486 : Nat) "LazyForgeModel" "named" "I") ∈ lw_all := lw_g (lw_at lw_m10 228 rfl) rfl
theorem q2551 : (Jvm.Cond.fieldLink "LazyForgeModel" (80 : Nat) "LazyForgeModel" "functionOf" "[I") ∈ lw_all := lw_g (lw_at lw_m10 229 rfl) rfl
theorem q2552 : (Jvm.Cond.fieldLink "LazyForgeModel" (83 : Nat) "LazyForgeModel" "freeCounts" "[I") ∈ lw_all := lw_g (lw_at lw_m10 230 rfl) rfl
theorem q2553 : (Jvm.Cond.fieldLink "LazyForgeModel" (86 : Nat) "LazyForgeModel" "frees" "[I") ∈ lw_all := lw_g (lw_at lw_m10 231 rfl) rfl
theorem q2554 : (Jvm.Cond.fieldLink "LazyForgeModel" (474 : Nat) "LazyForgeModel" "variables" "I") ∈ lw_all := lw_g (lw_at lw_m10 232 rfl) rfl
theorem q2555 : (Jvm.Cond.fieldLink "LazyForgeModel" (89 : Nat) "LazyForgeModel" "homes" "[I") ∈ lw_all := lw_g (lw_at lw_m10 233 rfl) rfl
theorem q2556 : (Jvm.Cond.fieldLink "LazyForgeModel" (92 : Nat) "LazyForgeModel" "owns" "[I") ∈ lw_all := lw_g (lw_at lw_m10 234 rfl) rfl
theorem q2557 : (Jvm.Cond.fieldLink "LazyForgeModel" (95 : Nat) "LazyForgeModel" "ownCounts" "[I") ∈ lw_all := lw_g (lw_at lw_m10 235 rfl) rfl
theorem q2558 : (Jvm.Cond.fieldLink "LazyForgeModel" (98 : Nat) "LazyForgeModel" "firstVariables" "[I") ∈ lw_all := lw_g (lw_at lw_m10 236 rfl) rfl
theorem q2559 : (Jvm.Cond.fieldLink "LazyForgeModel" (480 : Nat) "LazyForgeModel" "seen" "I") ∈ lw_all := lw_g (lw_at lw_m10 237 rfl) rfl
theorem q2560 : (Jvm.Cond.fieldLink "LazyForgeModel" (101 : Nat) "LazyForgeModel" "seenNames" "[J") ∈ lw_all := lw_g (lw_at lw_m10 238 rfl) rfl
theorem q2561 : (Jvm.Cond.fieldLink "LazyForgeModel" (104 : Nat) "LazyForgeModel" "seenVariables" "[I") ∈ lw_all := lw_g (lw_at lw_m10 239 rfl) rfl
theorem q2562 : (Jvm.Cond.fieldLink "LazyForgeModel" (477 : Nat) "LazyForgeModel" "around" "I") ∈ lw_all := lw_g (lw_at lw_m11 0 rfl) rfl
theorem q2563 : (Jvm.Cond.fieldLink "LazyForgeModel" (107 : Nat) "LazyForgeModel" "arounds" "[I") ∈ lw_all := lw_g (lw_at lw_m11 1 rfl) rfl
theorem q2564 : (Jvm.Cond.fieldLink "LazyForgeModel" (110 : Nat) "LazyForgeModel" "walk" "[I") ∈ lw_all := lw_g (lw_at lw_m11 2 rfl) rfl
theorem q2565 : (Jvm.Cond.fieldLink "LazyForgeModel" (113 : Nat) "LazyForgeModel" "walkStages" "[I") ∈ lw_all := lw_g (lw_at lw_m11 3 rfl) rfl
theorem q2566 : (Jvm.Cond.fieldLink "LazyForgeModel" (116 : Nat) "LazyForgeModel" "walkChildren" "[I") ∈ lw_all := lw_g (lw_at lw_m11 4 rfl) rfl
theorem q2567 : (Jvm.Cond.fieldLink "LazyForgeModel" (520 : Nat) "LazyForgeModel" "lifted" "I") ∈ lw_all := lw_g (lw_at lw_m11 5 rfl) rfl
theorem q2568 : (Jvm.Cond.fieldLink "LazyForgeModel" (119 : Nat) "LazyForgeModel" "liftKinds" "[I") ∈ lw_all := lw_g (lw_at lw_m11 6 rfl) rfl
theorem q2569 : (Jvm.Cond.fieldLink "LazyForgeModel" (122 : Nat) "LazyForgeModel" "liftValues" "[I") ∈ lw_all := lw_g (lw_at lw_m11 7 rfl) rfl
theorem q2570 : (Jvm.Cond.fieldLink "LazyForgeModel" (125 : Nat) "LazyForgeModel" "liftBegins" "[I") ∈ lw_all := lw_g (lw_at lw_m11 8 rfl) rfl
theorem q2571 : (Jvm.Cond.fieldLink "LazyForgeModel" (128 : Nat) "LazyForgeModel" "liftCounts" "[I") ∈ lw_all := lw_g (lw_at lw_m11 9 rfl) rfl
theorem q2572 : (Jvm.Cond.fieldLink "LazyForgeModel" (131 : Nat) "LazyForgeModel" "liftVariables" "[I") ∈ lw_all := lw_g (lw_at lw_m11 10 rfl) rfl
theorem q2573 : (Jvm.Cond.fieldLink "LazyForgeModel" (134 : Nat) "LazyForgeModel" "liftNeeds" "[Z") ∈ lw_all := lw_g (lw_at lw_m11 11 rfl) rfl
theorem q2574 : (Jvm.Cond.fieldLink "LazyForgeModel" (138 : Nat) "LazyForgeModel" "heights" "[I") ∈ lw_all := lw_g (lw_at lw_m11 12 rfl) rfl
theorem q2575 : (Jvm.Cond.fieldLink "LazyForgeModel" (141 : Nat) "LazyForgeModel" "liftFunctions" "[I") ∈ lw_all := lw_g (lw_at lw_m11 13 rfl) rfl
theorem q2576 : (Jvm.Cond.fieldLink "LazyForgeModel" (144 : Nat) "LazyForgeModel" "outside" "[J") ∈ lw_all := lw_g (lw_at lw_m11 14 rfl) rfl
theorem q2577 : (Jvm.Cond.fieldLink "LazyForgeModel" (523 : Nat) "LazyForgeModel" "childTop" "I") ∈ lw_all := lw_g (lw_at lw_m11 15 rfl) rfl
theorem q2578 : (Jvm.Cond.fieldLink "LazyForgeModel" (147 : Nat) "LazyForgeModel" "liftChildren" "[I") ∈ lw_all := lw_g (lw_at lw_m11 16 rfl) rfl
theorem q2579 : (Jvm.Cond.fieldLink "LazyForgeModel" (150 : Nat) "LazyForgeModel" "branchSorts" "[I") ∈ lw_all := lw_g (lw_at lw_m11 17 rfl) rfl
theorem q2580 : (Jvm.Cond.fieldLink "LazyForgeModel" (153 : Nat) "LazyForgeModel" "branchValues" "[I") ∈ lw_all := lw_g (lw_at lw_m11 18 rfl) rfl
theorem q2581 : (Jvm.Cond.fieldLink "LazyForgeModel" (156 : Nat) "LazyForgeModel" "branchVariables" "[I") ∈ lw_all := lw_g (lw_at lw_m11 19 rfl) rfl
theorem q2582 : (Jvm.Cond.fieldLink "LazyForgeModel" (159 : Nat) "LazyForgeModel" "branchCounts" "[I") ∈ lw_all := lw_g (lw_at lw_m11 20 rfl) rfl
theorem q2583 : (Jvm.Cond.fieldLink "LazyForgeModel" (162 : Nat) "LazyForgeModel" "begins" "[I") ∈ lw_all := lw_g (lw_at lw_m11 21 rfl) rfl
theorem q2584 : (Jvm.Cond.fieldLink "LazyForgeModel" (165 : Nat) "LazyForgeModel" "roots" "[I") ∈ lw_all := lw_g (lw_at lw_m11 22 rfl) rfl
theorem q2585 : (Jvm.Cond.fieldLink "LazyForgeModel" (168 : Nat) "LazyForgeModel" "variableCounts" "[I") ∈ lw_all := lw_g (lw_at lw_m11 23 rfl) rfl
theorem q2586 : (Jvm.Cond.fieldLink "LazyForgeModel" (171 : Nat) "LazyForgeModel" "parameterCounts" "[I") ∈ lw_all := lw_g (lw_at lw_m11 24 rfl) rfl
theorem q2587 : (Jvm.Cond.fieldLink "LazyForgeModel" (526 : Nat) "LazyForgeModel" "held" "I") ∈ lw_all := lw_g (lw_at lw_m11 25 rfl) rfl
theorem q2588 : (Jvm.Cond.fieldLink "LazyForgeModel" (174 : Nat) "LazyForgeModel" "heldNodes" "[I") ∈ lw_all := lw_g (lw_at lw_m11 26 rfl) rfl
theorem q2589 : (Jvm.Cond.fieldLink "LazyForgeModel" (178 : Nat) "LazyForgeModel" "tables" "[Z") ∈ lw_all := lw_g (lw_at lw_m11 27 rfl) rfl
theorem q2590 : (Jvm.Cond.fieldLink "LazyForgeModel" (181 : Nat) "LazyForgeModel" "bitOf" "[Z") ∈ lw_all := lw_g (lw_at lw_m11 28 rfl) rfl
theorem q2591 : (Jvm.Cond.fieldLink "LazyForgeModel" (184 : Nat) "LazyForgeModel" "has" "[Z") ∈ lw_all := lw_g (lw_at lw_m11 29 rfl) rfl
theorem q2592 : (Jvm.Cond.fieldLink "LazyForgeModel" (570 : Nat) "LazyForgeModel" "hasProgram" "Z") ∈ lw_all := lw_g (lw_at lw_m11 30 rfl) rfl
theorem q2593 : (Jvm.Cond.fieldLink "LazyForgeModel" (591 : Nat) "LazyForgeModel" "lastFault" "I") ∈ lw_all := lw_g (lw_at lw_m11 31 rfl) rfl
theorem q2594 : (Jvm.Cond.fieldLink "LazyForgeModel" (187 : Nat) "LazyForgeModel" "lastPlace" "I") ∈ lw_all := lw_g (lw_at lw_m11 32 rfl) rfl
theorem q2595 : (Jvm.Cond.fieldLink "LazyForgeModel" (191 : Nat) "LazyForgeModel" "needed" "[Z") ∈ lw_all := lw_g (lw_at lw_m11 33 rfl) rfl
theorem q2596 : (Jvm.Cond.fieldLink "LazyForgeModel" (194 : Nat) "LazyForgeModel" "cellSorts" "[I") ∈ lw_all := lw_g (lw_at lw_m11 34 rfl) rfl
theorem q2597 : (Jvm.Cond.fieldLink "LazyForgeModel" (197 : Nat) "LazyForgeModel" "cellValues" "[I") ∈ lw_all := lw_g (lw_at lw_m11 35 rfl) rfl
theorem q2598 : (Jvm.Cond.fieldLink "LazyForgeModel" (200 : Nat) "LazyForgeModel" "cellDone" "[J") ∈ lw_all := lw_g (lw_at lw_m11 36 rfl) rfl
theorem q2599 : (Jvm.Cond.fieldLink "LazyForgeModel" (203 : Nat) "LazyForgeModel" "cellBegins" "[I") ∈ lw_all := lw_g (lw_at lw_m11 37 rfl) rfl
theorem q2600 : (Jvm.Cond.fieldLink "LazyForgeModel" (206 : Nat) "LazyForgeModel" "cellCounts" "[I") ∈ lw_all := lw_g (lw_at lw_m11 38 rfl) rfl
theorem q2601 : (Jvm.Cond.fieldLink "LazyForgeModel" (635 : Nat) "LazyForgeModel" "cellsMade" "I") ∈ lw_all := lw_g (lw_at lw_m11 39 rfl) rfl
theorem q2602 : (Jvm.Cond.fieldLink "LazyForgeModel" (638 : Nat) "LazyForgeModel" "fieldTop" "I") ∈ lw_all := lw_g (lw_at lw_m11 40 rfl) rfl
theorem q2603 : (Jvm.Cond.fieldLink "LazyForgeModel" (209 : Nat) "LazyForgeModel" "fields" "[J") ∈ lw_all := lw_g (lw_at lw_m11 41 rfl) rfl
theorem q2604 : (Jvm.Cond.fieldLink "LazyForgeModel" (626 : Nat) "LazyForgeModel" "cells" "I") ∈ lw_all := lw_g (lw_at lw_m11 42 rfl) rfl
theorem q2605 : (Jvm.Cond.fieldLink "LazyForgeModel" (632 : Nat) "LazyForgeModel" "allCells" "I") ∈ lw_all := lw_g (lw_at lw_m11 43 rfl) rfl
theorem q2606 : (Jvm.Cond.fieldLink "LazyForgeModel" (736 : Nat) "LazyForgeModel" "allCalls" "I") ∈ lw_all := lw_g (lw_at lw_m11 44 rfl) rfl
theorem q2607 : (Jvm.Cond.fieldLink "LazyForgeModel" (730 : Nat) "LazyForgeModel" "callsLeft" "I") ∈ lw_all := lw_g (lw_at lw_m11 45 rfl) rfl
theorem q2608 : (Jvm.Cond.fieldLink "LazyForgeModel" (733 : Nat) "LazyForgeModel" "calls" "I") ∈ lw_all := lw_g (lw_at lw_m11 46 rfl) rfl
theorem q2609 : (Jvm.Cond.fieldLink "LazyForgeModel" (641 : Nat) "LazyForgeModel" "suspensions" "I") ∈ lw_all := lw_g (lw_at lw_m11 47 rfl) rfl
theorem q2610 : (Jvm.Cond.fieldLink "LazyForgeModel" (644 : Nat) "LazyForgeModel" "partials" "I") ∈ lw_all := lw_g (lw_at lw_m11 48 rfl) rfl
theorem q2611 : (Jvm.Cond.fieldLink "LazyForgeModel" (647 : Nat) "LazyForgeModel" "objects" "I") ∈ lw_all := lw_g (lw_at lw_m11 49 rfl) rfl
theorem q2612 : (Jvm.Cond.fieldLink "LazyForgeModel" (740 : Nat) "LazyForgeModel" "updates" "I") ∈ lw_all := lw_g (lw_at lw_m11 50 rfl) rfl
theorem q2613 : (Jvm.Cond.fieldLink "LazyForgeModel" (709 : Nat) "LazyForgeModel" "atOnce" "I") ∈ lw_all := lw_g (lw_at lw_m11 51 rfl) rfl
theorem q2614 : (Jvm.Cond.fieldLink "LazyForgeModel" (212 : Nat) "LazyForgeModel" "calledCounts" "[I") ∈ lw_all := lw_g (lw_at lw_m11 52 rfl) rfl
theorem q2615 : (Jvm.Cond.fieldLink "LazyForgeModel" (605 : Nat) "LazyForgeModel" "how" "I") ∈ lw_all := lw_g (lw_at lw_m11 53 rfl) rfl
theorem q2616 : (Jvm.Cond.fieldLink "LazyForgeModel" (608 : Nat) "LazyForgeModel" "why" "I") ∈ lw_all := lw_g (lw_at lw_m11 54 rfl) rfl
theorem q2617 : (Jvm.Cond.fieldLink "LazyForgeModel" (760 : Nat) "LazyForgeModel" "rowCounted" "I") ∈ lw_all := lw_g (lw_at lw_m11 55 rfl) rfl
theorem q2618 : (Jvm.Cond.fieldLink "LazyForgeModel" (215 : Nat) "LazyForgeModel" "row" "[I") ∈ lw_all := lw_g (lw_at lw_m11 56 rfl) rfl
theorem q2619 : (Jvm.Cond.fieldLink "LazyForgeModel" (706 : Nat) "LazyForgeModel" "eager" "Z") ∈ lw_all := lw_g (lw_at lw_m11 57 rfl) rfl
theorem q2620 : (Jvm.Cond.fieldLink "LazyForgeModel" (611 : Nat) "LazyForgeModel" "waiting" "I") ∈ lw_all := lw_g (lw_at lw_m11 58 rfl) rfl
theorem q2621 : (Jvm.Cond.fieldLink "LazyForgeModel" (219 : Nat) "LazyForgeModel" "waitKinds" "[I") ∈ lw_all := lw_g (lw_at lw_m11 59 rfl) rfl
theorem q2622 : (Jvm.Cond.fieldLink "LazyForgeModel" (222 : Nat) "LazyForgeModel" "waitBases" "[I") ∈ lw_all := lw_g (lw_at lw_m11 60 rfl) rfl
theorem q2623 : (Jvm.Cond.fieldLink "LazyForgeModel" (225 : Nat) "LazyForgeModel" "waitMore" "[I") ∈ lw_all := lw_g (lw_at lw_m11 61 rfl) rfl
theorem q2624 : (Jvm.Cond.fieldLink "LazyForgeModel" (724 : Nat) "LazyForgeModel" "top" "I") ∈ lw_all := lw_g (lw_at lw_m11 62 rfl) rfl
theorem q2625 : (Jvm.Cond.fieldLink "LazyForgeModel" (229 : Nat) "LazyForgeModel" "stack" "[J") ∈ lw_all := lw_g (lw_at lw_m11 63 rfl) rfl
theorem q2626 : (Jvm.Cond.fieldLink "LazyForgeModel" (614 : Nat) "LazyForgeModel" "base" "I") ∈ lw_all := lw_g (lw_at lw_m11 64 rfl) rfl
theorem q2627 : (Jvm.Cond.fieldLink "LazyForgeModel" (682 : Nat) "LazyForgeModel" "localTop" "I") ∈ lw_all := lw_g (lw_at lw_m11 65 rfl) rfl
theorem q2628 : (Jvm.Cond.fieldLink "LazyForgeModel" (233 : Nat) "LazyForgeModel" "locals" "[J") ∈ lw_all := lw_g (lw_at lw_m11 66 rfl) rfl
theorem q2629 : (Jvm.Cond.fieldLink "LazyForgeModel" (617 : Nat) "LazyForgeModel" "current" "I") ∈ lw_all := lw_g (lw_at lw_m11 67 rfl) rfl
theorem q2630 : (Jvm.Cond.fieldLink "LazyForgeModel" (620 : Nat) "LazyForgeModel" "has0" "Z") ∈ lw_all := lw_g (lw_at lw_m11 68 rfl) rfl
theorem q2631 : (Jvm.Cond.fieldLink "LazyForgeModel" (623 : Nat) "LazyForgeModel" "result" "J") ∈ lw_all := lw_g (lw_at lw_m11 69 rfl) rfl
theorem q2632 : (Jvm.Cond.fieldLink "LazyForgeModel" (663 : Nat) "LazyForgeModel" "tasks" "I") ∈ lw_all := lw_g (lw_at lw_m11 70 rfl) rfl
theorem q2633 : (Jvm.Cond.fieldLink "LazyForgeModel" (236 : Nat) "LazyForgeModel" "taskParts" "[I") ∈ lw_all := lw_g (lw_at lw_m11 71 rfl) rfl
theorem q2634 : (Jvm.Cond.fieldLink "LazyForgeModel" (239 : Nat) "LazyForgeModel" "taskPlaces" "[I") ∈ lw_all := lw_g (lw_at lw_m11 72 rfl) rfl
theorem q2635 : (Jvm.Cond.fieldLink "LazyForgeModel" (242 : Nat) "LazyForgeModel" "functionCells" "[I") ∈ lw_all := lw_g (lw_at lw_m11 73 rfl) rfl
theorem q2636 : (Jvm.Cond.fieldLink "LazyForgeModel" (767 : Nat) "LazyForgeModel" "pending" "I") ∈ lw_all := lw_g (lw_at lw_m11 74 rfl) rfl
theorem q2637 : (Jvm.Cond.fieldLink "LazyForgeModel" (245 : Nat) "LazyForgeModel" "pendings" "[J") ∈ lw_all := lw_g (lw_at lw_m11 75 rfl) rfl
theorem q2638 : (Jvm.Cond.fieldLink "LazyForgeModel" (780 : Nat) "LazyForgeModel" "drafted" "I") ∈ lw_all := lw_g (lw_at lw_m11 76 rfl) rfl
theorem q2639 : (Jvm.Cond.fieldLink "LazyForgeModel" (248 : Nat) "LazyForgeModel" "draft" "[I") ∈ lw_all := lw_g (lw_at lw_m11 77 rfl) rfl
theorem q2640 : (Jvm.Cond.lays "LazyForgeModel" "LazyForgeModel" "thrown" "I") ∈ lw_all := lw_g (lw_at lw_m11 78 rfl) rfl
theorem q2641 : (Jvm.Cond.soleField "LazyForgeModel" "thrown") ∈ lw_all := lw_g (lw_at lw_m11 79 rfl) rfl
theorem q2642 : (Jvm.Cond.laysFinal "LazyForgeModel" "LazyForgeModel" "text" "[I") ∈ lw_all := lw_g (lw_at lw_m11 80 rfl) rfl
theorem q2643 : (Jvm.Cond.soleField "LazyForgeModel" "text") ∈ lw_all := lw_g (lw_at lw_m11 81 rfl) rfl
theorem q2644 : (Jvm.Cond.lays "LazyForgeModel" "LazyForgeModel" "size" "I") ∈ lw_all := lw_g (lw_at lw_m11 82 rfl) rfl
theorem q2645 : (Jvm.Cond.soleField "LazyForgeModel" "size") ∈ lw_all := lw_g (lw_at lw_m11 83 rfl) rfl
theorem q2646 : (Jvm.Cond.laysFinal "LazyForgeModel" "LazyForgeModel" "out" "[I") ∈ lw_all := lw_g (lw_at lw_m11 84 rfl) rfl
theorem q2647 : (Jvm.Cond.soleField "LazyForgeModel" "out") ∈ lw_all := lw_g (lw_at lw_m11 85 rfl) rfl
theorem q2648 : (Jvm.Cond.lays "LazyForgeModel" "LazyForgeModel" "outSize" "I") ∈ lw_all := lw_g (lw_at lw_m11 86 rfl) rfl
theorem q2649 : (Jvm.Cond.soleField "LazyForgeModel" "outSize") ∈ lw_all := lw_g (lw_at lw_m11 87 rfl) rfl
theorem q2650 : (Jvm.Cond.lays "LazyForgeModel" "LazyForgeModel" "at" "I") ∈ lw_all := lw_g (lw_at lw_m11 88 rfl) rfl
theorem q2651 : (Jvm.Cond.soleField "LazyForgeModel" "at") ∈ lw_all := lw_g (lw_at lw_m11 89 rfl) rfl
theorem q2652 : (Jvm.Cond.lays "LazyForgeModel" "LazyForgeModel" "word" "I") ∈ lw_all := lw_g (lw_at lw_m11 90 rfl) rfl
theorem q2653 : (Jvm.Cond.soleField "LazyForgeModel" "word") ∈ lw_all := lw_g (lw_at lw_m11 91 rfl) rfl
theorem q2654 : (Jvm.Cond.lays "LazyForgeModel" "LazyForgeModel" "wordPlace" "I") ∈ lw_all := lw_g (lw_at lw_m11 92 rfl) rfl
theorem q2655 : (Jvm.Cond.soleField "LazyForgeModel" "wordPlace") ∈ lw_all := lw_g (lw_at lw_m11 93 rfl) rfl
theorem q2656 : (Jvm.Cond.lays "LazyForgeModel" "LazyForgeModel" "wordName" "J") ∈ lw_all := lw_g (lw_at lw_m11 94 rfl) rfl
theorem q2657 : (Jvm.Cond.soleField "LazyForgeModel" "wordName") ∈ lw_all := lw_g (lw_at lw_m11 95 rfl) rfl
theorem q2658 : (Jvm.Cond.lays "LazyForgeModel" "LazyForgeModel" "wordNumber" "I") ∈ lw_all := lw_g (lw_at lw_m11 96 rfl) rfl
theorem q2659 : (Jvm.Cond.soleField "LazyForgeModel" "wordNumber") ∈ lw_all := lw_g (lw_at lw_m11 97 rfl) rfl
theorem q2660 : (Jvm.Cond.lays "LazyForgeModel" "LazyForgeModel" "fault" "I") ∈ lw_all := lw_g (lw_at lw_m11 98 rfl) rfl
theorem q2661 : (Jvm.Cond.soleField "LazyForgeModel" "fault") ∈ lw_all := lw_g (lw_at lw_m11 99 rfl) rfl
theorem q2662 : (Jvm.Cond.lays "LazyForgeModel" "LazyForgeModel" "faultPlace" "I") ∈ lw_all := lw_g (lw_at lw_m11 100 rfl) rfl
theorem q2663 : (Jvm.Cond.soleField "LazyForgeModel" "faultPlace") ∈ lw_all := lw_g (lw_at lw_m11 101 rfl) rfl
theorem q2664 : (Jvm.Cond.lays "LazyForgeModel" "LazyForgeModel" "nodes" "I") ∈ lw_all := lw_g (lw_at lw_m11 102 rfl) rfl
theorem q2665 : (Jvm.Cond.soleField "LazyForgeModel" "nodes") ∈ lw_all := lw_g (lw_at lw_m11 103 rfl) rfl
theorem q2666 : (Jvm.Cond.laysFinal "LazyForgeModel" "LazyForgeModel" "kinds" "[I") ∈ lw_all := lw_g (lw_at lw_m11 104 rfl) rfl
theorem q2667 : (Jvm.Cond.soleField "LazyForgeModel" "kinds") ∈ lw_all := lw_g (lw_at lw_m11 105 rfl) rfl
theorem q2668 : (Jvm.Cond.laysFinal "LazyForgeModel" "LazyForgeModel" "firsts" "[I") ∈ lw_all := lw_g (lw_at lw_m11 106 rfl) rfl
theorem q2669 : (Jvm.Cond.soleField "LazyForgeModel" "firsts") ∈ lw_all := lw_g (lw_at lw_m11 107 rfl) rfl
theorem q2670 : (Jvm.Cond.laysFinal "LazyForgeModel" "LazyForgeModel" "seconds" "[I") ∈ lw_all := lw_g (lw_at lw_m11 108 rfl) rfl
theorem q2671 : (Jvm.Cond.soleField "LazyForgeModel" "seconds") ∈ lw_all := lw_g (lw_at lw_m11 109 rfl) rfl
theorem q2672 : (Jvm.Cond.laysFinal "LazyForgeModel" "LazyForgeModel" "nexts" "[I") ∈ lw_all := lw_g (lw_at lw_m11 110 rfl) rfl
theorem q2673 : (Jvm.Cond.soleField "LazyForgeModel" "nexts") ∈ lw_all := lw_g (lw_at lw_m11 111 rfl) rfl
theorem q2674 : (Jvm.Cond.laysFinal "LazyForgeModel" "LazyForgeModel" "places" "[I") ∈ lw_all := lw_g (lw_at lw_m11 112 rfl) rfl
theorem q2675 : (Jvm.Cond.soleField "LazyForgeModel" "places") ∈ lw_all := lw_g (lw_at lw_m11 113 rfl) rfl
theorem q2676 : (Jvm.Cond.laysFinal "LazyForgeModel" "LazyForgeModel" "values" "[I") ∈ lw_all := lw_g (lw_at lw_m11 114 rfl) rfl
theorem q2677 : (Jvm.Cond.soleField "LazyForgeModel" "values") ∈ lw_all := lw_g (lw_at lw_m11 115 rfl) rfl
theorem q2678 : (Jvm.Cond.laysFinal "LazyForgeModel" "LazyForgeModel" "sorts" "[I") ∈ lw_all := lw_g (lw_at lw_m11 116 rfl) rfl
theorem q2679 : (Jvm.Cond.soleField "LazyForgeModel" "sorts") ∈ lw_all := lw_g (lw_at lw_m11 117 rfl) rfl
theorem q2680 : (Jvm.Cond.laysFinal "LazyForgeModel" "LazyForgeModel" "nodeNames" "[J") ∈ lw_all := lw_g (lw_at lw_m11 118 rfl) rfl
theorem q2681 : (Jvm.Cond.soleField "LazyForgeModel" "nodeNames") ∈ lw_all := lw_g (lw_at lw_m11 119 rfl) rfl
theorem q2682 : (Jvm.Cond.laysFinal "LazyForgeModel" "LazyForgeModel" "giveBegins" "[I") ∈ lw_all := lw_g (lw_at lw_m11 120 rfl) rfl
theorem q2683 : (Jvm.Cond.soleField "LazyForgeModel" "giveBegins") ∈ lw_all := lw_g (lw_at lw_m11 121 rfl) rfl
theorem q2684 : (Jvm.Cond.laysFinal "LazyForgeModel" "LazyForgeModel" "giveCounts" "[I") ∈ lw_all := lw_g (lw_at lw_m11 122 rfl) rfl
theorem q2685 : (Jvm.Cond.soleField "LazyForgeModel" "giveCounts") ∈ lw_all := lw_g (lw_at lw_m11 123 rfl) rfl
theorem q2686 : (Jvm.Cond.lays "LazyForgeModel" "LazyForgeModel" "gives" "I") ∈ lw_all := lw_g (lw_at lw_m11 124 rfl) rfl
theorem q2687 : (Jvm.Cond.soleField "LazyForgeModel" "gives") ∈ lw_all := lw_g (lw_at lw_m11 125 rfl) rfl
theorem q2688 : (Jvm.Cond.laysFinal "LazyForgeModel" "LazyForgeModel" "given" "[J") ∈ lw_all := lw_g (lw_at lw_m11 126 rfl) rfl
theorem q2689 : (Jvm.Cond.soleField "LazyForgeModel" "given") ∈ lw_all := lw_g (lw_at lw_m11 127 rfl) rfl
theorem q2690 : (Jvm.Cond.lays "LazyForgeModel" "LazyForgeModel" "parts" "I") ∈ lw_all := lw_g (lw_at lw_m11 128 rfl) rfl
theorem q2691 : (Jvm.Cond.soleField "LazyForgeModel" "parts") ∈ lw_all := lw_g (lw_at lw_m11 129 rfl) rfl
theorem q2692 : (Jvm.Cond.lays "LazyForgeModel" "LazyForgeModel" "allParts" "I") ∈ lw_all := lw_g (lw_at lw_m11 130 rfl) rfl
theorem q2693 : (Jvm.Cond.soleField "LazyForgeModel" "allParts") ∈ lw_all := lw_g (lw_at lw_m11 131 rfl) rfl
theorem q2694 : (Jvm.Cond.lays "LazyForgeModel" "LazyForgeModel" "functions" "I") ∈ lw_all := lw_g (lw_at lw_m11 132 rfl) rfl
theorem q2695 : (Jvm.Cond.soleField "LazyForgeModel" "functions") ∈ lw_all := lw_g (lw_at lw_m11 133 rfl) rfl
theorem q2696 : (Jvm.Cond.laysFinal "LazyForgeModel" "LazyForgeModel" "functionNames" "[J") ∈ lw_all := lw_g (lw_at lw_m11 134 rfl) rfl
theorem q2697 : (Jvm.Cond.soleField "LazyForgeModel" "functionNames") ∈ lw_all := lw_g (lw_at lw_m11 135 rfl) rfl
theorem q2698 : (Jvm.Cond.laysFinal "LazyForgeModel" "LazyForgeModel" "functionPlaces" "[I") ∈ lw_all := lw_g (lw_at lw_m11 136 rfl) rfl
theorem q2699 : (Jvm.Cond.soleField "LazyForgeModel" "functionPlaces") ∈ lw_all := lw_g (lw_at lw_m11 137 rfl) rfl
theorem q2700 : (Jvm.Cond.laysFinal "LazyForgeModel" "LazyForgeModel" "functionNodes" "[I") ∈ lw_all := lw_g (lw_at lw_m11 138 rfl) rfl
theorem q2701 : (Jvm.Cond.soleField "LazyForgeModel" "functionNodes") ∈ lw_all := lw_g (lw_at lw_m11 139 rfl) rfl
theorem q2702 : (Jvm.Cond.lays "LazyForgeModel" "LazyForgeModel" "constructors" "I") ∈ lw_all := lw_g (lw_at lw_m11 140 rfl) rfl
theorem q2703 : (Jvm.Cond.soleField "LazyForgeModel" "constructors") ∈ lw_all := lw_g (lw_at lw_m11 141 rfl) rfl
theorem q2704 : (Jvm.Cond.laysFinal "LazyForgeModel" "LazyForgeModel" "constructorNames" "[J") ∈ lw_all := lw_g (lw_at lw_m11 142 rfl) rfl
theorem q2705 : (Jvm.Cond.soleField "LazyForgeModel" "constructorNames") ∈ lw_all := lw_g (lw_at lw_m11 143 rfl) rfl
theorem q2706 : (Jvm.Cond.laysFinal "LazyForgeModel" "LazyForgeModel" "fieldCounts" "[I") ∈ lw_all := lw_g (lw_at lw_m11 144 rfl) rfl
theorem q2707 : (Jvm.Cond.soleField "LazyForgeModel" "fieldCounts") ∈ lw_all := lw_g (lw_at lw_m11 145 rfl) rfl
theorem q2708 : (Jvm.Cond.lays "LazyForgeModel" "LazyForgeModel" "open" "I") ∈ lw_all := lw_g (lw_at lw_m11 146 rfl) rfl
theorem q2709 : (Jvm.Cond.soleField "LazyForgeModel" "open") ∈ lw_all := lw_g (lw_at lw_m11 147 rfl) rfl
theorem q2710 : (Jvm.Cond.lays "LazyForgeModel" "LazyForgeModel" "piled" "I") ∈ lw_all := lw_g (lw_at lw_m11 148 rfl) rfl
theorem q2711 : (Jvm.Cond.soleField "LazyForgeModel" "piled") ∈ lw_all := lw_g (lw_at lw_m11 149 rfl) rfl
theorem q2712 : (Jvm.Cond.laysFinal "LazyForgeModel" "LazyForgeModel" "pileKinds" "[I") ∈ lw_all := lw_g (lw_at lw_m11 150 rfl) rfl
theorem q2713 : (Jvm.Cond.soleField "LazyForgeModel" "pileKinds") ∈ lw_all := lw_g (lw_at lw_m11 151 rfl) rfl
theorem q2714 : (Jvm.Cond.laysFinal "LazyForgeModel" "LazyForgeModel" "pileNodes" "[I") ∈ lw_all := lw_g (lw_at lw_m11 152 rfl) rfl
theorem q2715 : (Jvm.Cond.soleField "LazyForgeModel" "pileNodes") ∈ lw_all := lw_g (lw_at lw_m11 153 rfl) rfl
theorem q2716 : (Jvm.Cond.laysFinal "LazyForgeModel" "LazyForgeModel" "pileRanks" "[I") ∈ lw_all := lw_g (lw_at lw_m11 154 rfl) rfl
theorem q2717 : (Jvm.Cond.soleField "LazyForgeModel" "pileRanks") ∈ lw_all := lw_g (lw_at lw_m11 155 rfl) rfl
theorem q2718 : (Jvm.Cond.laysFinal "LazyForgeModel" "LazyForgeModel" "pileCounts" "[I") ∈ lw_all := lw_g (lw_at lw_m11 156 rfl) rfl
theorem q2719 : (Jvm.Cond.soleField "LazyForgeModel" "pileCounts") ∈ lw_all := lw_g (lw_at lw_m11 157 rfl) rfl
theorem q2720 : (Jvm.Cond.lays "LazyForgeModel" "LazyForgeModel" "operands" "I") ∈ lw_all := lw_g (lw_at lw_m11 158 rfl) rfl
theorem q2721 : (Jvm.Cond.soleField "LazyForgeModel" "operands") ∈ lw_all := lw_g (lw_at lw_m11 159 rfl) rfl
theorem q2722 : (Jvm.Cond.laysFinal "LazyForgeModel" "LazyForgeModel" "operandNodes" "[I") ∈ lw_all := lw_g (lw_at lw_m11 160 rfl) rfl
theorem q2723 : (Jvm.Cond.soleField "LazyForgeModel" "operandNodes") ∈ lw_all := lw_g (lw_at lw_m11 161 rfl) rfl
theorem q2724 : (Jvm.Cond.lays "LazyForgeModel" "LazyForgeModel" "startsE" "Z") ∈ lw_all := lw_g (lw_at lw_m11 162 rfl) rfl
theorem q2725 : (Jvm.Cond.soleField "LazyForgeModel" "startsE") ∈ lw_all := lw_g (lw_at lw_m11 163 rfl) rfl
theorem q2726 : (Jvm.Cond.lays "LazyForgeModel" "LazyForgeModel" "wants" "Z") ∈ lw_all := lw_g (lw_at lw_m11 164 rfl) rfl
theorem q2727 : (Jvm.Cond.soleField "LazyForgeModel" "wants") ∈ lw_all := lw_g (lw_at lw_m11 165 rfl) rfl
theorem q2728 : (Jvm.Cond.lays "LazyForgeModel" "LazyForgeModel" "isApplied" "Z") ∈ lw_all := lw_g (lw_at lw_m11 166 rfl) rfl
theorem q2729 : (Jvm.Cond.soleField "LazyForgeModel" "isApplied") ∈ lw_all := lw_g (lw_at lw_m11 167 rfl) rfl
theorem q2730 : (Jvm.Cond.lays "LazyForgeModel" "LazyForgeModel" "isEnded" "Z") ∈ lw_all := lw_g (lw_at lw_m11 168 rfl) rfl
theorem q2731 : (Jvm.Cond.soleField "LazyForgeModel" "isEnded") ∈ lw_all := lw_g (lw_at lw_m11 169 rfl) rfl
theorem q2732 : (Jvm.Cond.lays "LazyForgeModel" "LazyForgeModel" "named" "I") ∈ lw_all := lw_g (lw_at lw_m11 170 rfl) rfl
theorem q2733 : (Jvm.Cond.soleField "LazyForgeModel" "named") ∈ lw_all := lw_g (lw_at lw_m11 171 rfl) rfl
theorem q2734 : (Jvm.Cond.laysFinal "LazyForgeModel" "LazyForgeModel" "functionOf" "[I") ∈ lw_all := lw_g (lw_at lw_m11 172 rfl) rfl
theorem q2735 : (Jvm.Cond.soleField "LazyForgeModel" "functionOf") ∈ lw_all := lw_g (lw_at lw_m11 173 rfl) rfl
theorem q2736 : (Jvm.Cond.laysFinal "LazyForgeModel" "LazyForgeModel" "freeCounts" "[I") ∈ lw_all := lw_g (lw_at lw_m11 174 rfl) rfl
theorem q2737 : (Jvm.Cond.soleField "LazyForgeModel" "freeCounts") ∈ lw_all := lw_g (lw_at lw_m11 175 rfl) rfl
theorem q2738 : (Jvm.Cond.laysFinal "LazyForgeModel" "LazyForgeModel" "frees" "[I") ∈ lw_all := lw_g (lw_at lw_m11 176 rfl) rfl
theorem q2739 : (Jvm.Cond.soleField "LazyForgeModel" "frees") ∈ lw_all := lw_g (lw_at lw_m11 177 rfl) rfl
theorem q2740 : (Jvm.Cond.lays "LazyForgeModel" "LazyForgeModel" "variables" "I") ∈ lw_all := lw_g (lw_at lw_m11 178 rfl) rfl
theorem q2741 : (Jvm.Cond.soleField "LazyForgeModel" "variables") ∈ lw_all := lw_g (lw_at lw_m11 179 rfl) rfl
theorem q2742 : (Jvm.Cond.laysFinal "LazyForgeModel" "LazyForgeModel" "homes" "[I") ∈ lw_all := lw_g (lw_at lw_m11 180 rfl) rfl
theorem q2743 : (Jvm.Cond.soleField "LazyForgeModel" "homes") ∈ lw_all := lw_g (lw_at lw_m11 181 rfl) rfl
theorem q2744 : (Jvm.Cond.laysFinal "LazyForgeModel" "LazyForgeModel" "owns" "[I") ∈ lw_all := lw_g (lw_at lw_m11 182 rfl) rfl
theorem q2745 : (Jvm.Cond.soleField "LazyForgeModel" "owns") ∈ lw_all := lw_g (lw_at lw_m11 183 rfl) rfl
theorem q2746 : (Jvm.Cond.laysFinal "LazyForgeModel" "LazyForgeModel" "ownCounts" "[I") ∈ lw_all := lw_g (lw_at lw_m11 184 rfl) rfl
theorem q2747 : (Jvm.Cond.soleField "LazyForgeModel" "ownCounts") ∈ lw_all := lw_g (lw_at lw_m11 185 rfl) rfl
theorem q2748 : (Jvm.Cond.laysFinal "LazyForgeModel" "LazyForgeModel" "firstVariables" "[I") ∈ lw_all := lw_g (lw_at lw_m11 186 rfl) rfl
theorem q2749 : (Jvm.Cond.soleField "LazyForgeModel" "firstVariables") ∈ lw_all := lw_g (lw_at lw_m11 187 rfl) rfl
theorem q2750 : (Jvm.Cond.lays "LazyForgeModel" "LazyForgeModel" "seen" "I") ∈ lw_all := lw_g (lw_at lw_m11 188 rfl) rfl
theorem q2751 : (Jvm.Cond.soleField "LazyForgeModel" "seen") ∈ lw_all := lw_g (lw_at lw_m11 189 rfl) rfl
theorem q2752 : (Jvm.Cond.laysFinal "LazyForgeModel" "LazyForgeModel" "seenNames" "[J") ∈ lw_all := lw_g (lw_at lw_m11 190 rfl) rfl
theorem q2753 : (Jvm.Cond.soleField "LazyForgeModel" "seenNames") ∈ lw_all := lw_g (lw_at lw_m11 191 rfl) rfl
theorem q2754 : (Jvm.Cond.laysFinal "LazyForgeModel" "LazyForgeModel" "seenVariables" "[I") ∈ lw_all := lw_g (lw_at lw_m11 192 rfl) rfl
theorem q2755 : (Jvm.Cond.soleField "LazyForgeModel" "seenVariables") ∈ lw_all := lw_g (lw_at lw_m11 193 rfl) rfl
theorem q2756 : (Jvm.Cond.lays "LazyForgeModel" "LazyForgeModel" "around" "I") ∈ lw_all := lw_g (lw_at lw_m11 194 rfl) rfl
theorem q2757 : (Jvm.Cond.soleField "LazyForgeModel" "around") ∈ lw_all := lw_g (lw_at lw_m11 195 rfl) rfl
theorem q2758 : (Jvm.Cond.laysFinal "LazyForgeModel" "LazyForgeModel" "arounds" "[I") ∈ lw_all := lw_g (lw_at lw_m11 196 rfl) rfl
theorem q2759 : (Jvm.Cond.soleField "LazyForgeModel" "arounds") ∈ lw_all := lw_g (lw_at lw_m11 197 rfl) rfl
theorem q2760 : (Jvm.Cond.laysFinal "LazyForgeModel" "LazyForgeModel" "walk" "[I") ∈ lw_all := lw_g (lw_at lw_m11 198 rfl) rfl
theorem q2761 : (Jvm.Cond.soleField "LazyForgeModel" "walk") ∈ lw_all := lw_g (lw_at lw_m11 199 rfl) rfl
theorem q2762 : (Jvm.Cond.laysFinal "LazyForgeModel" "LazyForgeModel" "walkStages" "[I") ∈ lw_all := lw_g (lw_at lw_m11 200 rfl) rfl
theorem q2763 : (Jvm.Cond.soleField "LazyForgeModel" "walkStages") ∈ lw_all := lw_g (lw_at lw_m11 201 rfl) rfl
theorem q2764 : (Jvm.Cond.laysFinal "LazyForgeModel" "LazyForgeModel" "walkChildren" "[I") ∈ lw_all := lw_g (lw_at lw_m11 202 rfl) rfl
theorem q2765 : (Jvm.Cond.soleField "LazyForgeModel" "walkChildren") ∈ lw_all := lw_g (lw_at lw_m11 203 rfl) rfl
theorem q2766 : (Jvm.Cond.lays "LazyForgeModel" "LazyForgeModel" "lifted" "I") ∈ lw_all := lw_g (lw_at lw_m11 204 rfl) rfl
theorem q2767 : (Jvm.Cond.soleField "LazyForgeModel" "lifted") ∈ lw_all := lw_g (lw_at lw_m11 205 rfl) rfl
theorem q2768 : (Jvm.Cond.laysFinal "LazyForgeModel" "LazyForgeModel" "liftKinds" "[I") ∈ lw_all := lw_g (lw_at lw_m11 206 rfl) rfl
theorem q2769 : (Jvm.Cond.soleField "LazyForgeModel" "liftKinds") ∈ lw_all := lw_g (lw_at lw_m11 207 rfl) rfl
theorem q2770 : (Jvm.Cond.laysFinal "LazyForgeModel" "LazyForgeModel" "liftValues" "[I") ∈ lw_all := lw_g (lw_at lw_m11 208 rfl) rfl
theorem q2771 : (Jvm.Cond.soleField "LazyForgeModel" "liftValues") ∈ lw_all := lw_g (lw_at lw_m11 209 rfl) rfl
theorem q2772 : (Jvm.Cond.laysFinal "LazyForgeModel" "LazyForgeModel" "liftBegins" "[I") ∈ lw_all := lw_g (lw_at lw_m11 210 rfl) rfl
theorem q2773 : (Jvm.Cond.soleField "LazyForgeModel" "liftBegins") ∈ lw_all := lw_g (lw_at lw_m11 211 rfl) rfl
theorem q2774 : (Jvm.Cond.laysFinal "LazyForgeModel" "LazyForgeModel" "liftCounts" "[I") ∈ lw_all := lw_g (lw_at lw_m11 212 rfl) rfl
theorem q2775 : (Jvm.Cond.soleField "LazyForgeModel" "liftCounts") ∈ lw_all := lw_g (lw_at lw_m11 213 rfl) rfl
theorem q2776 : (Jvm.Cond.laysFinal "LazyForgeModel" "LazyForgeModel" "liftVariables" "[I") ∈ lw_all := lw_g (lw_at lw_m11 214 rfl) rfl
theorem q2777 : (Jvm.Cond.soleField "LazyForgeModel" "liftVariables") ∈ lw_all := lw_g (lw_at lw_m11 215 rfl) rfl
theorem q2778 : (Jvm.Cond.laysFinal "LazyForgeModel" "LazyForgeModel" "liftNeeds" "[Z") ∈ lw_all := lw_g (lw_at lw_m11 216 rfl) rfl
theorem q2779 : (Jvm.Cond.soleField "LazyForgeModel" "liftNeeds") ∈ lw_all := lw_g (lw_at lw_m11 217 rfl) rfl
theorem q2780 : (Jvm.Cond.laysFinal "LazyForgeModel" "LazyForgeModel" "heights" "[I") ∈ lw_all := lw_g (lw_at lw_m11 218 rfl) rfl
theorem q2781 : (Jvm.Cond.soleField "LazyForgeModel" "heights") ∈ lw_all := lw_g (lw_at lw_m11 219 rfl) rfl
theorem q2782 : (Jvm.Cond.laysFinal "LazyForgeModel" "LazyForgeModel" "liftFunctions" "[I") ∈ lw_all := lw_g (lw_at lw_m11 220 rfl) rfl
theorem q2783 : (Jvm.Cond.soleField "LazyForgeModel" "liftFunctions") ∈ lw_all := lw_g (lw_at lw_m11 221 rfl) rfl
theorem q2784 : (Jvm.Cond.laysFinal "LazyForgeModel" "LazyForgeModel" "outside" "[J") ∈ lw_all := lw_g (lw_at lw_m11 222 rfl) rfl
theorem q2785 : (Jvm.Cond.soleField "LazyForgeModel" "outside") ∈ lw_all := lw_g (lw_at lw_m11 223 rfl) rfl
theorem q2786 : (Jvm.Cond.lays "LazyForgeModel" "LazyForgeModel" "childTop" "I") ∈ lw_all := lw_g (lw_at lw_m11 224 rfl) rfl
theorem q2787 : (Jvm.Cond.soleField "LazyForgeModel" "childTop") ∈ lw_all := lw_g (lw_at lw_m11 225 rfl) rfl
theorem q2788 : (Jvm.Cond.laysFinal "LazyForgeModel" "LazyForgeModel" "liftChildren" "[I") ∈ lw_all := lw_g (lw_at lw_m11 226 rfl) rfl
theorem q2789 : (Jvm.Cond.soleField "LazyForgeModel" "liftChildren") ∈ lw_all := lw_g (lw_at lw_m11 227 rfl) rfl
theorem q2790 : (Jvm.Cond.laysFinal "LazyForgeModel" "LazyForgeModel" "branchSorts" "[I") ∈ lw_all := lw_g (lw_at lw_m11 228 rfl) rfl
theorem q2791 : (Jvm.Cond.soleField "LazyForgeModel" "branchSorts") ∈ lw_all := lw_g (lw_at lw_m11 229 rfl) rfl
theorem q2792 : (Jvm.Cond.laysFinal "LazyForgeModel" "LazyForgeModel" "branchValues" "[I") ∈ lw_all := lw_g (lw_at lw_m11 230 rfl) rfl
theorem q2793 : (Jvm.Cond.soleField "LazyForgeModel" "branchValues") ∈ lw_all := lw_g (lw_at lw_m11 231 rfl) rfl
theorem q2794 : (Jvm.Cond.laysFinal "LazyForgeModel" "LazyForgeModel" "branchVariables" "[I") ∈ lw_all := lw_g (lw_at lw_m11 232 rfl) rfl
theorem q2795 : (Jvm.Cond.soleField "LazyForgeModel" "branchVariables") ∈ lw_all := lw_g (lw_at lw_m11 233 rfl) rfl
theorem q2796 : (Jvm.Cond.laysFinal "LazyForgeModel" "LazyForgeModel" "branchCounts" "[I") ∈ lw_all := lw_g (lw_at lw_m11 234 rfl) rfl
theorem q2797 : (Jvm.Cond.soleField "LazyForgeModel" "branchCounts") ∈ lw_all := lw_g (lw_at lw_m11 235 rfl) rfl
theorem q2798 : (Jvm.Cond.laysFinal "LazyForgeModel" "LazyForgeModel" "begins" "[I") ∈ lw_all := lw_g (lw_at lw_m11 236 rfl) rfl
theorem q2799 : (Jvm.Cond.soleField "LazyForgeModel" "begins") ∈ lw_all := lw_g (lw_at lw_m11 237 rfl) rfl
theorem q2800 : (Jvm.Cond.laysFinal "LazyForgeModel" "LazyForgeModel" "roots" "[I") ∈ lw_all := lw_g (lw_at lw_m11 238 rfl) rfl
theorem q2801 : (Jvm.Cond.soleField "LazyForgeModel" "roots") ∈ lw_all := lw_g (lw_at lw_m11 239 rfl) rfl
theorem q2802 : (Jvm.Cond.laysFinal "LazyForgeModel" "LazyForgeModel" "variableCounts" "[I") ∈ lw_all := lw_g (lw_at lw_m12 0 rfl) rfl
theorem q2803 : (Jvm.Cond.soleField "LazyForgeModel" "variableCounts") ∈ lw_all := lw_g (lw_at lw_m12 1 rfl) rfl
theorem q2804 : (Jvm.Cond.laysFinal "LazyForgeModel" "LazyForgeModel" "parameterCounts" "[I") ∈ lw_all := lw_g (lw_at lw_m12 2 rfl) rfl
theorem q2805 : (Jvm.Cond.soleField "LazyForgeModel" "parameterCounts") ∈ lw_all := lw_g (lw_at lw_m12 3 rfl) rfl
theorem q2806 : (Jvm.Cond.lays "LazyForgeModel" "LazyForgeModel" "held" "I") ∈ lw_all := lw_g (lw_at lw_m12 4 rfl) rfl
theorem q2807 : (Jvm.Cond.soleField "LazyForgeModel" "held") ∈ lw_all := lw_g (lw_at lw_m12 5 rfl) rfl
theorem q2808 : (Jvm.Cond.laysFinal "LazyForgeModel" "LazyForgeModel" "heldNodes" "[I") ∈ lw_all := lw_g (lw_at lw_m12 6 rfl) rfl
theorem q2809 : (Jvm.Cond.soleField "LazyForgeModel" "heldNodes") ∈ lw_all := lw_g (lw_at lw_m12 7 rfl) rfl
theorem q2810 : (Jvm.Cond.laysFinal "LazyForgeModel" "LazyForgeModel" "tables" "[Z") ∈ lw_all := lw_g (lw_at lw_m12 8 rfl) rfl
theorem q2811 : (Jvm.Cond.soleField "LazyForgeModel" "tables") ∈ lw_all := lw_g (lw_at lw_m12 9 rfl) rfl
theorem q2812 : (Jvm.Cond.laysFinal "LazyForgeModel" "LazyForgeModel" "bitOf" "[Z") ∈ lw_all := lw_g (lw_at lw_m12 10 rfl) rfl
theorem q2813 : (Jvm.Cond.soleField "LazyForgeModel" "bitOf") ∈ lw_all := lw_g (lw_at lw_m12 11 rfl) rfl
theorem q2814 : (Jvm.Cond.laysFinal "LazyForgeModel" "LazyForgeModel" "has" "[Z") ∈ lw_all := lw_g (lw_at lw_m12 12 rfl) rfl
theorem q2815 : (Jvm.Cond.soleField "LazyForgeModel" "has") ∈ lw_all := lw_g (lw_at lw_m12 13 rfl) rfl
theorem q2816 : (Jvm.Cond.lays "LazyForgeModel" "LazyForgeModel" "hasProgram" "Z") ∈ lw_all := lw_g (lw_at lw_m12 14 rfl) rfl
theorem q2817 : (Jvm.Cond.soleField "LazyForgeModel" "hasProgram") ∈ lw_all := lw_g (lw_at lw_m12 15 rfl) rfl
theorem q2818 : (Jvm.Cond.lays "LazyForgeModel" "LazyForgeModel" "lastFault" "I") ∈ lw_all := lw_g (lw_at lw_m12 16 rfl) rfl
theorem q2819 : (Jvm.Cond.soleField "LazyForgeModel" "lastFault") ∈ lw_all := lw_g (lw_at lw_m12 17 rfl) rfl
theorem q2820 : (Jvm.Cond.lays "LazyForgeModel" "LazyForgeModel" "lastPlace" "I") ∈ lw_all := lw_g (lw_at lw_m12 18 rfl) rfl
theorem q2821 : (Jvm.Cond.soleField "LazyForgeModel" "lastPlace") ∈ lw_all := lw_g (lw_at lw_m12 19 rfl) rfl
theorem q2822 : (Jvm.Cond.laysFinal "LazyForgeModel" "LazyForgeModel" "needed" "[Z") ∈ lw_all := lw_g (lw_at lw_m12 20 rfl) rfl
theorem q2823 : (Jvm.Cond.soleField "LazyForgeModel" "needed") ∈ lw_all := lw_g (lw_at lw_m12 21 rfl) rfl
theorem q2824 : (Jvm.Cond.laysFinal "LazyForgeModel" "LazyForgeModel" "cellSorts" "[I") ∈ lw_all := lw_g (lw_at lw_m12 22 rfl) rfl
theorem q2825 : (Jvm.Cond.soleField "LazyForgeModel" "cellSorts") ∈ lw_all := lw_g (lw_at lw_m12 23 rfl) rfl
theorem q2826 : (Jvm.Cond.laysFinal "LazyForgeModel" "LazyForgeModel" "cellValues" "[I") ∈ lw_all := lw_g (lw_at lw_m12 24 rfl) rfl
theorem q2827 : (Jvm.Cond.soleField "LazyForgeModel" "cellValues") ∈ lw_all := lw_g (lw_at lw_m12 25 rfl) rfl
theorem q2828 : (Jvm.Cond.laysFinal "LazyForgeModel" "LazyForgeModel" "cellDone" "[J") ∈ lw_all := lw_g (lw_at lw_m12 26 rfl) rfl
theorem q2829 : (Jvm.Cond.soleField "LazyForgeModel" "cellDone") ∈ lw_all := lw_g (lw_at lw_m12 27 rfl) rfl
theorem q2830 : (Jvm.Cond.laysFinal "LazyForgeModel" "LazyForgeModel" "cellBegins" "[I") ∈ lw_all := lw_g (lw_at lw_m12 28 rfl) rfl
theorem q2831 : (Jvm.Cond.soleField "LazyForgeModel" "cellBegins") ∈ lw_all := lw_g (lw_at lw_m12 29 rfl) rfl
theorem q2832 : (Jvm.Cond.laysFinal "LazyForgeModel" "LazyForgeModel" "cellCounts" "[I") ∈ lw_all := lw_g (lw_at lw_m12 30 rfl) rfl
theorem q2833 : (Jvm.Cond.soleField "LazyForgeModel" "cellCounts") ∈ lw_all := lw_g (lw_at lw_m12 31 rfl) rfl
theorem q2834 : (Jvm.Cond.lays "LazyForgeModel" "LazyForgeModel" "cellsMade" "I") ∈ lw_all := lw_g (lw_at lw_m12 32 rfl) rfl
theorem q2835 : (Jvm.Cond.soleField "LazyForgeModel" "cellsMade") ∈ lw_all := lw_g (lw_at lw_m12 33 rfl) rfl
theorem q2836 : (Jvm.Cond.lays "LazyForgeModel" "LazyForgeModel" "fieldTop" "I") ∈ lw_all := lw_g (lw_at lw_m12 34 rfl) rfl
theorem q2837 : (Jvm.Cond.soleField "LazyForgeModel" "fieldTop") ∈ lw_all := lw_g (lw_at lw_m12 35 rfl) rfl
theorem q2838 : (Jvm.Cond.laysFinal "LazyForgeModel" "LazyForgeModel" "fields" "[J") ∈ lw_all := lw_g (lw_at lw_m12 36 rfl) rfl
theorem q2839 : (Jvm.Cond.soleField "LazyForgeModel" "fields") ∈ lw_all := lw_g (lw_at lw_m12 37 rfl) rfl
theorem q2840 : (Jvm.Cond.lays "LazyForgeModel" "LazyForgeModel" "cells" "I") ∈ lw_all := lw_g (lw_at lw_m12 38 rfl) rfl
theorem q2841 : (Jvm.Cond.soleField "LazyForgeModel" "cells") ∈ lw_all := lw_g (lw_at lw_m12 39 rfl) rfl
theorem q2842 : (Jvm.Cond.lays "LazyForgeModel" "LazyForgeModel" "allCells" "I") ∈ lw_all := lw_g (lw_at lw_m12 40 rfl) rfl
theorem q2843 : (Jvm.Cond.soleField "LazyForgeModel" "allCells") ∈ lw_all := lw_g (lw_at lw_m12 41 rfl) rfl
theorem q2844 : (Jvm.Cond.lays "LazyForgeModel" "LazyForgeModel" "allCalls" "I") ∈ lw_all := lw_g (lw_at lw_m12 42 rfl) rfl
theorem q2845 : (Jvm.Cond.soleField "LazyForgeModel" "allCalls") ∈ lw_all := lw_g (lw_at lw_m12 43 rfl) rfl
theorem q2846 : (Jvm.Cond.lays "LazyForgeModel" "LazyForgeModel" "callsLeft" "I") ∈ lw_all := lw_g (lw_at lw_m12 44 rfl) rfl
theorem q2847 : (Jvm.Cond.soleField "LazyForgeModel" "callsLeft") ∈ lw_all := lw_g (lw_at lw_m12 45 rfl) rfl
theorem q2848 : (Jvm.Cond.lays "LazyForgeModel" "LazyForgeModel" "calls" "I") ∈ lw_all := lw_g (lw_at lw_m12 46 rfl) rfl
theorem q2849 : (Jvm.Cond.soleField "LazyForgeModel" "calls") ∈ lw_all := lw_g (lw_at lw_m12 47 rfl) rfl
theorem q2850 : (Jvm.Cond.lays "LazyForgeModel" "LazyForgeModel" "suspensions" "I") ∈ lw_all := lw_g (lw_at lw_m12 48 rfl) rfl
theorem q2851 : (Jvm.Cond.soleField "LazyForgeModel" "suspensions") ∈ lw_all := lw_g (lw_at lw_m12 49 rfl) rfl
theorem q2852 : (Jvm.Cond.lays "LazyForgeModel" "LazyForgeModel" "partials" "I") ∈ lw_all := lw_g (lw_at lw_m12 50 rfl) rfl
theorem q2853 : (Jvm.Cond.soleField "LazyForgeModel" "partials") ∈ lw_all := lw_g (lw_at lw_m12 51 rfl) rfl
theorem q2854 : (Jvm.Cond.lays "LazyForgeModel" "LazyForgeModel" "objects" "I") ∈ lw_all := lw_g (lw_at lw_m12 52 rfl) rfl
theorem q2855 : (Jvm.Cond.soleField "LazyForgeModel" "objects") ∈ lw_all := lw_g (lw_at lw_m12 53 rfl) rfl
theorem q2856 : (Jvm.Cond.lays "LazyForgeModel" "LazyForgeModel" "updates" "I") ∈ lw_all := lw_g (lw_at lw_m12 54 rfl) rfl
theorem q2857 : (Jvm.Cond.soleField "LazyForgeModel" "updates") ∈ lw_all := lw_g (lw_at lw_m12 55 rfl) rfl
theorem q2858 : (Jvm.Cond.lays "LazyForgeModel" "LazyForgeModel" "atOnce" "I") ∈ lw_all := lw_g (lw_at lw_m12 56 rfl) rfl
theorem q2859 : (Jvm.Cond.soleField "LazyForgeModel" "atOnce") ∈ lw_all := lw_g (lw_at lw_m12 57 rfl) rfl
theorem q2860 : (Jvm.Cond.laysFinal "LazyForgeModel" "LazyForgeModel" "calledCounts" "[I") ∈ lw_all := lw_g (lw_at lw_m12 58 rfl) rfl
theorem q2861 : (Jvm.Cond.soleField "LazyForgeModel" "calledCounts") ∈ lw_all := lw_g (lw_at lw_m12 59 rfl) rfl
theorem q2862 : (Jvm.Cond.lays "LazyForgeModel" "LazyForgeModel" "how" "I") ∈ lw_all := lw_g (lw_at lw_m12 60 rfl) rfl
theorem q2863 : (Jvm.Cond.soleField "LazyForgeModel" "how") ∈ lw_all := lw_g (lw_at lw_m12 61 rfl) rfl
theorem q2864 : (Jvm.Cond.lays "LazyForgeModel" "LazyForgeModel" "why" "I") ∈ lw_all := lw_g (lw_at lw_m12 62 rfl) rfl
theorem q2865 : (Jvm.Cond.soleField "LazyForgeModel" "why") ∈ lw_all := lw_g (lw_at lw_m12 63 rfl) rfl
theorem q2866 : (Jvm.Cond.lays "LazyForgeModel" "LazyForgeModel" "rowCounted" "I") ∈ lw_all := lw_g (lw_at lw_m12 64 rfl) rfl
theorem q2867 : (Jvm.Cond.soleField "LazyForgeModel" "rowCounted") ∈ lw_all := lw_g (lw_at lw_m12 65 rfl) rfl
theorem q2868 : (Jvm.Cond.laysFinal "LazyForgeModel" "LazyForgeModel" "row" "[I") ∈ lw_all := lw_g (lw_at lw_m12 66 rfl) rfl
theorem q2869 : (Jvm.Cond.soleField "LazyForgeModel" "row") ∈ lw_all := lw_g (lw_at lw_m12 67 rfl) rfl
theorem q2870 : (Jvm.Cond.lays "LazyForgeModel" "LazyForgeModel" "eager" "Z") ∈ lw_all := lw_g (lw_at lw_m12 68 rfl) rfl
theorem q2871 : (Jvm.Cond.soleField "LazyForgeModel" "eager") ∈ lw_all := lw_g (lw_at lw_m12 69 rfl) rfl
theorem q2872 : (Jvm.Cond.lays "LazyForgeModel" "LazyForgeModel" "waiting" "I") ∈ lw_all := lw_g (lw_at lw_m12 70 rfl) rfl
theorem q2873 : (Jvm.Cond.soleField "LazyForgeModel" "waiting") ∈ lw_all := lw_g (lw_at lw_m12 71 rfl) rfl
theorem q2874 : (Jvm.Cond.laysFinal "LazyForgeModel" "LazyForgeModel" "waitKinds" "[I") ∈ lw_all := lw_g (lw_at lw_m12 72 rfl) rfl
theorem q2875 : (Jvm.Cond.soleField "LazyForgeModel" "waitKinds") ∈ lw_all := lw_g (lw_at lw_m12 73 rfl) rfl
theorem q2876 : (Jvm.Cond.laysFinal "LazyForgeModel" "LazyForgeModel" "waitBases" "[I") ∈ lw_all := lw_g (lw_at lw_m12 74 rfl) rfl
theorem q2877 : (Jvm.Cond.soleField "LazyForgeModel" "waitBases") ∈ lw_all := lw_g (lw_at lw_m12 75 rfl) rfl
theorem q2878 : (Jvm.Cond.laysFinal "LazyForgeModel" "LazyForgeModel" "waitMore" "[I") ∈ lw_all := lw_g (lw_at lw_m12 76 rfl) rfl
theorem q2879 : (Jvm.Cond.soleField "LazyForgeModel" "waitMore") ∈ lw_all := lw_g (lw_at lw_m12 77 rfl) rfl
theorem q2880 : (Jvm.Cond.lays "LazyForgeModel" "LazyForgeModel" "top" "I") ∈ lw_all := lw_g (lw_at lw_m12 78 rfl) rfl
theorem q2881 : (Jvm.Cond.soleField "LazyForgeModel" "top") ∈ lw_all := lw_g (lw_at lw_m12 79 rfl) rfl
theorem q2882 : (Jvm.Cond.laysFinal "LazyForgeModel" "LazyForgeModel" "stack" "[J") ∈ lw_all := lw_g (lw_at lw_m12 80 rfl) rfl
theorem q2883 : (Jvm.Cond.soleField "LazyForgeModel" "stack") ∈ lw_all := lw_g (lw_at lw_m12 81 rfl) rfl
theorem q2884 : (Jvm.Cond.lays "LazyForgeModel" "LazyForgeModel" "base" "I") ∈ lw_all := lw_g (lw_at lw_m12 82 rfl) rfl
theorem q2885 : (Jvm.Cond.soleField "LazyForgeModel" "base") ∈ lw_all := lw_g (lw_at lw_m12 83 rfl) rfl
theorem q2886 : (Jvm.Cond.lays "LazyForgeModel" "LazyForgeModel" "localTop" "I") ∈ lw_all := lw_g (lw_at lw_m12 84 rfl) rfl
theorem q2887 : (Jvm.Cond.soleField "LazyForgeModel" "localTop") ∈ lw_all := lw_g (lw_at lw_m12 85 rfl) rfl
theorem q2888 : (Jvm.Cond.laysFinal "LazyForgeModel" "LazyForgeModel" "locals" "[J") ∈ lw_all := lw_g (lw_at lw_m12 86 rfl) rfl
theorem q2889 : (Jvm.Cond.soleField "LazyForgeModel" "locals") ∈ lw_all := lw_g (lw_at lw_m12 87 rfl) rfl
theorem q2890 : (Jvm.Cond.lays "LazyForgeModel" "LazyForgeModel" "current" "I") ∈ lw_all := lw_g (lw_at lw_m12 88 rfl) rfl
theorem q2891 : (Jvm.Cond.soleField "LazyForgeModel" "current") ∈ lw_all := lw_g (lw_at lw_m12 89 rfl) rfl
theorem q2892 : (Jvm.Cond.lays "LazyForgeModel" "LazyForgeModel" "has0" "Z") ∈ lw_all := lw_g (lw_at lw_m12 90 rfl) rfl
theorem q2893 : (Jvm.Cond.soleField "LazyForgeModel" "has0") ∈ lw_all := lw_g (lw_at lw_m12 91 rfl) rfl
theorem q2894 : (Jvm.Cond.lays "LazyForgeModel" "LazyForgeModel" "result" "J") ∈ lw_all := lw_g (lw_at lw_m12 92 rfl) rfl
theorem q2895 : (Jvm.Cond.soleField "LazyForgeModel" "result") ∈ lw_all := lw_g (lw_at lw_m12 93 rfl) rfl
theorem q2896 : (Jvm.Cond.lays "LazyForgeModel" "LazyForgeModel" "tasks" "I") ∈ lw_all := lw_g (lw_at lw_m12 94 rfl) rfl
theorem q2897 : (Jvm.Cond.soleField "LazyForgeModel" "tasks") ∈ lw_all := lw_g (lw_at lw_m12 95 rfl) rfl
theorem q2898 : (Jvm.Cond.laysFinal "LazyForgeModel" "LazyForgeModel" "taskParts" "[I") ∈ lw_all := lw_g (lw_at lw_m12 96 rfl) rfl
theorem q2899 : (Jvm.Cond.soleField "LazyForgeModel" "taskParts") ∈ lw_all := lw_g (lw_at lw_m12 97 rfl) rfl
theorem q2900 : (Jvm.Cond.laysFinal "LazyForgeModel" "LazyForgeModel" "taskPlaces" "[I") ∈ lw_all := lw_g (lw_at lw_m12 98 rfl) rfl
theorem q2901 : (Jvm.Cond.soleField "LazyForgeModel" "taskPlaces") ∈ lw_all := lw_g (lw_at lw_m12 99 rfl) rfl
theorem q2902 : (Jvm.Cond.laysFinal "LazyForgeModel" "LazyForgeModel" "functionCells" "[I") ∈ lw_all := lw_g (lw_at lw_m12 100 rfl) rfl
theorem q2903 : (Jvm.Cond.soleField "LazyForgeModel" "functionCells") ∈ lw_all := lw_g (lw_at lw_m12 101 rfl) rfl
theorem q2904 : (Jvm.Cond.lays "LazyForgeModel" "LazyForgeModel" "pending" "I") ∈ lw_all := lw_g (lw_at lw_m12 102 rfl) rfl
theorem q2905 : (Jvm.Cond.soleField "LazyForgeModel" "pending") ∈ lw_all := lw_g (lw_at lw_m12 103 rfl) rfl
theorem q2906 : (Jvm.Cond.laysFinal "LazyForgeModel" "LazyForgeModel" "pendings" "[J") ∈ lw_all := lw_g (lw_at lw_m12 104 rfl) rfl
theorem q2907 : (Jvm.Cond.soleField "LazyForgeModel" "pendings") ∈ lw_all := lw_g (lw_at lw_m12 105 rfl) rfl
theorem q2908 : (Jvm.Cond.lays "LazyForgeModel" "LazyForgeModel" "drafted" "I") ∈ lw_all := lw_g (lw_at lw_m12 106 rfl) rfl
theorem q2909 : (Jvm.Cond.soleField "LazyForgeModel" "drafted") ∈ lw_all := lw_g (lw_at lw_m12 107 rfl) rfl
theorem q2910 : (Jvm.Cond.laysFinal "LazyForgeModel" "LazyForgeModel" "draft" "[I") ∈ lw_all := lw_g (lw_at lw_m12 108 rfl) rfl
theorem q2911 : (Jvm.Cond.soleField "LazyForgeModel" "draft") ∈ lw_all := lw_g (lw_at lw_m12 109 rfl) rfl
theorem q2912 : (Jvm.Cond.superclass "LazyForgeModel" "java/lang/Object") ∈ lw_all := lw_g (lw_at lw_m12 110 rfl) rfl
theorem q2914 : (Jvm.Cond.instanceMethod ({ cls := "LazyForgeModel", name := "thrown", desc := "()I" } : Jvm.MethodName)) ∈ lw_all := lw_g (lw_at lw_m12 112 rfl) rfl
theorem q2915 : (Jvm.Cond.selects "LazyForgeModel" ({ cls := "LazyForgeModel", name := "thrown", desc := "()I" } : Jvm.MethodName) ({ cls := "LazyForgeModel", name := "thrown", desc := "()I" } : Jvm.MethodName)) ∈ lw_all := lw_g (lw_at lw_m12 113 rfl) rfl
theorem q2916 : (Jvm.Cond.code ({ cls := "LazyForgeModel", name := "thrown", desc := "()I" } : Jvm.MethodName) prog_27_method_2_code (1 : Nat) (Option.some Jvm.ClassFile.FieldType.int)) ∈ lw_all := lw_g (lw_at lw_m12 114 rfl) rfl
theorem q2918 : (Jvm.Cond.instanceMethod ({ cls := "LazyForgeModel", name := "program", desc := "()I" } : Jvm.MethodName)) ∈ lw_all := lw_g (lw_at lw_m12 116 rfl) rfl
theorem q2919 : (Jvm.Cond.selects "LazyForgeModel" ({ cls := "LazyForgeModel", name := "program", desc := "()I" } : Jvm.MethodName) ({ cls := "LazyForgeModel", name := "program", desc := "()I" } : Jvm.MethodName)) ∈ lw_all := lw_g (lw_at lw_m12 117 rfl) rfl
theorem q2920 : (Jvm.Cond.code ({ cls := "LazyForgeModel", name := "program", desc := "()I" } : Jvm.MethodName) prog_27_method_80_code (3 : Nat) (Option.some Jvm.ClassFile.FieldType.int)) ∈ lw_all := lw_g (lw_at lw_m12 118 rfl) rfl
theorem q2921 : (Jvm.Cond.methodLink "LazyForgeModel" (573 : Nat) ({ cls := "LazyForgeModel", name := "clearRun", desc := "()V" } : Jvm.MethodName)) ∈ lw_all := lw_g (lw_at lw_m12 119 rfl) rfl
theorem q2922 : (Jvm.Cond.privateMethod ({ cls := "LazyForgeModel", name := "clearRun", desc := "()V" } : Jvm.MethodName)) ∈ lw_tbl := lw_at lw_m12 120 rfl
theorem q2923 : (Jvm.Cond.instanceMethod ({ cls := "LazyForgeModel", name := "clearRun", desc := "()V" } : Jvm.MethodName)) ∈ lw_all := lw_g (lw_at lw_m12 121 rfl) rfl
theorem q2924 : (Jvm.Cond.code ({ cls := "LazyForgeModel", name := "clearRun", desc := "()V" } : Jvm.MethodName) prog_27_method_109_code (2 : Nat) (Option.none : Option Jvm.ClassFile.FieldType)) ∈ lw_all := lw_g (lw_at lw_m12 122 rfl) rfl
theorem q2925 : (Jvm.Cond.methodLink "LazyForgeModel" (576 : Nat) ({ cls := "LazyForgeModel", name := "readProgram", desc := "()V" } : Jvm.MethodName)) ∈ lw_all := lw_g (lw_at lw_m12 123 rfl) rfl
theorem q2926 : (Jvm.Cond.privateMethod ({ cls := "LazyForgeModel", name := "readProgram", desc := "()V" } : Jvm.MethodName)) ∈ lw_tbl := lw_at lw_m12 124 rfl
theorem q2927 : (Jvm.Cond.instanceMethod ({ cls := "LazyForgeModel", name := "readProgram", desc := "()V" } : Jvm.MethodName)) ∈ lw_all := lw_g (lw_at lw_m12 125 rfl) rfl
theorem q2928 : (Jvm.Cond.code ({ cls := "LazyForgeModel", name := "readProgram", desc := "()V" } : Jvm.MethodName) prog_27_method_49_code (2 : Nat) (Option.none : Option Jvm.ClassFile.FieldType)) ∈ lw_all := lw_g (lw_at lw_m12 126 rfl) rfl
theorem q2929 : (Jvm.Cond.methodLink "LazyForgeModel" (257 : Nat) ({ cls := "LazyForgeModel", name := "pack", desc := "(IIIII)J" } : Jvm.MethodName)) ∈ lw_all := lw_g (lw_at lw_m12 127 rfl) rfl
theorem q2930 : (Jvm.Cond.static ({ cls := "LazyForgeModel", name := "pack", desc := "(IIIII)J" } : Jvm.MethodName)) ∈ lw_all := lw_g (lw_at lw_m12 128 rfl) rfl
theorem q2931 : (Jvm.Cond.code ({ cls := "LazyForgeModel", name := "pack", desc := "(IIIII)J" } : Jvm.MethodName) prog_27_method_7_code (7 : Nat) (Option.some Jvm.ClassFile.FieldType.long)) ∈ lw_all := lw_g (lw_at lw_m12 129 rfl) rfl
theorem q2932 : (Jvm.Cond.methodLink "LazyForgeModel" (321 : Nat) ({ cls := "LazyForgeModel", name := "next", desc := "()V" } : Jvm.MethodName)) ∈ lw_all := lw_g (lw_at lw_m12 130 rfl) rfl
theorem q2933 : (Jvm.Cond.privateMethod ({ cls := "LazyForgeModel", name := "next", desc := "()V" } : Jvm.MethodName)) ∈ lw_tbl := lw_at lw_m12 131 rfl
theorem q2934 : (Jvm.Cond.instanceMethod ({ cls := "LazyForgeModel", name := "next", desc := "()V" } : Jvm.MethodName)) ∈ lw_all := lw_g (lw_at lw_m12 132 rfl) rfl
theorem q2935 : (Jvm.Cond.code ({ cls := "LazyForgeModel", name := "next", desc := "()V" } : Jvm.MethodName) prog_27_method_12_code (4 : Nat) (Option.none : Option Jvm.ClassFile.FieldType)) ∈ lw_all := lw_g (lw_at lw_m12 133 rfl) rfl
theorem q2936 : (Jvm.Cond.methodLink "LazyForgeModel" (298 : Nat) ({ cls := "LazyForgeModel", name := "passBlanks", desc := "()V" } : Jvm.MethodName)) ∈ lw_all := lw_g (lw_at lw_m12 134 rfl) rfl
theorem q2937 : (Jvm.Cond.privateMethod ({ cls := "LazyForgeModel", name := "passBlanks", desc := "()V" } : Jvm.MethodName)) ∈ lw_tbl := lw_at lw_m12 135 rfl
theorem q2938 : (Jvm.Cond.instanceMethod ({ cls := "LazyForgeModel", name := "passBlanks", desc := "()V" } : Jvm.MethodName)) ∈ lw_all := lw_g (lw_at lw_m12 136 rfl) rfl
theorem q2939 : (Jvm.Cond.code ({ cls := "LazyForgeModel", name := "passBlanks", desc := "()V" } : Jvm.MethodName) prog_27_method_9_code (2 : Nat) (Option.none : Option Jvm.ClassFile.FieldType)) ∈ lw_all := lw_g (lw_at lw_m12 137 rfl) rfl
theorem q2940 : (Jvm.Cond.methodLink "LazyForgeModel" (264 : Nat) ({ cls := "LazyForgeModel", name := "sign", desc := "(I)I" } : Jvm.MethodName)) ∈ lw_all := lw_g (lw_at lw_m12 138 rfl) rfl
theorem q2941 : (Jvm.Cond.privateMethod ({ cls := "LazyForgeModel", name := "sign", desc := "(I)I" } : Jvm.MethodName)) ∈ lw_tbl := lw_at lw_m12 139 rfl
theorem q2942 : (Jvm.Cond.instanceMethod ({ cls := "LazyForgeModel", name := "sign", desc := "(I)I" } : Jvm.MethodName)) ∈ lw_all := lw_g (lw_at lw_m12 140 rfl) rfl
theorem q2943 : (Jvm.Cond.code ({ cls := "LazyForgeModel", name := "sign", desc := "(I)I" } : Jvm.MethodName) prog_27_method_3_code (2 : Nat) (Option.some Jvm.ClassFile.FieldType.int)) ∈ lw_all := lw_g (lw_at lw_m12 141 rfl) rfl
theorem q2944 : (Jvm.Cond.methodLink "LazyForgeModel" (268 : Nat) ({ cls := "LazyForgeModel", name := "isSmall", desc := "(I)Z" } : Jvm.MethodName)) ∈ lw_all := lw_g (lw_at lw_m12 142 rfl) rfl
theorem q2945 : (Jvm.Cond.static ({ cls := "LazyForgeModel", name := "isSmall", desc := "(I)Z" } : Jvm.MethodName)) ∈ lw_all := lw_g (lw_at lw_m12 143 rfl) rfl
theorem q2946 : (Jvm.Cond.code ({ cls := "LazyForgeModel", name := "isSmall", desc := "(I)Z" } : Jvm.MethodName) prog_27_method_5_code (1 : Nat) (Option.some Jvm.ClassFile.FieldType.boolean)) ∈ lw_all := lw_g (lw_at lw_m12 144 rfl) rfl
theorem q2947 : (Jvm.Cond.methodLink "LazyForgeModel" (301 : Nat) ({ cls := "LazyForgeModel", name := "isCapital", desc := "(I)Z" } : Jvm.MethodName)) ∈ lw_all := lw_g (lw_at lw_m12 145 rfl) rfl
theorem q2948 : (Jvm.Cond.static ({ cls := "LazyForgeModel", name := "isCapital", desc := "(I)Z" } : Jvm.MethodName)) ∈ lw_all := lw_g (lw_at lw_m12 146 rfl) rfl
theorem q2949 : (Jvm.Cond.code ({ cls := "LazyForgeModel", name := "isCapital", desc := "(I)Z" } : Jvm.MethodName) prog_27_method_6_code (1 : Nat) (Option.some Jvm.ClassFile.FieldType.boolean)) ∈ lw_all := lw_g (lw_at lw_m12 147 rfl) rfl
theorem q2950 : (Jvm.Cond.methodLink "LazyForgeModel" (304 : Nat) ({ cls := "LazyForgeModel", name := "readName", desc := "(Z)V" } : Jvm.MethodName)) ∈ lw_all := lw_g (lw_at lw_m12 148 rfl) rfl
theorem q2951 : (Jvm.Cond.privateMethod ({ cls := "LazyForgeModel", name := "readName", desc := "(Z)V" } : Jvm.MethodName)) ∈ lw_tbl := lw_at lw_m12 149 rfl
theorem q2952 : (Jvm.Cond.instanceMethod ({ cls := "LazyForgeModel", name := "readName", desc := "(Z)V" } : Jvm.MethodName)) ∈ lw_all := lw_g (lw_at lw_m12 150 rfl) rfl
theorem q2953 : (Jvm.Cond.code ({ cls := "LazyForgeModel", name := "readName", desc := "(Z)V" } : Jvm.MethodName) prog_27_method_10_code (4 : Nat) (Option.none : Option Jvm.ClassFile.FieldType)) ∈ lw_all := lw_g (lw_at lw_m12 151 rfl) rfl
theorem q2954 : (Jvm.Cond.methodLink "LazyForgeModel" (272 : Nat) ({ cls := "LazyForgeModel", name := "isDigit", desc := "(I)Z" } : Jvm.MethodName)) ∈ lw_all := lw_g (lw_at lw_m12 152 rfl) rfl
theorem q2955 : (Jvm.Cond.static ({ cls := "LazyForgeModel", name := "isDigit", desc := "(I)Z" } : Jvm.MethodName)) ∈ lw_all := lw_g (lw_at lw_m12 153 rfl) rfl
theorem q2956 : (Jvm.Cond.code ({ cls := "LazyForgeModel", name := "isDigit", desc := "(I)Z" } : Jvm.MethodName) prog_27_method_4_code (1 : Nat) (Option.some Jvm.ClassFile.FieldType.boolean)) ∈ lw_all := lw_g (lw_at lw_m12 154 rfl) rfl
theorem q2957 : (Jvm.Cond.methodLink "LazyForgeModel" (282 : Nat) ({ cls := "LazyForgeModel", name := "keyword", desc := "(J)I" } : Jvm.MethodName)) ∈ lw_all := lw_g (lw_at lw_m12 155 rfl) rfl
theorem q2958 : (Jvm.Cond.static ({ cls := "LazyForgeModel", name := "keyword", desc := "(J)I" } : Jvm.MethodName)) ∈ lw_all := lw_g (lw_at lw_m12 156 rfl) rfl
theorem q2959 : (Jvm.Cond.code ({ cls := "LazyForgeModel", name := "keyword", desc := "(J)I" } : Jvm.MethodName) prog_27_method_8_code (2 : Nat) (Option.some Jvm.ClassFile.FieldType.int)) ∈ lw_all := lw_g (lw_at lw_m12 157 rfl) rfl
theorem q2960 : (Jvm.Cond.methodLink "LazyForgeModel" (308 : Nat) ({ cls := "LazyForgeModel", name := "readNumber", desc := "()V" } : Jvm.MethodName)) ∈ lw_all := lw_g (lw_at lw_m12 158 rfl) rfl
theorem q2961 : (Jvm.Cond.privateMethod ({ cls := "LazyForgeModel", name := "readNumber", desc := "()V" } : Jvm.MethodName)) ∈ lw_tbl := lw_at lw_m12 159 rfl
theorem q2962 : (Jvm.Cond.instanceMethod ({ cls := "LazyForgeModel", name := "readNumber", desc := "()V" } : Jvm.MethodName)) ∈ lw_all := lw_g (lw_at lw_m12 160 rfl) rfl
theorem q2963 : (Jvm.Cond.code ({ cls := "LazyForgeModel", name := "readNumber", desc := "()V" } : Jvm.MethodName) prog_27_method_11_code (3 : Nat) (Option.none : Option Jvm.ClassFile.FieldType)) ∈ lw_all := lw_g (lw_at lw_m12 161 rfl) rfl
theorem q2964 : (Jvm.Cond.constantLong "LazyForgeModel" (289 : Nat) (10 : Int64)) ∈ lw_all := lw_g (lw_at lw_m12 162 rfl) rfl
theorem q2965 : (Jvm.Cond.constantLong "LazyForgeModel" (291 : Nat) (48 : Int64)) ∈ lw_all := lw_g (lw_at lw_m12 163 rfl) rfl
theorem q2966 : (Jvm.Cond.constantLong "LazyForgeModel" (293 : Nat) (2147483647 : Int64)) ∈ lw_all := lw_g (lw_at lw_m12 164 rfl) rfl
theorem q2967 : (Jvm.Cond.methodLink "LazyForgeModel" (468 : Nat) ({ cls := "LazyForgeModel", name := "readData", desc := "()V" } : Jvm.MethodName)) ∈ lw_all := lw_g (lw_at lw_m12 165 rfl) rfl
theorem q2968 : (Jvm.Cond.privateMethod ({ cls := "LazyForgeModel", name := "readData", desc := "()V" } : Jvm.MethodName)) ∈ lw_tbl := lw_at lw_m12 166 rfl
theorem q2969 : (Jvm.Cond.instanceMethod ({ cls := "LazyForgeModel", name := "readData", desc := "()V" } : Jvm.MethodName)) ∈ lw_all := lw_g (lw_at lw_m12 167 rfl) rfl
theorem q2970 : (Jvm.Cond.code ({ cls := "LazyForgeModel", name := "readData", desc := "()V" } : Jvm.MethodName) prog_27_method_47_code (5 : Nat) (Option.none : Option Jvm.ClassFile.FieldType)) ∈ lw_all := lw_g (lw_at lw_m12 168 rfl) rfl
theorem q2971 : (Jvm.Cond.methodLink "LazyForgeModel" (396 : Nat) ({ cls := "LazyForgeModel", name := "findConstructor", desc := "(J)I" } : Jvm.MethodName)) ∈ lw_all := lw_g (lw_at lw_m12 169 rfl) rfl
theorem q2972 : (Jvm.Cond.privateMethod ({ cls := "LazyForgeModel", name := "findConstructor", desc := "(J)I" } : Jvm.MethodName)) ∈ lw_tbl := lw_at lw_m12 170 rfl
theorem q2973 : (Jvm.Cond.instanceMethod ({ cls := "LazyForgeModel", name := "findConstructor", desc := "(J)I" } : Jvm.MethodName)) ∈ lw_all := lw_g (lw_at lw_m12 171 rfl) rfl
theorem q2974 : (Jvm.Cond.code ({ cls := "LazyForgeModel", name := "findConstructor", desc := "(J)I" } : Jvm.MethodName) prog_27_method_24_code (4 : Nat) (Option.some Jvm.ClassFile.FieldType.int)) ∈ lw_all := lw_g (lw_at lw_m12 172 rfl) rfl
theorem q2975 : (Jvm.Cond.methodLink "LazyForgeModel" (317 : Nat) ({ cls := "LazyForgeModel", name := "fail", desc := "(II)V" } : Jvm.MethodName)) ∈ lw_all := lw_g (lw_at lw_m12 173 rfl) rfl
theorem q2976 : (Jvm.Cond.privateMethod ({ cls := "LazyForgeModel", name := "fail", desc := "(II)V" } : Jvm.MethodName)) ∈ lw_tbl := lw_at lw_m12 174 rfl
theorem q2977 : (Jvm.Cond.instanceMethod ({ cls := "LazyForgeModel", name := "fail", desc := "(II)V" } : Jvm.MethodName)) ∈ lw_all := lw_g (lw_at lw_m12 175 rfl) rfl
theorem q2978 : (Jvm.Cond.code ({ cls := "LazyForgeModel", name := "fail", desc := "(II)V" } : Jvm.MethodName) prog_27_method_14_code (3 : Nat) (Option.none : Option Jvm.ClassFile.FieldType)) ∈ lw_all := lw_g (lw_at lw_m12 176 rfl) rfl
theorem q2979 : (Jvm.Cond.methodLink "LazyForgeModel" (359 : Nat) ({ cls := "LazyForgeModel", name := "accept", desc := "(Z)V" } : Jvm.MethodName)) ∈ lw_all := lw_g (lw_at lw_m12 177 rfl) rfl
theorem q2980 : (Jvm.Cond.privateMethod ({ cls := "LazyForgeModel", name := "accept", desc := "(Z)V" } : Jvm.MethodName)) ∈ lw_tbl := lw_at lw_m12 178 rfl
theorem q2981 : (Jvm.Cond.instanceMethod ({ cls := "LazyForgeModel", name := "accept", desc := "(Z)V" } : Jvm.MethodName)) ∈ lw_all := lw_g (lw_at lw_m12 179 rfl) rfl
theorem q2982 : (Jvm.Cond.code ({ cls := "LazyForgeModel", name := "accept", desc := "(Z)V" } : Jvm.MethodName) prog_27_method_16_code (2 : Nat) (Option.none : Option Jvm.ClassFile.FieldType)) ∈ lw_all := lw_g (lw_at lw_m12 180 rfl) rfl
theorem q2983 : (Jvm.Cond.methodLink "LazyForgeModel" (324 : Nat) ({ cls := "LazyForgeModel", name := "wrong", desc := "()V" } : Jvm.MethodName)) ∈ lw_all := lw_g (lw_at lw_m12 181 rfl) rfl
theorem q2984 : (Jvm.Cond.privateMethod ({ cls := "LazyForgeModel", name := "wrong", desc := "()V" } : Jvm.MethodName)) ∈ lw_tbl := lw_at lw_m12 182 rfl
theorem q2985 : (Jvm.Cond.instanceMethod ({ cls := "LazyForgeModel", name := "wrong", desc := "()V" } : Jvm.MethodName)) ∈ lw_all := lw_g (lw_at lw_m12 183 rfl) rfl
theorem q2986 : (Jvm.Cond.code ({ cls := "LazyForgeModel", name := "wrong", desc := "()V" } : Jvm.MethodName) prog_27_method_15_code (1 : Nat) (Option.none : Option Jvm.ClassFile.FieldType)) ∈ lw_all := lw_g (lw_at lw_m12 184 rfl) rfl
theorem q2987 : (Jvm.Cond.methodLink "LazyForgeModel" (383 : Nat) ({ cls := "LazyForgeModel", name := "isSign", desc := "(I)Z" } : Jvm.MethodName)) ∈ lw_all := lw_g (lw_at lw_m12 185 rfl) rfl
theorem q2988 : (Jvm.Cond.privateMethod ({ cls := "LazyForgeModel", name := "isSign", desc := "(I)Z" } : Jvm.MethodName)) ∈ lw_tbl := lw_at lw_m12 186 rfl
theorem q2989 : (Jvm.Cond.instanceMethod ({ cls := "LazyForgeModel", name := "isSign", desc := "(I)Z" } : Jvm.MethodName)) ∈ lw_all := lw_g (lw_at lw_m12 187 rfl) rfl
theorem q2990 : (Jvm.Cond.code ({ cls := "LazyForgeModel", name := "isSign", desc := "(I)Z" } : Jvm.MethodName) prog_27_method_13_code (2 : Nat) (Option.some Jvm.ClassFile.FieldType.boolean)) ∈ lw_all := lw_g (lw_at lw_m12 188 rfl) rfl
theorem q2991 : (Jvm.Cond.methodLink "LazyForgeModel" (471 : Nat) ({ cls := "LazyForgeModel", name := "readFunction", desc := "()V" } : Jvm.MethodName)) ∈ lw_all := lw_g (lw_at lw_m12 189 rfl) rfl
theorem q2992 : (Jvm.Cond.privateMethod ({ cls := "LazyForgeModel", name := "readFunction", desc := "()V" } : Jvm.MethodName)) ∈ lw_tbl := lw_at lw_m12 190 rfl
theorem q2993 : (Jvm.Cond.instanceMethod ({ cls := "LazyForgeModel", name := "readFunction", desc := "()V" } : Jvm.MethodName)) ∈ lw_all := lw_g (lw_at lw_m12 191 rfl) rfl
theorem q2994 : (Jvm.Cond.code ({ cls := "LazyForgeModel", name := "readFunction", desc := "()V" } : Jvm.MethodName) prog_27_method_48_code (3 : Nat) (Option.none : Option Jvm.ClassFile.FieldType)) ∈ lw_all := lw_g (lw_at lw_m12 192 rfl) rfl
theorem q2995 : (Jvm.Cond.methodLink "LazyForgeModel" (369 : Nat) ({ cls := "LazyForgeModel", name := "node", desc := "(I)I" } : Jvm.MethodName)) ∈ lw_all := lw_g (lw_at lw_m12 193 rfl) rfl
theorem q2996 : (Jvm.Cond.privateMethod ({ cls := "LazyForgeModel", name := "node", desc := "(I)I" } : Jvm.MethodName)) ∈ lw_tbl := lw_at lw_m12 194 rfl
theorem q2997 : (Jvm.Cond.instanceMethod ({ cls := "LazyForgeModel", name := "node", desc := "(I)I" } : Jvm.MethodName)) ∈ lw_all := lw_g (lw_at lw_m12 195 rfl) rfl
theorem q2998 : (Jvm.Cond.code ({ cls := "LazyForgeModel", name := "node", desc := "(I)I" } : Jvm.MethodName) prog_27_method_17_code (3 : Nat) (Option.some Jvm.ClassFile.FieldType.int)) ∈ lw_all := lw_g (lw_at lw_m12 196 rfl) rfl
theorem q2999 : (Jvm.Cond.methodLink "LazyForgeModel" (380 : Nat) ({ cls := "LazyForgeModel", name := "parameters", desc := "(II)V" } : Jvm.MethodName)) ∈ lw_all := lw_g (lw_at lw_m12 197 rfl) rfl
theorem q3000 : (Jvm.Cond.privateMethod ({ cls := "LazyForgeModel", name := "parameters", desc := "(II)V" } : Jvm.MethodName)) ∈ lw_tbl := lw_at lw_m12 198 rfl
theorem q3001 : (Jvm.Cond.instanceMethod ({ cls := "LazyForgeModel", name := "parameters", desc := "(II)V" } : Jvm.MethodName)) ∈ lw_all := lw_g (lw_at lw_m12 199 rfl) rfl
theorem q3002 : (Jvm.Cond.code ({ cls := "LazyForgeModel", name := "parameters", desc := "(II)V" } : Jvm.MethodName) prog_27_method_27_code (5 : Nat) (Option.none : Option Jvm.ClassFile.FieldType)) ∈ lw_all := lw_g (lw_at lw_m12 200 rfl) rfl
theorem q3003 : (Jvm.Cond.methodLink "LazyForgeModel" (351 : Nat) ({ cls := "LazyForgeModel", name := "isGiven", desc := "(IJ)Z" } : Jvm.MethodName)) ∈ lw_all := lw_g (lw_at lw_m12 201 rfl) rfl
theorem q3004 : (Jvm.Cond.privateMethod ({ cls := "LazyForgeModel", name := "isGiven", desc := "(IJ)Z" } : Jvm.MethodName)) ∈ lw_tbl := lw_at lw_m12 202 rfl
theorem q3005 : (Jvm.Cond.instanceMethod ({ cls := "LazyForgeModel", name := "isGiven", desc := "(IJ)Z" } : Jvm.MethodName)) ∈ lw_all := lw_g (lw_at lw_m12 203 rfl) rfl
theorem q3006 : (Jvm.Cond.code ({ cls := "LazyForgeModel", name := "isGiven", desc := "(IJ)Z" } : Jvm.MethodName) prog_27_method_25_code (6 : Nat) (Option.some Jvm.ClassFile.FieldType.boolean)) ∈ lw_all := lw_g (lw_at lw_m12 204 rfl) rfl
theorem q3007 : (Jvm.Cond.methodLink "LazyForgeModel" (355 : Nat) ({ cls := "LazyForgeModel", name := "part", desc := "()Z" } : Jvm.MethodName)) ∈ lw_all := lw_g (lw_at lw_m12 205 rfl) rfl
theorem q3008 : (Jvm.Cond.privateMethod ({ cls := "LazyForgeModel", name := "part", desc := "()Z" } : Jvm.MethodName)) ∈ lw_tbl := lw_at lw_m12 206 rfl
theorem q3009 : (Jvm.Cond.instanceMethod ({ cls := "LazyForgeModel", name := "part", desc := "()Z" } : Jvm.MethodName)) ∈ lw_all := lw_g (lw_at lw_m12 207 rfl) rfl
theorem q3010 : (Jvm.Cond.code ({ cls := "LazyForgeModel", name := "part", desc := "()Z" } : Jvm.MethodName) prog_27_method_18_code (1 : Nat) (Option.some Jvm.ClassFile.FieldType.boolean)) ∈ lw_all := lw_g (lw_at lw_m12 208 rfl) rfl
theorem q3011 : (Jvm.Cond.methodLink "LazyForgeModel" (362 : Nat) ({ cls := "LazyForgeModel", name := "giveName", desc := "(IJ)V" } : Jvm.MethodName)) ∈ lw_all := lw_g (lw_at lw_m12 209 rfl) rfl
theorem q3012 : (Jvm.Cond.privateMethod ({ cls := "LazyForgeModel", name := "giveName", desc := "(IJ)V" } : Jvm.MethodName)) ∈ lw_tbl := lw_at lw_m12 210 rfl
theorem q3013 : (Jvm.Cond.instanceMethod ({ cls := "LazyForgeModel", name := "giveName", desc := "(IJ)V" } : Jvm.MethodName)) ∈ lw_all := lw_g (lw_at lw_m12 211 rfl) rfl
theorem q3014 : (Jvm.Cond.code ({ cls := "LazyForgeModel", name := "giveName", desc := "(IJ)V" } : Jvm.MethodName) prog_27_method_26_code (4 : Nat) (Option.none : Option Jvm.ClassFile.FieldType)) ∈ lw_all := lw_g (lw_at lw_m12 212 rfl) rfl
theorem q3015 : (Jvm.Cond.methodLink "LazyForgeModel" (465 : Nat) ({ cls := "LazyForgeModel", name := "readE", desc := "(I)V" } : Jvm.MethodName)) ∈ lw_all := lw_g (lw_at lw_m12 213 rfl) rfl
theorem q3016 : (Jvm.Cond.privateMethod ({ cls := "LazyForgeModel", name := "readE", desc := "(I)V" } : Jvm.MethodName)) ∈ lw_tbl := lw_at lw_m12 214 rfl
theorem q3017 : (Jvm.Cond.instanceMethod ({ cls := "LazyForgeModel", name := "readE", desc := "(I)V" } : Jvm.MethodName)) ∈ lw_all := lw_g (lw_at lw_m12 215 rfl) rfl
theorem q3018 : (Jvm.Cond.code ({ cls := "LazyForgeModel", name := "readE", desc := "(I)V" } : Jvm.MethodName) prog_27_method_45_code (2 : Nat) (Option.none : Option Jvm.ClassFile.FieldType)) ∈ lw_all := lw_g (lw_at lw_m12 216 rfl) rfl
theorem q3019 : (Jvm.Cond.methodLink "LazyForgeModel" (372 : Nat) ({ cls := "LazyForgeModel", name := "pile", desc := "(III)V" } : Jvm.MethodName)) ∈ lw_all := lw_g (lw_at lw_m12 217 rfl) rfl
theorem q3020 : (Jvm.Cond.privateMethod ({ cls := "LazyForgeModel", name := "pile", desc := "(III)V" } : Jvm.MethodName)) ∈ lw_tbl := lw_at lw_m12 218 rfl
theorem q3021 : (Jvm.Cond.instanceMethod ({ cls := "LazyForgeModel", name := "pile", desc := "(III)V" } : Jvm.MethodName)) ∈ lw_all := lw_g (lw_at lw_m12 219 rfl) rfl
theorem q3022 : (Jvm.Cond.code ({ cls := "LazyForgeModel", name := "pile", desc := "(III)V" } : Jvm.MethodName) prog_27_method_20_code (4 : Nat) (Option.none : Option Jvm.ClassFile.FieldType)) ∈ lw_all := lw_g (lw_at lw_m12 220 rfl) rfl
theorem q3023 : (Jvm.Cond.methodLink "LazyForgeModel" (445 : Nat) ({ cls := "LazyForgeModel", name := "wantE", desc := "()V" } : Jvm.MethodName)) ∈ lw_all := lw_g (lw_at lw_m12 221 rfl) rfl
theorem q3024 : (Jvm.Cond.privateMethod ({ cls := "LazyForgeModel", name := "wantE", desc := "()V" } : Jvm.MethodName)) ∈ lw_tbl := lw_at lw_m12 222 rfl
theorem q3025 : (Jvm.Cond.instanceMethod ({ cls := "LazyForgeModel", name := "wantE", desc := "()V" } : Jvm.MethodName)) ∈ lw_all := lw_g (lw_at lw_m12 223 rfl) rfl
theorem q3026 : (Jvm.Cond.code ({ cls := "LazyForgeModel", name := "wantE", desc := "()V" } : Jvm.MethodName) prog_27_method_46_code (2 : Nat) (Option.none : Option Jvm.ClassFile.FieldType)) ∈ lw_all := lw_g (lw_at lw_m12 224 rfl) rfl
theorem q3027 : (Jvm.Cond.methodLink "LazyForgeModel" (457 : Nat) ({ cls := "LazyForgeModel", name := "begins", desc := "()Z" } : Jvm.MethodName)) ∈ lw_all := lw_g (lw_at lw_m12 225 rfl) rfl
theorem q3028 : (Jvm.Cond.privateMethod ({ cls := "LazyForgeModel", name := "begins", desc := "()Z" } : Jvm.MethodName)) ∈ lw_tbl := lw_at lw_m12 226 rfl
theorem q3029 : (Jvm.Cond.instanceMethod ({ cls := "LazyForgeModel", name := "begins", desc := "()Z" } : Jvm.MethodName)) ∈ lw_all := lw_g (lw_at lw_m12 227 rfl) rfl
theorem q3030 : (Jvm.Cond.code ({ cls := "LazyForgeModel", name := "begins", desc := "()Z" } : Jvm.MethodName) prog_27_method_28_code (2 : Nat) (Option.some Jvm.ClassFile.FieldType.boolean)) ∈ lw_all := lw_g (lw_at lw_m12 228 rfl) rfl
theorem q3031 : (Jvm.Cond.methodLink "LazyForgeModel" (366 : Nat) ({ cls := "LazyForgeModel", name := "opens", desc := "()V" } : Jvm.MethodName)) ∈ lw_all := lw_g (lw_at lw_m12 229 rfl) rfl
theorem q3032 : (Jvm.Cond.privateMethod ({ cls := "LazyForgeModel", name := "opens", desc := "()V" } : Jvm.MethodName)) ∈ lw_tbl := lw_at lw_m12 230 rfl
theorem q3033 : (Jvm.Cond.instanceMethod ({ cls := "LazyForgeModel", name := "opens", desc := "()V" } : Jvm.MethodName)) ∈ lw_all := lw_g (lw_at lw_m12 231 rfl) rfl
theorem q3034 : (Jvm.Cond.code ({ cls := "LazyForgeModel", name := "opens", desc := "()V" } : Jvm.MethodName) prog_27_method_19_code (1 : Nat) (Option.none : Option Jvm.ClassFile.FieldType)) ∈ lw_all := lw_g (lw_at lw_m12 232 rfl) rfl
theorem q3035 : (Jvm.Cond.methodLink "LazyForgeModel" (376 : Nat) ({ cls := "LazyForgeModel", name := "binding", desc := "(I)V" } : Jvm.MethodName)) ∈ lw_all := lw_g (lw_at lw_m12 233 rfl) rfl
theorem q3036 : (Jvm.Cond.privateMethod ({ cls := "LazyForgeModel", name := "binding", desc := "(I)V" } : Jvm.MethodName)) ∈ lw_tbl := lw_at lw_m12 234 rfl
theorem q3037 : (Jvm.Cond.instanceMethod ({ cls := "LazyForgeModel", name := "binding", desc := "(I)V" } : Jvm.MethodName)) ∈ lw_all := lw_g (lw_at lw_m12 235 rfl) rfl
theorem q3038 : (Jvm.Cond.code ({ cls := "LazyForgeModel", name := "binding", desc := "(I)V" } : Jvm.MethodName) prog_27_method_29_code (4 : Nat) (Option.none : Option Jvm.ClassFile.FieldType)) ∈ lw_all := lw_g (lw_at lw_m12 236 rfl) rfl
theorem q3039 : (Jvm.Cond.methodLink "LazyForgeModel" (386 : Nat) ({ cls := "LazyForgeModel", name := "append", desc := "(II)V" } : Jvm.MethodName)) ∈ lw_all := lw_g (lw_at lw_m12 237 rfl) rfl
theorem q3040 : (Jvm.Cond.privateMethod ({ cls := "LazyForgeModel", name := "append", desc := "(II)V" } : Jvm.MethodName)) ∈ lw_tbl := lw_at lw_m12 238 rfl
theorem q3041 : (Jvm.Cond.instanceMethod ({ cls := "LazyForgeModel", name := "append", desc := "(II)V" } : Jvm.MethodName)) ∈ lw_all := lw_g (lw_at lw_m12 239 rfl) rfl
theorem q3042 : (Jvm.Cond.code ({ cls := "LazyForgeModel", name := "append", desc := "(II)V" } : Jvm.MethodName) prog_27_method_23_code (3 : Nat) (Option.none : Option Jvm.ClassFile.FieldType)) ∈ lw_all := lw_g (lw_at lw_m13 0 rfl) rfl
theorem q3043 : (Jvm.Cond.methodLink "LazyForgeModel" (459 : Nat) ({ cls := "LazyForgeModel", name := "application", desc := "()Z" } : Jvm.MethodName)) ∈ lw_all := lw_g (lw_at lw_m13 1 rfl) rfl
theorem q3044 : (Jvm.Cond.privateMethod ({ cls := "LazyForgeModel", name := "application", desc := "()Z" } : Jvm.MethodName)) ∈ lw_tbl := lw_at lw_m13 2 rfl
theorem q3045 : (Jvm.Cond.instanceMethod ({ cls := "LazyForgeModel", name := "application", desc := "()Z" } : Jvm.MethodName)) ∈ lw_all := lw_g (lw_at lw_m13 3 rfl) rfl
theorem q3046 : (Jvm.Cond.code ({ cls := "LazyForgeModel", name := "application", desc := "()Z" } : Jvm.MethodName) prog_27_method_32_code (3 : Nat) (Option.some Jvm.ClassFile.FieldType.boolean)) ∈ lw_all := lw_g (lw_at lw_m13 4 rfl) rfl
theorem q3047 : (Jvm.Cond.methodLink "LazyForgeModel" (408 : Nat) ({ cls := "LazyForgeModel", name := "field", desc := "(I)Z" } : Jvm.MethodName)) ∈ lw_all := lw_g (lw_at lw_m13 5 rfl) rfl
theorem q3048 : (Jvm.Cond.privateMethod ({ cls := "LazyForgeModel", name := "field", desc := "(I)Z" } : Jvm.MethodName)) ∈ lw_tbl := lw_at lw_m13 6 rfl
theorem q3049 : (Jvm.Cond.instanceMethod ({ cls := "LazyForgeModel", name := "field", desc := "(I)Z" } : Jvm.MethodName)) ∈ lw_all := lw_g (lw_at lw_m13 7 rfl) rfl
theorem q3050 : (Jvm.Cond.code ({ cls := "LazyForgeModel", name := "field", desc := "(I)Z" } : Jvm.MethodName) prog_27_method_35_code (2 : Nat) (Option.some Jvm.ClassFile.FieldType.boolean)) ∈ lw_all := lw_g (lw_at lw_m13 8 rfl) rfl
theorem q3051 : (Jvm.Cond.methodLink "LazyForgeModel" (417 : Nat) ({ cls := "LazyForgeModel", name := "judgeAtom", desc := "()V" } : Jvm.MethodName)) ∈ lw_all := lw_g (lw_at lw_m13 9 rfl) rfl
theorem q3052 : (Jvm.Cond.privateMethod ({ cls := "LazyForgeModel", name := "judgeAtom", desc := "()V" } : Jvm.MethodName)) ∈ lw_tbl := lw_at lw_m13 10 rfl
theorem q3053 : (Jvm.Cond.instanceMethod ({ cls := "LazyForgeModel", name := "judgeAtom", desc := "()V" } : Jvm.MethodName)) ∈ lw_all := lw_g (lw_at lw_m13 11 rfl) rfl
theorem q3054 : (Jvm.Cond.code ({ cls := "LazyForgeModel", name := "judgeAtom", desc := "()V" } : Jvm.MethodName) prog_27_method_34_code (2 : Nat) (Option.none : Option Jvm.ClassFile.FieldType)) ∈ lw_all := lw_g (lw_at lw_m13 12 rfl) rfl
theorem q3055 : (Jvm.Cond.methodLink "LazyForgeModel" (414 : Nat) ({ cls := "LazyForgeModel", name := "tooDeep", desc := "()V" } : Jvm.MethodName)) ∈ lw_all := lw_g (lw_at lw_m13 13 rfl) rfl
theorem q3056 : (Jvm.Cond.privateMethod ({ cls := "LazyForgeModel", name := "tooDeep", desc := "()V" } : Jvm.MethodName)) ∈ lw_tbl := lw_at lw_m13 14 rfl
theorem q3057 : (Jvm.Cond.instanceMethod ({ cls := "LazyForgeModel", name := "tooDeep", desc := "()V" } : Jvm.MethodName)) ∈ lw_all := lw_g (lw_at lw_m13 15 rfl) rfl
theorem q3058 : (Jvm.Cond.code ({ cls := "LazyForgeModel", name := "tooDeep", desc := "()V" } : Jvm.MethodName) prog_27_method_33_code (1 : Nat) (Option.none : Option Jvm.ClassFile.FieldType)) ∈ lw_all := lw_g (lw_at lw_m13 16 rfl) rfl
theorem q3059 : (Jvm.Cond.methodLink "LazyForgeModel" (399 : Nat) ({ cls := "LazyForgeModel", name := "isAtom", desc := "()Z" } : Jvm.MethodName)) ∈ lw_all := lw_g (lw_at lw_m13 17 rfl) rfl
theorem q3060 : (Jvm.Cond.privateMethod ({ cls := "LazyForgeModel", name := "isAtom", desc := "()Z" } : Jvm.MethodName)) ∈ lw_tbl := lw_at lw_m13 18 rfl
theorem q3061 : (Jvm.Cond.instanceMethod ({ cls := "LazyForgeModel", name := "isAtom", desc := "()Z" } : Jvm.MethodName)) ∈ lw_all := lw_g (lw_at lw_m13 19 rfl) rfl
theorem q3062 : (Jvm.Cond.code ({ cls := "LazyForgeModel", name := "isAtom", desc := "()Z" } : Jvm.MethodName) prog_27_method_30_code (1 : Nat) (Option.some Jvm.ClassFile.FieldType.boolean)) ∈ lw_all := lw_g (lw_at lw_m13 20 rfl) rfl
theorem q3063 : (Jvm.Cond.methodLink "LazyForgeModel" (411 : Nat) ({ cls := "LazyForgeModel", name := "atom", desc := "()Z" } : Jvm.MethodName)) ∈ lw_all := lw_g (lw_at lw_m13 21 rfl) rfl
theorem q3064 : (Jvm.Cond.privateMethod ({ cls := "LazyForgeModel", name := "atom", desc := "()Z" } : Jvm.MethodName)) ∈ lw_tbl := lw_at lw_m13 22 rfl
theorem q3065 : (Jvm.Cond.instanceMethod ({ cls := "LazyForgeModel", name := "atom", desc := "()Z" } : Jvm.MethodName)) ∈ lw_all := lw_g (lw_at lw_m13 23 rfl) rfl
theorem q3066 : (Jvm.Cond.code ({ cls := "LazyForgeModel", name := "atom", desc := "()Z" } : Jvm.MethodName) prog_27_method_31_code (3 : Nat) (Option.some Jvm.ClassFile.FieldType.boolean)) ∈ lw_all := lw_g (lw_at lw_m13 24 rfl) rfl
theorem q3067 : (Jvm.Cond.methodLink "LazyForgeModel" (402 : Nat) ({ cls := "LazyForgeModel", name := "operand", desc := "(I)V" } : Jvm.MethodName)) ∈ lw_all := lw_g (lw_at lw_m13 25 rfl) rfl
theorem q3068 : (Jvm.Cond.privateMethod ({ cls := "LazyForgeModel", name := "operand", desc := "(I)V" } : Jvm.MethodName)) ∈ lw_tbl := lw_at lw_m13 26 rfl
theorem q3069 : (Jvm.Cond.instanceMethod ({ cls := "LazyForgeModel", name := "operand", desc := "(I)V" } : Jvm.MethodName)) ∈ lw_all := lw_g (lw_at lw_m13 27 rfl) rfl
theorem q3070 : (Jvm.Cond.code ({ cls := "LazyForgeModel", name := "operand", desc := "(I)V" } : Jvm.MethodName) prog_27_method_21_code (2 : Nat) (Option.none : Option Jvm.ClassFile.FieldType)) ∈ lw_all := lw_g (lw_at lw_m13 28 rfl) rfl
theorem q3071 : (Jvm.Cond.methodLink "LazyForgeModel" (448 : Nat) ({ cls := "LazyForgeModel", name := "atomEnds", desc := "()V" } : Jvm.MethodName)) ∈ lw_all := lw_g (lw_at lw_m13 29 rfl) rfl
theorem q3072 : (Jvm.Cond.privateMethod ({ cls := "LazyForgeModel", name := "atomEnds", desc := "()V" } : Jvm.MethodName)) ∈ lw_tbl := lw_at lw_m13 30 rfl
theorem q3073 : (Jvm.Cond.instanceMethod ({ cls := "LazyForgeModel", name := "atomEnds", desc := "()V" } : Jvm.MethodName)) ∈ lw_all := lw_g (lw_at lw_m13 31 rfl) rfl
theorem q3074 : (Jvm.Cond.code ({ cls := "LazyForgeModel", name := "atomEnds", desc := "()V" } : Jvm.MethodName) prog_27_method_36_code (6 : Nat) (Option.none : Option Jvm.ClassFile.FieldType)) ∈ lw_all := lw_g (lw_at lw_m13 32 rfl) rfl
theorem q3075 : (Jvm.Cond.methodLink "LazyForgeModel" (420 : Nat) ({ cls := "LazyForgeModel", name := "taken", desc := "()I" } : Jvm.MethodName)) ∈ lw_all := lw_g (lw_at lw_m13 33 rfl) rfl
theorem q3076 : (Jvm.Cond.privateMethod ({ cls := "LazyForgeModel", name := "taken", desc := "()I" } : Jvm.MethodName)) ∈ lw_tbl := lw_at lw_m13 34 rfl
theorem q3077 : (Jvm.Cond.instanceMethod ({ cls := "LazyForgeModel", name := "taken", desc := "()I" } : Jvm.MethodName)) ∈ lw_all := lw_g (lw_at lw_m13 35 rfl) rfl
theorem q3078 : (Jvm.Cond.code ({ cls := "LazyForgeModel", name := "taken", desc := "()I" } : Jvm.MethodName) prog_27_method_22_code (1 : Nat) (Option.some Jvm.ClassFile.FieldType.int)) ∈ lw_all := lw_g (lw_at lw_m13 36 rfl) rfl
theorem q3079 : (Jvm.Cond.methodLink "LazyForgeModel" (427 : Nat) ({ cls := "LazyForgeModel", name := "rank", desc := "(I)I" } : Jvm.MethodName)) ∈ lw_all := lw_g (lw_at lw_m13 37 rfl) rfl
theorem q3080 : (Jvm.Cond.static ({ cls := "LazyForgeModel", name := "rank", desc := "(I)I" } : Jvm.MethodName)) ∈ lw_all := lw_g (lw_at lw_m13 38 rfl) rfl
theorem q3081 : (Jvm.Cond.code ({ cls := "LazyForgeModel", name := "rank", desc := "(I)I" } : Jvm.MethodName) prog_27_method_37_code (1 : Nat) (Option.some Jvm.ClassFile.FieldType.int)) ∈ lw_all := lw_g (lw_at lw_m13 39 rfl) rfl
theorem q3082 : (Jvm.Cond.methodLink "LazyForgeModel" (451 : Nat) ({ cls := "LazyForgeModel", name := "signE", desc := "()V" } : Jvm.MethodName)) ∈ lw_all := lw_g (lw_at lw_m13 40 rfl) rfl
theorem q3083 : (Jvm.Cond.privateMethod ({ cls := "LazyForgeModel", name := "signE", desc := "()V" } : Jvm.MethodName)) ∈ lw_tbl := lw_at lw_m13 41 rfl
theorem q3084 : (Jvm.Cond.instanceMethod ({ cls := "LazyForgeModel", name := "signE", desc := "()V" } : Jvm.MethodName)) ∈ lw_all := lw_g (lw_at lw_m13 42 rfl) rfl
theorem q3085 : (Jvm.Cond.code ({ cls := "LazyForgeModel", name := "signE", desc := "()V" } : Jvm.MethodName) prog_27_method_39_code (3 : Nat) (Option.none : Option Jvm.ClassFile.FieldType)) ∈ lw_all := lw_g (lw_at lw_m13 43 rfl) rfl
theorem q3086 : (Jvm.Cond.methodLink "LazyForgeModel" (430 : Nat) ({ cls := "LazyForgeModel", name := "reduce", desc := "(I)V" } : Jvm.MethodName)) ∈ lw_all := lw_g (lw_at lw_m13 44 rfl) rfl
theorem q3087 : (Jvm.Cond.privateMethod ({ cls := "LazyForgeModel", name := "reduce", desc := "(I)V" } : Jvm.MethodName)) ∈ lw_tbl := lw_at lw_m13 45 rfl
theorem q3088 : (Jvm.Cond.instanceMethod ({ cls := "LazyForgeModel", name := "reduce", desc := "(I)V" } : Jvm.MethodName)) ∈ lw_all := lw_g (lw_at lw_m13 46 rfl) rfl
theorem q3089 : (Jvm.Cond.code ({ cls := "LazyForgeModel", name := "reduce", desc := "(I)V" } : Jvm.MethodName) prog_27_method_38_code (3 : Nat) (Option.none : Option Jvm.ClassFile.FieldType)) ∈ lw_all := lw_g (lw_at lw_m13 47 rfl) rfl
theorem q3090 : (Jvm.Cond.methodLink "LazyForgeModel" (454 : Nat) ({ cls := "LazyForgeModel", name := "endE", desc := "()V" } : Jvm.MethodName)) ∈ lw_all := lw_g (lw_at lw_m13 48 rfl) rfl
theorem q3091 : (Jvm.Cond.privateMethod ({ cls := "LazyForgeModel", name := "endE", desc := "()V" } : Jvm.MethodName)) ∈ lw_tbl := lw_at lw_m13 49 rfl
theorem q3092 : (Jvm.Cond.instanceMethod ({ cls := "LazyForgeModel", name := "endE", desc := "()V" } : Jvm.MethodName)) ∈ lw_all := lw_g (lw_at lw_m13 50 rfl) rfl
theorem q3093 : (Jvm.Cond.code ({ cls := "LazyForgeModel", name := "endE", desc := "()V" } : Jvm.MethodName) prog_27_method_40_code (3 : Nat) (Option.none : Option Jvm.ClassFile.FieldType)) ∈ lw_all := lw_g (lw_at lw_m13 51 rfl) rfl
theorem q3094 : (Jvm.Cond.methodLink "LazyForgeModel" (433 : Nat) ({ cls := "LazyForgeModel", name := "endBinding", desc := "(I)V" } : Jvm.MethodName)) ∈ lw_all := lw_g (lw_at lw_m13 52 rfl) rfl
theorem q3095 : (Jvm.Cond.privateMethod ({ cls := "LazyForgeModel", name := "endBinding", desc := "(I)V" } : Jvm.MethodName)) ∈ lw_tbl := lw_at lw_m13 53 rfl
theorem q3096 : (Jvm.Cond.instanceMethod ({ cls := "LazyForgeModel", name := "endBinding", desc := "(I)V" } : Jvm.MethodName)) ∈ lw_all := lw_g (lw_at lw_m13 54 rfl) rfl
theorem q3097 : (Jvm.Cond.code ({ cls := "LazyForgeModel", name := "endBinding", desc := "(I)V" } : Jvm.MethodName) prog_27_method_42_code (3 : Nat) (Option.none : Option Jvm.ClassFile.FieldType)) ∈ lw_all := lw_g (lw_at lw_m13 55 rfl) rfl
theorem q3098 : (Jvm.Cond.methodLink "LazyForgeModel" (436 : Nat) ({ cls := "LazyForgeModel", name := "close", desc := "(I)V" } : Jvm.MethodName)) ∈ lw_all := lw_g (lw_at lw_m13 56 rfl) rfl
theorem q3099 : (Jvm.Cond.privateMethod ({ cls := "LazyForgeModel", name := "close", desc := "(I)V" } : Jvm.MethodName)) ∈ lw_tbl := lw_at lw_m13 57 rfl
theorem q3100 : (Jvm.Cond.instanceMethod ({ cls := "LazyForgeModel", name := "close", desc := "(I)V" } : Jvm.MethodName)) ∈ lw_all := lw_g (lw_at lw_m13 58 rfl) rfl
theorem q3101 : (Jvm.Cond.code ({ cls := "LazyForgeModel", name := "close", desc := "(I)V" } : Jvm.MethodName) prog_27_method_41_code (2 : Nat) (Option.none : Option Jvm.ClassFile.FieldType)) ∈ lw_all := lw_g (lw_at lw_m13 59 rfl) rfl
theorem q3102 : (Jvm.Cond.methodLink "LazyForgeModel" (439 : Nat) ({ cls := "LazyForgeModel", name := "branch", desc := "(I)V" } : Jvm.MethodName)) ∈ lw_all := lw_g (lw_at lw_m13 60 rfl) rfl
theorem q3103 : (Jvm.Cond.privateMethod ({ cls := "LazyForgeModel", name := "branch", desc := "(I)V" } : Jvm.MethodName)) ∈ lw_tbl := lw_at lw_m13 61 rfl
theorem q3104 : (Jvm.Cond.instanceMethod ({ cls := "LazyForgeModel", name := "branch", desc := "(I)V" } : Jvm.MethodName)) ∈ lw_all := lw_g (lw_at lw_m13 62 rfl) rfl
theorem q3105 : (Jvm.Cond.code ({ cls := "LazyForgeModel", name := "branch", desc := "(I)V" } : Jvm.MethodName) prog_27_method_43_code (9 : Nat) (Option.none : Option Jvm.ClassFile.FieldType)) ∈ lw_all := lw_g (lw_at lw_m13 63 rfl) rfl
theorem q3106 : (Jvm.Cond.methodLink "LazyForgeModel" (442 : Nat) ({ cls := "LazyForgeModel", name := "endBranch", desc := "(I)V" } : Jvm.MethodName)) ∈ lw_all := lw_g (lw_at lw_m13 64 rfl) rfl
theorem q3107 : (Jvm.Cond.privateMethod ({ cls := "LazyForgeModel", name := "endBranch", desc := "(I)V" } : Jvm.MethodName)) ∈ lw_tbl := lw_at lw_m13 65 rfl
theorem q3108 : (Jvm.Cond.instanceMethod ({ cls := "LazyForgeModel", name := "endBranch", desc := "(I)V" } : Jvm.MethodName)) ∈ lw_all := lw_g (lw_at lw_m13 66 rfl) rfl
theorem q3109 : (Jvm.Cond.code ({ cls := "LazyForgeModel", name := "endBranch", desc := "(I)V" } : Jvm.MethodName) prog_27_method_44_code (3 : Nat) (Option.none : Option Jvm.ClassFile.FieldType)) ∈ lw_all := lw_g (lw_at lw_m13 67 rfl) rfl
theorem q3110 : (Jvm.Cond.methodLink "LazyForgeModel" (579 : Nat) ({ cls := "LazyForgeModel", name := "numberAll", desc := "()V" } : Jvm.MethodName)) ∈ lw_all := lw_g (lw_at lw_m13 68 rfl) rfl
theorem q3111 : (Jvm.Cond.privateMethod ({ cls := "LazyForgeModel", name := "numberAll", desc := "()V" } : Jvm.MethodName)) ∈ lw_tbl := lw_at lw_m13 69 rfl
theorem q3112 : (Jvm.Cond.instanceMethod ({ cls := "LazyForgeModel", name := "numberAll", desc := "()V" } : Jvm.MethodName)) ∈ lw_all := lw_g (lw_at lw_m13 70 rfl) rfl
theorem q3113 : (Jvm.Cond.code ({ cls := "LazyForgeModel", name := "numberAll", desc := "()V" } : Jvm.MethodName) prog_27_method_52_code (2 : Nat) (Option.none : Option Jvm.ClassFile.FieldType)) ∈ lw_all := lw_g (lw_at lw_m13 71 rfl) rfl
theorem q3114 : (Jvm.Cond.methodLink "LazyForgeModel" (582 : Nat) ({ cls := "LazyForgeModel", name := "find", desc := "()V" } : Jvm.MethodName)) ∈ lw_all := lw_g (lw_at lw_m13 72 rfl) rfl
theorem q3115 : (Jvm.Cond.privateMethod ({ cls := "LazyForgeModel", name := "find", desc := "()V" } : Jvm.MethodName)) ∈ lw_tbl := lw_at lw_m13 73 rfl
theorem q3116 : (Jvm.Cond.instanceMethod ({ cls := "LazyForgeModel", name := "find", desc := "()V" } : Jvm.MethodName)) ∈ lw_all := lw_g (lw_at lw_m13 74 rfl) rfl
theorem q3117 : (Jvm.Cond.code ({ cls := "LazyForgeModel", name := "find", desc := "()V" } : Jvm.MethodName) prog_27_method_61_code (4 : Nat) (Option.none : Option Jvm.ClassFile.FieldType)) ∈ lw_all := lw_g (lw_at lw_m13 75 rfl) rfl
theorem q3118 : (Jvm.Cond.methodLink "LazyForgeModel" (505 : Nat) ({ cls := "LazyForgeModel", name := "beginAt", desc := "(II)V" } : Jvm.MethodName)) ∈ lw_all := lw_g (lw_at lw_m13 76 rfl) rfl
theorem q3119 : (Jvm.Cond.privateMethod ({ cls := "LazyForgeModel", name := "beginAt", desc := "(II)V" } : Jvm.MethodName)) ∈ lw_tbl := lw_at lw_m13 77 rfl
theorem q3120 : (Jvm.Cond.instanceMethod ({ cls := "LazyForgeModel", name := "beginAt", desc := "(II)V" } : Jvm.MethodName)) ∈ lw_all := lw_g (lw_at lw_m13 78 rfl) rfl
theorem q3121 : (Jvm.Cond.code ({ cls := "LazyForgeModel", name := "beginAt", desc := "(II)V" } : Jvm.MethodName) prog_27_method_60_code (3 : Nat) (Option.none : Option Jvm.ClassFile.FieldType)) ∈ lw_all := lw_g (lw_at lw_m13 79 rfl) rfl
theorem q3122 : (Jvm.Cond.methodLink "LazyForgeModel" (502 : Nat) ({ cls := "LazyForgeModel", name := "hasRow", desc := "(I)Z" } : Jvm.MethodName)) ∈ lw_all := lw_g (lw_at lw_m13 80 rfl) rfl
theorem q3123 : (Jvm.Cond.static ({ cls := "LazyForgeModel", name := "hasRow", desc := "(I)Z" } : Jvm.MethodName)) ∈ lw_all := lw_g (lw_at lw_m13 81 rfl) rfl
theorem q3124 : (Jvm.Cond.code ({ cls := "LazyForgeModel", name := "hasRow", desc := "(I)Z" } : Jvm.MethodName) prog_27_method_58_code (1 : Nat) (Option.some Jvm.ClassFile.FieldType.boolean)) ∈ lw_all := lw_g (lw_at lw_m13 82 rfl) rfl
theorem q3125 : (Jvm.Cond.methodLink "LazyForgeModel" (508 : Nat) ({ cls := "LazyForgeModel", name := "comeInto", desc := "(I)V" } : Jvm.MethodName)) ∈ lw_all := lw_g (lw_at lw_m13 83 rfl) rfl
theorem q3126 : (Jvm.Cond.privateMethod ({ cls := "LazyForgeModel", name := "comeInto", desc := "(I)V" } : Jvm.MethodName)) ∈ lw_tbl := lw_at lw_m13 84 rfl
theorem q3127 : (Jvm.Cond.instanceMethod ({ cls := "LazyForgeModel", name := "comeInto", desc := "(I)V" } : Jvm.MethodName)) ∈ lw_all := lw_g (lw_at lw_m13 85 rfl) rfl
theorem q3128 : (Jvm.Cond.code ({ cls := "LazyForgeModel", name := "comeInto", desc := "(I)V" } : Jvm.MethodName) prog_27_method_55_code (3 : Nat) (Option.none : Option Jvm.ClassFile.FieldType)) ∈ lw_all := lw_g (lw_at lw_m13 86 rfl) rfl
theorem q3129 : (Jvm.Cond.methodLink "LazyForgeModel" (483 : Nat) ({ cls := "LazyForgeModel", name := "newVariable", desc := "(J)I" } : Jvm.MethodName)) ∈ lw_all := lw_g (lw_at lw_m13 87 rfl) rfl
theorem q3130 : (Jvm.Cond.privateMethod ({ cls := "LazyForgeModel", name := "newVariable", desc := "(J)I" } : Jvm.MethodName)) ∈ lw_tbl := lw_at lw_m13 88 rfl
theorem q3131 : (Jvm.Cond.instanceMethod ({ cls := "LazyForgeModel", name := "newVariable", desc := "(J)I" } : Jvm.MethodName)) ∈ lw_all := lw_g (lw_at lw_m13 89 rfl) rfl
theorem q3132 : (Jvm.Cond.code ({ cls := "LazyForgeModel", name := "newVariable", desc := "(J)I" } : Jvm.MethodName) prog_27_method_50_code (5 : Nat) (Option.some Jvm.ClassFile.FieldType.int)) ∈ lw_all := lw_g (lw_at lw_m13 90 rfl) rfl
theorem q3133 : (Jvm.Cond.methodLink "LazyForgeModel" (492 : Nat) ({ cls := "LazyForgeModel", name := "use", desc := "(I)V" } : Jvm.MethodName)) ∈ lw_all := lw_g (lw_at lw_m13 91 rfl) rfl
theorem q3134 : (Jvm.Cond.privateMethod ({ cls := "LazyForgeModel", name := "use", desc := "(I)V" } : Jvm.MethodName)) ∈ lw_tbl := lw_at lw_m13 92 rfl
theorem q3135 : (Jvm.Cond.instanceMethod ({ cls := "LazyForgeModel", name := "use", desc := "(I)V" } : Jvm.MethodName)) ∈ lw_all := lw_g (lw_at lw_m13 93 rfl) rfl
theorem q3136 : (Jvm.Cond.code ({ cls := "LazyForgeModel", name := "use", desc := "(I)V" } : Jvm.MethodName) prog_27_method_53_code (5 : Nat) (Option.none : Option Jvm.ClassFile.FieldType)) ∈ lw_all := lw_g (lw_at lw_m13 94 rfl) rfl
theorem q3137 : (Jvm.Cond.methodLink "LazyForgeModel" (489 : Nat) ({ cls := "LazyForgeModel", name := "addFree", desc := "(II)V" } : Jvm.MethodName)) ∈ lw_all := lw_g (lw_at lw_m13 95 rfl) rfl
theorem q3138 : (Jvm.Cond.privateMethod ({ cls := "LazyForgeModel", name := "addFree", desc := "(II)V" } : Jvm.MethodName)) ∈ lw_tbl := lw_at lw_m13 96 rfl
theorem q3139 : (Jvm.Cond.instanceMethod ({ cls := "LazyForgeModel", name := "addFree", desc := "(II)V" } : Jvm.MethodName)) ∈ lw_all := lw_g (lw_at lw_m13 97 rfl) rfl
theorem q3140 : (Jvm.Cond.code ({ cls := "LazyForgeModel", name := "addFree", desc := "(II)V" } : Jvm.MethodName) prog_27_method_54_code (5 : Nat) (Option.none : Option Jvm.ClassFile.FieldType)) ∈ lw_all := lw_g (lw_at lw_m13 98 rfl) rfl
theorem q3141 : (Jvm.Cond.methodLink "LazyForgeModel" (495 : Nat) ({ cls := "LazyForgeModel", name := "giveNames", desc := "(I)V" } : Jvm.MethodName)) ∈ lw_all := lw_g (lw_at lw_m13 99 rfl) rfl
theorem q3142 : (Jvm.Cond.privateMethod ({ cls := "LazyForgeModel", name := "giveNames", desc := "(I)V" } : Jvm.MethodName)) ∈ lw_tbl := lw_at lw_m13 100 rfl
theorem q3143 : (Jvm.Cond.instanceMethod ({ cls := "LazyForgeModel", name := "giveNames", desc := "(I)V" } : Jvm.MethodName)) ∈ lw_all := lw_g (lw_at lw_m13 101 rfl) rfl
theorem q3144 : (Jvm.Cond.code ({ cls := "LazyForgeModel", name := "giveNames", desc := "(I)V" } : Jvm.MethodName) prog_27_method_51_code (3 : Nat) (Option.none : Option Jvm.ClassFile.FieldType)) ∈ lw_all := lw_g (lw_at lw_m13 102 rfl) rfl
theorem q3145 : (Jvm.Cond.methodLink "LazyForgeModel" (511 : Nat) ({ cls := "LazyForgeModel", name := "nextChild", desc := "(I)I" } : Jvm.MethodName)) ∈ lw_all := lw_g (lw_at lw_m13 103 rfl) rfl
theorem q3146 : (Jvm.Cond.privateMethod ({ cls := "LazyForgeModel", name := "nextChild", desc := "(I)I" } : Jvm.MethodName)) ∈ lw_tbl := lw_at lw_m13 104 rfl
theorem q3147 : (Jvm.Cond.instanceMethod ({ cls := "LazyForgeModel", name := "nextChild", desc := "(I)I" } : Jvm.MethodName)) ∈ lw_all := lw_g (lw_at lw_m13 105 rfl) rfl
theorem q3148 : (Jvm.Cond.code ({ cls := "LazyForgeModel", name := "nextChild", desc := "(I)I" } : Jvm.MethodName) prog_27_method_59_code (7 : Nat) (Option.some Jvm.ClassFile.FieldType.int)) ∈ lw_all := lw_g (lw_at lw_m13 106 rfl) rfl
theorem q3149 : (Jvm.Cond.methodLink "LazyForgeModel" (498 : Nat) ({ cls := "LazyForgeModel", name := "childAt", desc := "(III)I" } : Jvm.MethodName)) ∈ lw_all := lw_g (lw_at lw_m13 107 rfl) rfl
theorem q3150 : (Jvm.Cond.privateMethod ({ cls := "LazyForgeModel", name := "childAt", desc := "(III)I" } : Jvm.MethodName)) ∈ lw_tbl := lw_at lw_m13 108 rfl
theorem q3151 : (Jvm.Cond.instanceMethod ({ cls := "LazyForgeModel", name := "childAt", desc := "(III)I" } : Jvm.MethodName)) ∈ lw_all := lw_g (lw_at lw_m13 109 rfl) rfl
theorem q3152 : (Jvm.Cond.code ({ cls := "LazyForgeModel", name := "childAt", desc := "(III)I" } : Jvm.MethodName) prog_27_method_57_code (5 : Nat) (Option.some Jvm.ClassFile.FieldType.int)) ∈ lw_all := lw_g (lw_at lw_m13 110 rfl) rfl
theorem q3153 : (Jvm.Cond.methodLink "LazyForgeModel" (514 : Nat) ({ cls := "LazyForgeModel", name := "goOutOf", desc := "(I)V" } : Jvm.MethodName)) ∈ lw_all := lw_g (lw_at lw_m13 111 rfl) rfl
theorem q3154 : (Jvm.Cond.privateMethod ({ cls := "LazyForgeModel", name := "goOutOf", desc := "(I)V" } : Jvm.MethodName)) ∈ lw_tbl := lw_at lw_m13 112 rfl
theorem q3155 : (Jvm.Cond.instanceMethod ({ cls := "LazyForgeModel", name := "goOutOf", desc := "(I)V" } : Jvm.MethodName)) ∈ lw_all := lw_g (lw_at lw_m13 113 rfl) rfl
theorem q3156 : (Jvm.Cond.code ({ cls := "LazyForgeModel", name := "goOutOf", desc := "(I)V" } : Jvm.MethodName) prog_27_method_56_code (3 : Nat) (Option.none : Option Jvm.ClassFile.FieldType)) ∈ lw_all := lw_g (lw_at lw_m13 114 rfl) rfl
theorem q3157 : (Jvm.Cond.methodLink "LazyForgeModel" (585 : Nat) ({ cls := "LazyForgeModel", name := "judge", desc := "()V" } : Jvm.MethodName)) ∈ lw_all := lw_g (lw_at lw_m13 115 rfl) rfl
theorem q3158 : (Jvm.Cond.privateMethod ({ cls := "LazyForgeModel", name := "judge", desc := "()V" } : Jvm.MethodName)) ∈ lw_tbl := lw_at lw_m13 116 rfl
theorem q3159 : (Jvm.Cond.instanceMethod ({ cls := "LazyForgeModel", name := "judge", desc := "()V" } : Jvm.MethodName)) ∈ lw_all := lw_g (lw_at lw_m13 117 rfl) rfl
theorem q3160 : (Jvm.Cond.code ({ cls := "LazyForgeModel", name := "judge", desc := "()V" } : Jvm.MethodName) prog_27_method_62_code (2 : Nat) (Option.none : Option Jvm.ClassFile.FieldType)) ∈ lw_all := lw_g (lw_at lw_m13 118 rfl) rfl
theorem q3161 : (Jvm.Cond.methodLink "LazyForgeModel" (517 : Nat) ({ cls := "LazyForgeModel", name := "mainFunction", desc := "()I" } : Jvm.MethodName)) ∈ lw_all := lw_g (lw_at lw_m13 119 rfl) rfl
theorem q3162 : (Jvm.Cond.privateMethod ({ cls := "LazyForgeModel", name := "mainFunction", desc := "()I" } : Jvm.MethodName)) ∈ lw_tbl := lw_at lw_m13 120 rfl
theorem q3163 : (Jvm.Cond.instanceMethod ({ cls := "LazyForgeModel", name := "mainFunction", desc := "()I" } : Jvm.MethodName)) ∈ lw_all := lw_g (lw_at lw_m13 121 rfl) rfl
theorem q3164 : (Jvm.Cond.code ({ cls := "LazyForgeModel", name := "mainFunction", desc := "()I" } : Jvm.MethodName) prog_27_method_63_code (3 : Nat) (Option.some Jvm.ClassFile.FieldType.int)) ∈ lw_all := lw_g (lw_at lw_m13 122 rfl) rfl
theorem q3165 : (Jvm.Cond.methodLink "LazyForgeModel" (588 : Nat) ({ cls := "LazyForgeModel", name := "liftAll", desc := "()V" } : Jvm.MethodName)) ∈ lw_all := lw_g (lw_at lw_m13 123 rfl) rfl
theorem q3166 : (Jvm.Cond.privateMethod ({ cls := "LazyForgeModel", name := "liftAll", desc := "()V" } : Jvm.MethodName)) ∈ lw_tbl := lw_at lw_m13 124 rfl
theorem q3167 : (Jvm.Cond.instanceMethod ({ cls := "LazyForgeModel", name := "liftAll", desc := "()V" } : Jvm.MethodName)) ∈ lw_all := lw_g (lw_at lw_m13 125 rfl) rfl
theorem q3168 : (Jvm.Cond.code ({ cls := "LazyForgeModel", name := "liftAll", desc := "()V" } : Jvm.MethodName) prog_27_method_71_code (5 : Nat) (Option.none : Option Jvm.ClassFile.FieldType)) ∈ lw_all := lw_g (lw_at lw_m13 126 rfl) rfl
theorem q3169 : (Jvm.Cond.methodLink "LazyForgeModel" (548 : Nat) ({ cls := "LazyForgeModel", name := "closePart", desc := "(II)V" } : Jvm.MethodName)) ∈ lw_all := lw_g (lw_at lw_m13 127 rfl) rfl
theorem q3170 : (Jvm.Cond.privateMethod ({ cls := "LazyForgeModel", name := "closePart", desc := "(II)V" } : Jvm.MethodName)) ∈ lw_tbl := lw_at lw_m13 128 rfl
theorem q3171 : (Jvm.Cond.instanceMethod ({ cls := "LazyForgeModel", name := "closePart", desc := "(II)V" } : Jvm.MethodName)) ∈ lw_all := lw_g (lw_at lw_m13 129 rfl) rfl
theorem q3172 : (Jvm.Cond.code ({ cls := "LazyForgeModel", name := "closePart", desc := "(II)V" } : Jvm.MethodName) prog_27_method_70_code (8 : Nat) (Option.none : Option Jvm.ClassFile.FieldType)) ∈ lw_all := lw_g (lw_at lw_m13 130 rfl) rfl
theorem q3173 : (Jvm.Cond.methodLink "LazyForgeModel" (536 : Nat) ({ cls := "LazyForgeModel", name := "rowCount", desc := "(I)I" } : Jvm.MethodName)) ∈ lw_all := lw_g (lw_at lw_m13 131 rfl) rfl
theorem q3174 : (Jvm.Cond.privateMethod ({ cls := "LazyForgeModel", name := "rowCount", desc := "(I)I" } : Jvm.MethodName)) ∈ lw_tbl := lw_at lw_m13 132 rfl
theorem q3175 : (Jvm.Cond.instanceMethod ({ cls := "LazyForgeModel", name := "rowCount", desc := "(I)I" } : Jvm.MethodName)) ∈ lw_all := lw_g (lw_at lw_m13 133 rfl) rfl
theorem q3176 : (Jvm.Cond.code ({ cls := "LazyForgeModel", name := "rowCount", desc := "(I)I" } : Jvm.MethodName) prog_27_method_68_code (4 : Nat) (Option.some Jvm.ClassFile.FieldType.int)) ∈ lw_all := lw_g (lw_at lw_m13 134 rfl) rfl
theorem q3177 : (Jvm.Cond.methodLink "LazyForgeModel" (529 : Nat) ({ cls := "LazyForgeModel", name := "lift", desc := "(III)I" } : Jvm.MethodName)) ∈ lw_all := lw_g (lw_at lw_m13 135 rfl) rfl
theorem q3178 : (Jvm.Cond.privateMethod ({ cls := "LazyForgeModel", name := "lift", desc := "(III)I" } : Jvm.MethodName)) ∈ lw_tbl := lw_at lw_m13 136 rfl
theorem q3179 : (Jvm.Cond.instanceMethod ({ cls := "LazyForgeModel", name := "lift", desc := "(III)I" } : Jvm.MethodName)) ∈ lw_all := lw_g (lw_at lw_m13 137 rfl) rfl
theorem q3180 : (Jvm.Cond.code ({ cls := "LazyForgeModel", name := "lift", desc := "(III)I" } : Jvm.MethodName) prog_27_method_64_code (10 : Nat) (Option.some Jvm.ClassFile.FieldType.int)) ∈ lw_all := lw_g (lw_at lw_m13 138 rfl) rfl
theorem q3181 : (Jvm.Cond.methodLink "LazyForgeModel" (532 : Nat) ({ cls := "LazyForgeModel", name := "local", desc := "(II)I" } : Jvm.MethodName)) ∈ lw_all := lw_g (lw_at lw_m13 139 rfl) rfl
theorem q3182 : (Jvm.Cond.privateMethod ({ cls := "LazyForgeModel", name := "local", desc := "(II)I" } : Jvm.MethodName)) ∈ lw_tbl := lw_at lw_m13 140 rfl
theorem q3183 : (Jvm.Cond.instanceMethod ({ cls := "LazyForgeModel", name := "local", desc := "(II)I" } : Jvm.MethodName)) ∈ lw_all := lw_g (lw_at lw_m13 141 rfl) rfl
theorem q3184 : (Jvm.Cond.code ({ cls := "LazyForgeModel", name := "local", desc := "(II)I" } : Jvm.MethodName) prog_27_method_66_code (4 : Nat) (Option.some Jvm.ClassFile.FieldType.int)) ∈ lw_all := lw_g (lw_at lw_m13 142 rfl) rfl
theorem q3185 : (Jvm.Cond.methodLink "LazyForgeModel" (539 : Nat) ({ cls := "LazyForgeModel", name := "bits", desc := "(II)J" } : Jvm.MethodName)) ∈ lw_all := lw_g (lw_at lw_m13 143 rfl) rfl
theorem q3186 : (Jvm.Cond.static ({ cls := "LazyForgeModel", name := "bits", desc := "(II)J" } : Jvm.MethodName)) ∈ lw_all := lw_g (lw_at lw_m13 144 rfl) rfl
theorem q3187 : (Jvm.Cond.code ({ cls := "LazyForgeModel", name := "bits", desc := "(II)J" } : Jvm.MethodName) prog_27_method_69_code (2 : Nat) (Option.some Jvm.ClassFile.FieldType.long)) ∈ lw_all := lw_g (lw_at lw_m13 145 rfl) rfl
theorem q3188 : (Jvm.Cond.constantLong "LazyForgeModel" (543 : Nat) (-1 : Int64)) ∈ lw_all := lw_g (lw_at lw_m13 146 rfl) rfl
theorem q3189 : (Jvm.Cond.methodLink "LazyForgeModel" (545 : Nat) ({ cls := "LazyForgeModel", name := "child", desc := "(II)I" } : Jvm.MethodName)) ∈ lw_all := lw_g (lw_at lw_m13 147 rfl) rfl
theorem q3190 : (Jvm.Cond.privateMethod ({ cls := "LazyForgeModel", name := "child", desc := "(II)I" } : Jvm.MethodName)) ∈ lw_tbl := lw_at lw_m13 148 rfl
theorem q3191 : (Jvm.Cond.instanceMethod ({ cls := "LazyForgeModel", name := "child", desc := "(II)I" } : Jvm.MethodName)) ∈ lw_all := lw_g (lw_at lw_m13 149 rfl) rfl
theorem q3192 : (Jvm.Cond.code ({ cls := "LazyForgeModel", name := "child", desc := "(II)I" } : Jvm.MethodName) prog_27_method_65_code (3 : Nat) (Option.some Jvm.ClassFile.FieldType.int)) ∈ lw_all := lw_g (lw_at lw_m13 150 rfl) rfl
theorem q3193 : (Jvm.Cond.methodLink "LazyForgeModel" (551 : Nat) ({ cls := "LazyForgeModel", name := "liftFunction", desc := "(II)V" } : Jvm.MethodName)) ∈ lw_all := lw_g (lw_at lw_m13 151 rfl) rfl
theorem q3194 : (Jvm.Cond.privateMethod ({ cls := "LazyForgeModel", name := "liftFunction", desc := "(II)V" } : Jvm.MethodName)) ∈ lw_tbl := lw_at lw_m13 152 rfl
theorem q3195 : (Jvm.Cond.instanceMethod ({ cls := "LazyForgeModel", name := "liftFunction", desc := "(II)V" } : Jvm.MethodName)) ∈ lw_all := lw_g (lw_at lw_m13 153 rfl) rfl
theorem q3196 : (Jvm.Cond.code ({ cls := "LazyForgeModel", name := "liftFunction", desc := "(II)V" } : Jvm.MethodName) prog_27_method_67_code (4 : Nat) (Option.none : Option Jvm.ClassFile.FieldType)) ∈ lw_all := lw_g (lw_at lw_m13 154 rfl) rfl
theorem q3197 : (Jvm.Cond.methodLink "LazyForgeModel" (594 : Nat) ({ cls := "LazyForgeModel", name := "findTables", desc := "()V" } : Jvm.MethodName)) ∈ lw_all := lw_g (lw_at lw_m13 155 rfl) rfl
theorem q3198 : (Jvm.Cond.privateMethod ({ cls := "LazyForgeModel", name := "findTables", desc := "()V" } : Jvm.MethodName)) ∈ lw_tbl := lw_at lw_m13 156 rfl
theorem q3199 : (Jvm.Cond.instanceMethod ({ cls := "LazyForgeModel", name := "findTables", desc := "()V" } : Jvm.MethodName)) ∈ lw_all := lw_g (lw_at lw_m13 157 rfl) rfl
theorem q3200 : (Jvm.Cond.code ({ cls := "LazyForgeModel", name := "findTables", desc := "()V" } : Jvm.MethodName) prog_27_method_76_code (6 : Nat) (Option.none : Option Jvm.ClassFile.FieldType)) ∈ lw_all := lw_g (lw_at lw_m13 158 rfl) rfl
theorem q3201 : (Jvm.Cond.methodLink "LazyForgeModel" (564 : Nat) ({ cls := "LazyForgeModel", name := "bitOfPart", desc := "(II)Z" } : Jvm.MethodName)) ∈ lw_all := lw_g (lw_at lw_m13 159 rfl) rfl
theorem q3202 : (Jvm.Cond.privateMethod ({ cls := "LazyForgeModel", name := "bitOfPart", desc := "(II)Z" } : Jvm.MethodName)) ∈ lw_tbl := lw_at lw_m13 160 rfl
theorem q3203 : (Jvm.Cond.instanceMethod ({ cls := "LazyForgeModel", name := "bitOfPart", desc := "(II)Z" } : Jvm.MethodName)) ∈ lw_all := lw_g (lw_at lw_m13 161 rfl) rfl
theorem q3204 : (Jvm.Cond.code ({ cls := "LazyForgeModel", name := "bitOfPart", desc := "(II)Z" } : Jvm.MethodName) prog_27_method_75_code (7 : Nat) (Option.some Jvm.ClassFile.FieldType.boolean)) ∈ lw_all := lw_g (lw_at lw_m13 162 rfl) rfl
theorem q3205 : (Jvm.Cond.methodLink "LazyForgeModel" (561 : Nat) ({ cls := "LazyForgeModel", name := "partBit", desc := "(I)Z" } : Jvm.MethodName)) ∈ lw_all := lw_g (lw_at lw_m13 163 rfl) rfl
theorem q3206 : (Jvm.Cond.privateMethod ({ cls := "LazyForgeModel", name := "partBit", desc := "(I)Z" } : Jvm.MethodName)) ∈ lw_tbl := lw_at lw_m13 164 rfl
theorem q3207 : (Jvm.Cond.instanceMethod ({ cls := "LazyForgeModel", name := "partBit", desc := "(I)Z" } : Jvm.MethodName)) ∈ lw_all := lw_g (lw_at lw_m13 165 rfl) rfl
theorem q3208 : (Jvm.Cond.code ({ cls := "LazyForgeModel", name := "partBit", desc := "(I)Z" } : Jvm.MethodName) prog_27_method_73_code (5 : Nat) (Option.some Jvm.ClassFile.FieldType.boolean)) ∈ lw_all := lw_g (lw_at lw_m13 166 rfl) rfl
theorem q3209 : (Jvm.Cond.methodLink "LazyForgeModel" (554 : Nat) ({ cls := "LazyForgeModel", name := "table", desc := "(II)Z" } : Jvm.MethodName)) ∈ lw_all := lw_g (lw_at lw_m13 167 rfl) rfl
theorem q3210 : (Jvm.Cond.privateMethod ({ cls := "LazyForgeModel", name := "table", desc := "(II)Z" } : Jvm.MethodName)) ∈ lw_tbl := lw_at lw_m13 168 rfl
theorem q3211 : (Jvm.Cond.instanceMethod ({ cls := "LazyForgeModel", name := "table", desc := "(II)Z" } : Jvm.MethodName)) ∈ lw_all := lw_g (lw_at lw_m13 169 rfl) rfl
theorem q3212 : (Jvm.Cond.code ({ cls := "LazyForgeModel", name := "table", desc := "(II)Z" } : Jvm.MethodName) prog_27_method_72_code (3 : Nat) (Option.some Jvm.ClassFile.FieldType.boolean)) ∈ lw_all := lw_g (lw_at lw_m13 170 rfl) rfl
theorem q3213 : (Jvm.Cond.methodLink "LazyForgeModel" (558 : Nat) ({ cls := "LazyForgeModel", name := "appliedBit", desc := "(I)Z" } : Jvm.MethodName)) ∈ lw_all := lw_g (lw_at lw_m13 171 rfl) rfl
theorem q3214 : (Jvm.Cond.privateMethod ({ cls := "LazyForgeModel", name := "appliedBit", desc := "(I)Z" } : Jvm.MethodName)) ∈ lw_tbl := lw_at lw_m13 172 rfl
theorem q3215 : (Jvm.Cond.instanceMethod ({ cls := "LazyForgeModel", name := "appliedBit", desc := "(I)Z" } : Jvm.MethodName)) ∈ lw_all := lw_g (lw_at lw_m13 173 rfl) rfl
theorem q3216 : (Jvm.Cond.code ({ cls := "LazyForgeModel", name := "appliedBit", desc := "(I)Z" } : Jvm.MethodName) prog_27_method_74_code (7 : Nat) (Option.some Jvm.ClassFile.FieldType.boolean)) ∈ lw_all := lw_g (lw_at lw_m13 174 rfl) rfl
theorem q3217 : (Jvm.Cond.methodLink "LazyForgeModel" (597 : Nat) ({ cls := "LazyForgeModel", name := "findNeeds", desc := "()V" } : Jvm.MethodName)) ∈ lw_all := lw_g (lw_at lw_m13 175 rfl) rfl
theorem q3218 : (Jvm.Cond.privateMethod ({ cls := "LazyForgeModel", name := "findNeeds", desc := "()V" } : Jvm.MethodName)) ∈ lw_tbl := lw_at lw_m13 176 rfl
theorem q3219 : (Jvm.Cond.instanceMethod ({ cls := "LazyForgeModel", name := "findNeeds", desc := "()V" } : Jvm.MethodName)) ∈ lw_all := lw_g (lw_at lw_m13 177 rfl) rfl
theorem q3220 : (Jvm.Cond.code ({ cls := "LazyForgeModel", name := "findNeeds", desc := "()V" } : Jvm.MethodName) prog_27_method_78_code (5 : Nat) (Option.none : Option Jvm.ClassFile.FieldType)) ∈ lw_all := lw_g (lw_at lw_m13 178 rfl) rfl
theorem q3221 : (Jvm.Cond.methodLink "LazyForgeModel" (567 : Nat) ({ cls := "LazyForgeModel", name := "firstWithin", desc := "(I)I" } : Jvm.MethodName)) ∈ lw_all := lw_g (lw_at lw_m13 179 rfl) rfl
theorem q3222 : (Jvm.Cond.privateMethod ({ cls := "LazyForgeModel", name := "firstWithin", desc := "(I)I" } : Jvm.MethodName)) ∈ lw_tbl := lw_at lw_m13 180 rfl
theorem q3223 : (Jvm.Cond.instanceMethod ({ cls := "LazyForgeModel", name := "firstWithin", desc := "(I)I" } : Jvm.MethodName)) ∈ lw_all := lw_g (lw_at lw_m13 181 rfl) rfl
theorem q3224 : (Jvm.Cond.code ({ cls := "LazyForgeModel", name := "firstWithin", desc := "(I)I" } : Jvm.MethodName) prog_27_method_77_code (3 : Nat) (Option.some Jvm.ClassFile.FieldType.int)) ∈ lw_all := lw_g (lw_at lw_m13 182 rfl) rfl
theorem q3225 : (Jvm.Cond.methodLink "LazyForgeModel" (600 : Nat) ({ cls := "LazyForgeModel", name := "isNeeded", desc := "(II)Z" } : Jvm.MethodName)) ∈ lw_all := lw_g (lw_at lw_m13 183 rfl) rfl
theorem q3226 : (Jvm.Cond.privateMethod ({ cls := "LazyForgeModel", name := "isNeeded", desc := "(II)Z" } : Jvm.MethodName)) ∈ lw_tbl := lw_at lw_m13 184 rfl
theorem q3227 : (Jvm.Cond.instanceMethod ({ cls := "LazyForgeModel", name := "isNeeded", desc := "(II)Z" } : Jvm.MethodName)) ∈ lw_all := lw_g (lw_at lw_m13 185 rfl) rfl
theorem q3228 : (Jvm.Cond.code ({ cls := "LazyForgeModel", name := "isNeeded", desc := "(II)Z" } : Jvm.MethodName) prog_27_method_79_code (4 : Nat) (Option.some Jvm.ClassFile.FieldType.boolean)) ∈ lw_all := lw_g (lw_at lw_m13 186 rfl) rfl
theorem q3230 : (Jvm.Cond.instanceMethod ({ cls := "LazyForgeModel", name := "run", desc := "(ZI)I" } : Jvm.MethodName)) ∈ lw_all := lw_g (lw_at lw_m13 188 rfl) rfl
theorem q3231 : (Jvm.Cond.selects "LazyForgeModel" ({ cls := "LazyForgeModel", name := "run", desc := "(ZI)I" } : Jvm.MethodName) ({ cls := "LazyForgeModel", name := "run", desc := "(ZI)I" } : Jvm.MethodName)) ∈ lw_all := lw_g (lw_at lw_m13 189 rfl) rfl
theorem q3232 : (Jvm.Cond.code ({ cls := "LazyForgeModel", name := "run", desc := "(ZI)I" } : Jvm.MethodName) prog_27_method_112_code (5 : Nat) (Option.some Jvm.ClassFile.FieldType.int)) ∈ lw_all := lw_g (lw_at lw_m13 190 rfl) rfl
theorem q3233 : (Jvm.Cond.constant "LazyForgeModel" (770 : Nat) (150000 : Int32)) ∈ lw_all := lw_g (lw_at lw_m13 191 rfl) rfl
theorem q3234 : (Jvm.Cond.methodLink "LazyForgeModel" (653 : Nat) ({ cls := "LazyForgeModel", name := "newCell", desc := "(IIII)I" } : Jvm.MethodName)) ∈ lw_all := lw_g (lw_at lw_m13 192 rfl) rfl
theorem q3235 : (Jvm.Cond.privateMethod ({ cls := "LazyForgeModel", name := "newCell", desc := "(IIII)I" } : Jvm.MethodName)) ∈ lw_tbl := lw_at lw_m13 193 rfl
theorem q3236 : (Jvm.Cond.instanceMethod ({ cls := "LazyForgeModel", name := "newCell", desc := "(IIII)I" } : Jvm.MethodName)) ∈ lw_all := lw_g (lw_at lw_m13 194 rfl) rfl
theorem q3237 : (Jvm.Cond.code ({ cls := "LazyForgeModel", name := "newCell", desc := "(IIII)I" } : Jvm.MethodName) prog_27_method_88_code (6 : Nat) (Option.some Jvm.ClassFile.FieldType.int)) ∈ lw_all := lw_g (lw_at lw_m13 195 rfl) rfl
theorem q3238 : (Jvm.Cond.methodLink "LazyForgeModel" (629 : Nat) ({ cls := "LazyForgeModel", name := "ends", desc := "(II)V" } : Jvm.MethodName)) ∈ lw_all := lw_g (lw_at lw_m13 196 rfl) rfl
theorem q3239 : (Jvm.Cond.privateMethod ({ cls := "LazyForgeModel", name := "ends", desc := "(II)V" } : Jvm.MethodName)) ∈ lw_tbl := lw_at lw_m13 197 rfl
theorem q3240 : (Jvm.Cond.instanceMethod ({ cls := "LazyForgeModel", name := "ends", desc := "(II)V" } : Jvm.MethodName)) ∈ lw_all := lw_g (lw_at lw_m13 198 rfl) rfl
theorem q3241 : (Jvm.Cond.code ({ cls := "LazyForgeModel", name := "ends", desc := "(II)V" } : Jvm.MethodName) prog_27_method_84_code (3 : Nat) (Option.none : Option Jvm.ClassFile.FieldType)) ∈ lw_all := lw_g (lw_at lw_m13 199 rfl) rfl
theorem q3242 : (Jvm.Cond.methodLink "LazyForgeModel" (650 : Nat) ({ cls := "LazyForgeModel", name := "value", desc := "(II)J" } : Jvm.MethodName)) ∈ lw_all := lw_g (lw_at lw_m13 200 rfl) rfl
theorem q3243 : (Jvm.Cond.static ({ cls := "LazyForgeModel", name := "value", desc := "(II)J" } : Jvm.MethodName)) ∈ lw_all := lw_g (lw_at lw_m13 201 rfl) rfl
theorem q3244 : (Jvm.Cond.code ({ cls := "LazyForgeModel", name := "value", desc := "(II)J" } : Jvm.MethodName) prog_27_method_81_code (2 : Nat) (Option.some Jvm.ClassFile.FieldType.long)) ∈ lw_all := lw_g (lw_at lw_m13 202 rfl) rfl
theorem q3245 : (Jvm.Cond.constantLong "LazyForgeModel" (603 : Nat) (4294967295 : Int64)) ∈ lw_all := lw_g (lw_at lw_m13 203 rfl) rfl
theorem q3246 : (Jvm.Cond.methodLink "LazyForgeModel" (771 : Nat) ({ cls := "LazyForgeModel", name := "workOut", desc := "(J)V" } : Jvm.MethodName)) ∈ lw_all := lw_g (lw_at lw_m13 204 rfl) rfl
theorem q3247 : (Jvm.Cond.privateMethod ({ cls := "LazyForgeModel", name := "workOut", desc := "(J)V" } : Jvm.MethodName)) ∈ lw_tbl := lw_at lw_m13 205 rfl
theorem q3248 : (Jvm.Cond.instanceMethod ({ cls := "LazyForgeModel", name := "workOut", desc := "(J)V" } : Jvm.MethodName)) ∈ lw_all := lw_g (lw_at lw_m13 206 rfl) rfl
theorem q3249 : (Jvm.Cond.code ({ cls := "LazyForgeModel", name := "workOut", desc := "(J)V" } : Jvm.MethodName) prog_27_method_108_code (3 : Nat) (Option.none : Option Jvm.ClassFile.FieldType)) ∈ lw_all := lw_g (lw_at lw_m13 207 rfl) rfl
theorem q3250 : (Jvm.Cond.methodLink "LazyForgeModel" (700 : Nat) ({ cls := "LazyForgeModel", name := "enter", desc := "(J)V" } : Jvm.MethodName)) ∈ lw_all := lw_g (lw_at lw_m13 208 rfl) rfl
theorem q3251 : (Jvm.Cond.privateMethod ({ cls := "LazyForgeModel", name := "enter", desc := "(J)V" } : Jvm.MethodName)) ∈ lw_tbl := lw_at lw_m13 209 rfl
theorem q3252 : (Jvm.Cond.instanceMethod ({ cls := "LazyForgeModel", name := "enter", desc := "(J)V" } : Jvm.MethodName)) ∈ lw_all := lw_g (lw_at lw_m13 210 rfl) rfl
theorem q3253 : (Jvm.Cond.code ({ cls := "LazyForgeModel", name := "enter", desc := "(J)V" } : Jvm.MethodName) prog_27_method_98_code (7 : Nat) (Option.none : Option Jvm.ClassFile.FieldType)) ∈ lw_all := lw_g (lw_at lw_m13 211 rfl) rfl
theorem q3254 : (Jvm.Cond.methodLink "LazyForgeModel" (688 : Nat) ({ cls := "LazyForgeModel", name := "kindOf", desc := "(J)I" } : Jvm.MethodName)) ∈ lw_all := lw_g (lw_at lw_m13 212 rfl) rfl
theorem q3255 : (Jvm.Cond.static ({ cls := "LazyForgeModel", name := "kindOf", desc := "(J)I" } : Jvm.MethodName)) ∈ lw_all := lw_g (lw_at lw_m13 213 rfl) rfl
theorem q3256 : (Jvm.Cond.code ({ cls := "LazyForgeModel", name := "kindOf", desc := "(J)I" } : Jvm.MethodName) prog_27_method_82_code (2 : Nat) (Option.some Jvm.ClassFile.FieldType.int)) ∈ lw_all := lw_g (lw_at lw_m13 214 rfl) rfl
theorem q3257 : (Jvm.Cond.methodLink "LazyForgeModel" (691 : Nat) ({ cls := "LazyForgeModel", name := "gives", desc := "(J)V" } : Jvm.MethodName)) ∈ lw_all := lw_g (lw_at lw_m13 215 rfl) rfl
theorem q3258 : (Jvm.Cond.privateMethod ({ cls := "LazyForgeModel", name := "gives", desc := "(J)V" } : Jvm.MethodName)) ∈ lw_tbl := lw_at lw_m13 216 rfl
theorem q3259 : (Jvm.Cond.instanceMethod ({ cls := "LazyForgeModel", name := "gives", desc := "(J)V" } : Jvm.MethodName)) ∈ lw_all := lw_g (lw_at lw_m13 217 rfl) rfl
theorem q3260 : (Jvm.Cond.code ({ cls := "LazyForgeModel", name := "gives", desc := "(J)V" } : Jvm.MethodName) prog_27_method_87_code (3 : Nat) (Option.none : Option Jvm.ClassFile.FieldType)) ∈ lw_all := lw_g (lw_at lw_m13 218 rfl) rfl
theorem q3261 : (Jvm.Cond.methodLink "LazyForgeModel" (679 : Nat) ({ cls := "LazyForgeModel", name := "of", desc := "(J)I" } : Jvm.MethodName)) ∈ lw_all := lw_g (lw_at lw_m13 219 rfl) rfl
theorem q3262 : (Jvm.Cond.static ({ cls := "LazyForgeModel", name := "of", desc := "(J)I" } : Jvm.MethodName)) ∈ lw_all := lw_g (lw_at lw_m13 220 rfl) rfl
theorem q3263 : (Jvm.Cond.code ({ cls := "LazyForgeModel", name := "of", desc := "(J)I" } : Jvm.MethodName) prog_27_method_83_code (2 : Nat) (Option.some Jvm.ClassFile.FieldType.int)) ∈ lw_all := lw_g (lw_at lw_m13 221 rfl) rfl
theorem q3264 : (Jvm.Cond.methodLink "LazyForgeModel" (685 : Nat) ({ cls := "LazyForgeModel", name := "waits", desc := "(III)V" } : Jvm.MethodName)) ∈ lw_all := lw_g (lw_at lw_m13 222 rfl) rfl
theorem q3265 : (Jvm.Cond.privateMethod ({ cls := "LazyForgeModel", name := "waits", desc := "(III)V" } : Jvm.MethodName)) ∈ lw_tbl := lw_at lw_m13 223 rfl
theorem q3266 : (Jvm.Cond.instanceMethod ({ cls := "LazyForgeModel", name := "waits", desc := "(III)V" } : Jvm.MethodName)) ∈ lw_all := lw_g (lw_at lw_m13 224 rfl) rfl
theorem q3267 : (Jvm.Cond.code ({ cls := "LazyForgeModel", name := "waits", desc := "(III)V" } : Jvm.MethodName) prog_27_method_85_code (4 : Nat) (Option.none : Option Jvm.ClassFile.FieldType)) ∈ lw_all := lw_g (lw_at lw_m13 225 rfl) rfl
theorem q3268 : (Jvm.Cond.methodLink "LazyForgeModel" (694 : Nat) ({ cls := "LazyForgeModel", name := "frame", desc := "(I)V" } : Jvm.MethodName)) ∈ lw_all := lw_g (lw_at lw_m13 226 rfl) rfl
theorem q3269 : (Jvm.Cond.privateMethod ({ cls := "LazyForgeModel", name := "frame", desc := "(I)V" } : Jvm.MethodName)) ∈ lw_tbl := lw_at lw_m13 227 rfl
theorem q3270 : (Jvm.Cond.instanceMethod ({ cls := "LazyForgeModel", name := "frame", desc := "(I)V" } : Jvm.MethodName)) ∈ lw_all := lw_g (lw_at lw_m13 228 rfl) rfl
theorem q3271 : (Jvm.Cond.code ({ cls := "LazyForgeModel", name := "frame", desc := "(I)V" } : Jvm.MethodName) prog_27_method_97_code (2 : Nat) (Option.none : Option Jvm.ClassFile.FieldType)) ∈ lw_all := lw_g (lw_at lw_m13 229 rfl) rfl
theorem q3272 : (Jvm.Cond.methodLink "LazyForgeModel" (697 : Nat) ({ cls := "LazyForgeModel", name := "evaluate", desc := "(I)V" } : Jvm.MethodName)) ∈ lw_all := lw_g (lw_at lw_m13 230 rfl) rfl
theorem q3273 : (Jvm.Cond.privateMethod ({ cls := "LazyForgeModel", name := "evaluate", desc := "(I)V" } : Jvm.MethodName)) ∈ lw_tbl := lw_at lw_m13 231 rfl
theorem q3274 : (Jvm.Cond.instanceMethod ({ cls := "LazyForgeModel", name := "evaluate", desc := "(I)V" } : Jvm.MethodName)) ∈ lw_all := lw_g (lw_at lw_m13 232 rfl) rfl
theorem q3275 : (Jvm.Cond.code ({ cls := "LazyForgeModel", name := "evaluate", desc := "(I)V" } : Jvm.MethodName) prog_27_method_86_code (2 : Nat) (Option.none : Option Jvm.ClassFile.FieldType)) ∈ lw_all := lw_g (lw_at lw_m13 233 rfl) rfl
theorem q3276 : (Jvm.Cond.methodLink "LazyForgeModel" (754 : Nat) ({ cls := "LazyForgeModel", name := "goOn", desc := "()V" } : Jvm.MethodName)) ∈ lw_all := lw_g (lw_at lw_m13 234 rfl) rfl
theorem q3277 : (Jvm.Cond.privateMethod ({ cls := "LazyForgeModel", name := "goOn", desc := "()V" } : Jvm.MethodName)) ∈ lw_tbl := lw_at lw_m13 235 rfl
theorem q3278 : (Jvm.Cond.instanceMethod ({ cls := "LazyForgeModel", name := "goOn", desc := "()V" } : Jvm.MethodName)) ∈ lw_all := lw_g (lw_at lw_m13 236 rfl) rfl
theorem q3279 : (Jvm.Cond.code ({ cls := "LazyForgeModel", name := "goOn", desc := "()V" } : Jvm.MethodName) prog_27_method_105_code (6 : Nat) (Option.none : Option Jvm.ClassFile.FieldType)) ∈ lw_all := lw_g (lw_at lw_m13 237 rfl) rfl
theorem q3280 : (Jvm.Cond.constant "LazyForgeModel" (739 : Nat) (65535 : Int32)) ∈ lw_all := lw_g (lw_at lw_m13 238 rfl) rfl
theorem q3281 : (Jvm.Cond.methodLink "LazyForgeModel" (721 : Nat) ({ cls := "LazyForgeModel", name := "push", desc := "(J)V" } : Jvm.MethodName)) ∈ lw_all := lw_g (lw_at lw_m13 239 rfl) rfl
theorem q3282 : (Jvm.Cond.privateMethod ({ cls := "LazyForgeModel", name := "push", desc := "(J)V" } : Jvm.MethodName)) ∈ lw_tbl := lw_at lw_m14 0 rfl
theorem q3283 : (Jvm.Cond.instanceMethod ({ cls := "LazyForgeModel", name := "push", desc := "(J)V" } : Jvm.MethodName)) ∈ lw_all := lw_g (lw_at lw_m14 1 rfl) rfl
theorem q3284 : (Jvm.Cond.code ({ cls := "LazyForgeModel", name := "push", desc := "(J)V" } : Jvm.MethodName) prog_27_method_101_code (3 : Nat) (Option.none : Option Jvm.ClassFile.FieldType)) ∈ lw_all := lw_g (lw_at lw_m14 2 rfl) rfl
theorem q3285 : (Jvm.Cond.methodLink "LazyForgeModel" (743 : Nat) ({ cls := "LazyForgeModel", name := "reckon", desc := "(IJJ)V" } : Jvm.MethodName)) ∈ lw_all := lw_g (lw_at lw_m14 3 rfl) rfl
theorem q3286 : (Jvm.Cond.privateMethod ({ cls := "LazyForgeModel", name := "reckon", desc := "(IJJ)V" } : Jvm.MethodName)) ∈ lw_tbl := lw_at lw_m14 4 rfl
theorem q3287 : (Jvm.Cond.instanceMethod ({ cls := "LazyForgeModel", name := "reckon", desc := "(IJJ)V" } : Jvm.MethodName)) ∈ lw_all := lw_g (lw_at lw_m14 5 rfl) rfl
theorem q3288 : (Jvm.Cond.code ({ cls := "LazyForgeModel", name := "reckon", desc := "(IJJ)V" } : Jvm.MethodName) prog_27_method_106_code (8 : Nat) (Option.none : Option Jvm.ClassFile.FieldType)) ∈ lw_all := lw_g (lw_at lw_m14 6 rfl) rfl
theorem q3289 : (Jvm.Cond.methodLink "LazyForgeModel" (747 : Nat) ({ cls := "LazyForgeModel", name := "choose", desc := "(IJ)V" } : Jvm.MethodName)) ∈ lw_all := lw_g (lw_at lw_m14 7 rfl) rfl
theorem q3290 : (Jvm.Cond.privateMethod ({ cls := "LazyForgeModel", name := "choose", desc := "(IJ)V" } : Jvm.MethodName)) ∈ lw_tbl := lw_at lw_m14 8 rfl
theorem q3291 : (Jvm.Cond.instanceMethod ({ cls := "LazyForgeModel", name := "choose", desc := "(IJ)V" } : Jvm.MethodName)) ∈ lw_all := lw_g (lw_at lw_m14 9 rfl) rfl
theorem q3292 : (Jvm.Cond.code ({ cls := "LazyForgeModel", name := "choose", desc := "(IJ)V" } : Jvm.MethodName) prog_27_method_107_code (9 : Nat) (Option.none : Option Jvm.ClassFile.FieldType)) ∈ lw_all := lw_g (lw_at lw_m14 10 rfl) rfl
theorem q3293 : (Jvm.Cond.methodLink "LazyForgeModel" (718 : Nat) ({ cls := "LazyForgeModel", name := "arguments", desc := "(II)V" } : Jvm.MethodName)) ∈ lw_all := lw_g (lw_at lw_m14 11 rfl) rfl
theorem q3294 : (Jvm.Cond.privateMethod ({ cls := "LazyForgeModel", name := "arguments", desc := "(II)V" } : Jvm.MethodName)) ∈ lw_tbl := lw_at lw_m14 12 rfl
theorem q3295 : (Jvm.Cond.instanceMethod ({ cls := "LazyForgeModel", name := "arguments", desc := "(II)V" } : Jvm.MethodName)) ∈ lw_all := lw_g (lw_at lw_m14 13 rfl) rfl
theorem q3296 : (Jvm.Cond.code ({ cls := "LazyForgeModel", name := "arguments", desc := "(II)V" } : Jvm.MethodName) prog_27_method_102_code (7 : Nat) (Option.none : Option Jvm.ClassFile.FieldType)) ∈ lw_all := lw_g (lw_at lw_m14 14 rfl) rfl
theorem q3297 : (Jvm.Cond.methodLink "LazyForgeModel" (703 : Nat) ({ cls := "LazyForgeModel", name := "keep", desc := "(I)J" } : Jvm.MethodName)) ∈ lw_all := lw_g (lw_at lw_m14 15 rfl) rfl
theorem q3298 : (Jvm.Cond.privateMethod ({ cls := "LazyForgeModel", name := "keep", desc := "(I)J" } : Jvm.MethodName)) ∈ lw_tbl := lw_at lw_m14 16 rfl
theorem q3299 : (Jvm.Cond.instanceMethod ({ cls := "LazyForgeModel", name := "keep", desc := "(I)J" } : Jvm.MethodName)) ∈ lw_all := lw_g (lw_at lw_m14 17 rfl) rfl
theorem q3300 : (Jvm.Cond.code ({ cls := "LazyForgeModel", name := "keep", desc := "(I)J" } : Jvm.MethodName) prog_27_method_95_code (5 : Nat) (Option.some Jvm.ClassFile.FieldType.long)) ∈ lw_all := lw_g (lw_at lw_m14 18 rfl) rfl
theorem q3301 : (Jvm.Cond.methodLink "LazyForgeModel" (666 : Nat) ({ cls := "LazyForgeModel", name := "plain", desc := "(I)J" } : Jvm.MethodName)) ∈ lw_all := lw_g (lw_at lw_m14 19 rfl) rfl
theorem q3302 : (Jvm.Cond.privateMethod ({ cls := "LazyForgeModel", name := "plain", desc := "(I)J" } : Jvm.MethodName)) ∈ lw_tbl := lw_at lw_m14 20 rfl
theorem q3303 : (Jvm.Cond.instanceMethod ({ cls := "LazyForgeModel", name := "plain", desc := "(I)J" } : Jvm.MethodName)) ∈ lw_all := lw_g (lw_at lw_m14 21 rfl) rfl
theorem q3304 : (Jvm.Cond.code ({ cls := "LazyForgeModel", name := "plain", desc := "(I)J" } : Jvm.MethodName) prog_27_method_91_code (2 : Nat) (Option.some Jvm.ClassFile.FieldType.long)) ∈ lw_all := lw_g (lw_at lw_m14 22 rfl) rfl
theorem q3305 : (Jvm.Cond.methodLink "LazyForgeModel" (670 : Nat) ({ cls := "LazyForgeModel", name := "make", desc := "(I)I" } : Jvm.MethodName)) ∈ lw_all := lw_g (lw_at lw_m14 23 rfl) rfl
theorem q3306 : (Jvm.Cond.privateMethod ({ cls := "LazyForgeModel", name := "make", desc := "(I)I" } : Jvm.MethodName)) ∈ lw_tbl := lw_at lw_m14 24 rfl
theorem q3307 : (Jvm.Cond.instanceMethod ({ cls := "LazyForgeModel", name := "make", desc := "(I)I" } : Jvm.MethodName)) ∈ lw_all := lw_g (lw_at lw_m14 25 rfl) rfl
theorem q3308 : (Jvm.Cond.code ({ cls := "LazyForgeModel", name := "make", desc := "(I)I" } : Jvm.MethodName) prog_27_method_92_code (3 : Nat) (Option.some Jvm.ClassFile.FieldType.int)) ∈ lw_all := lw_g (lw_at lw_m14 26 rfl) rfl
theorem q3309 : (Jvm.Cond.methodLink "LazyForgeModel" (657 : Nat) ({ cls := "LazyForgeModel", name := "isLess", desc := "(I)Z" } : Jvm.MethodName)) ∈ lw_all := lw_g (lw_at lw_m14 27 rfl) rfl
theorem q3310 : (Jvm.Cond.privateMethod ({ cls := "LazyForgeModel", name := "isLess", desc := "(I)Z" } : Jvm.MethodName)) ∈ lw_tbl := lw_at lw_m14 28 rfl
theorem q3311 : (Jvm.Cond.instanceMethod ({ cls := "LazyForgeModel", name := "isLess", desc := "(I)Z" } : Jvm.MethodName)) ∈ lw_all := lw_g (lw_at lw_m14 29 rfl) rfl
theorem q3312 : (Jvm.Cond.code ({ cls := "LazyForgeModel", name := "isLess", desc := "(I)Z" } : Jvm.MethodName) prog_27_method_89_code (2 : Nat) (Option.some Jvm.ClassFile.FieldType.boolean)) ∈ lw_all := lw_g (lw_at lw_m14 30 rfl) rfl
theorem q3313 : (Jvm.Cond.methodLink "LazyForgeModel" (660 : Nat) ({ cls := "LazyForgeModel", name := "ones", desc := "(J)I" } : Jvm.MethodName)) ∈ lw_all := lw_g (lw_at lw_m14 31 rfl) rfl
theorem q3314 : (Jvm.Cond.static ({ cls := "LazyForgeModel", name := "ones", desc := "(J)I" } : Jvm.MethodName)) ∈ lw_all := lw_g (lw_at lw_m14 32 rfl) rfl
theorem q3315 : (Jvm.Cond.code ({ cls := "LazyForgeModel", name := "ones", desc := "(J)I" } : Jvm.MethodName) prog_27_method_90_code (5 : Nat) (Option.some Jvm.ClassFile.FieldType.int)) ∈ lw_all := lw_g (lw_at lw_m14 33 rfl) rfl
theorem q3316 : (Jvm.Cond.methodLink "LazyForgeModel" (673 : Nat) ({ cls := "LazyForgeModel", name := "fill", desc := "(II)V" } : Jvm.MethodName)) ∈ lw_all := lw_g (lw_at lw_m14 34 rfl) rfl
theorem q3317 : (Jvm.Cond.privateMethod ({ cls := "LazyForgeModel", name := "fill", desc := "(II)V" } : Jvm.MethodName)) ∈ lw_tbl := lw_at lw_m14 35 rfl
theorem q3318 : (Jvm.Cond.instanceMethod ({ cls := "LazyForgeModel", name := "fill", desc := "(II)V" } : Jvm.MethodName)) ∈ lw_all := lw_g (lw_at lw_m14 36 rfl) rfl
theorem q3319 : (Jvm.Cond.code ({ cls := "LazyForgeModel", name := "fill", desc := "(II)V" } : Jvm.MethodName) prog_27_method_93_code (6 : Nat) (Option.none : Option Jvm.ClassFile.FieldType)) ∈ lw_all := lw_g (lw_at lw_m14 37 rfl) rfl
theorem q3320 : (Jvm.Cond.methodLink "LazyForgeModel" (676 : Nat) ({ cls := "LazyForgeModel", name := "doTasks", desc := "()V" } : Jvm.MethodName)) ∈ lw_all := lw_g (lw_at lw_m14 38 rfl) rfl
theorem q3321 : (Jvm.Cond.privateMethod ({ cls := "LazyForgeModel", name := "doTasks", desc := "()V" } : Jvm.MethodName)) ∈ lw_tbl := lw_at lw_m14 39 rfl
theorem q3322 : (Jvm.Cond.instanceMethod ({ cls := "LazyForgeModel", name := "doTasks", desc := "()V" } : Jvm.MethodName)) ∈ lw_all := lw_g (lw_at lw_m14 40 rfl) rfl
theorem q3323 : (Jvm.Cond.code ({ cls := "LazyForgeModel", name := "doTasks", desc := "()V" } : Jvm.MethodName) prog_27_method_94_code (6 : Nat) (Option.none : Option Jvm.ClassFile.FieldType)) ∈ lw_all := lw_g (lw_at lw_m14 41 rfl) rfl
theorem q3324 : (Jvm.Cond.methodLink "LazyForgeModel" (727 : Nat) ({ cls := "LazyForgeModel", name := "call", desc := "(III)V" } : Jvm.MethodName)) ∈ lw_all := lw_g (lw_at lw_m14 42 rfl) rfl
theorem q3325 : (Jvm.Cond.privateMethod ({ cls := "LazyForgeModel", name := "call", desc := "(III)V" } : Jvm.MethodName)) ∈ lw_tbl := lw_at lw_m14 43 rfl
theorem q3326 : (Jvm.Cond.instanceMethod ({ cls := "LazyForgeModel", name := "call", desc := "(III)V" } : Jvm.MethodName)) ∈ lw_all := lw_g (lw_at lw_m14 44 rfl) rfl
theorem q3327 : (Jvm.Cond.code ({ cls := "LazyForgeModel", name := "call", desc := "(III)V" } : Jvm.MethodName) prog_27_method_103_code (9 : Nat) (Option.none : Option Jvm.ClassFile.FieldType)) ∈ lw_all := lw_g (lw_at lw_m14 45 rfl) rfl
theorem q3328 : (Jvm.Cond.methodLink "LazyForgeModel" (750 : Nat) ({ cls := "LazyForgeModel", name := "apply", desc := "(JI)V" } : Jvm.MethodName)) ∈ lw_all := lw_g (lw_at lw_m14 46 rfl) rfl
theorem q3329 : (Jvm.Cond.privateMethod ({ cls := "LazyForgeModel", name := "apply", desc := "(JI)V" } : Jvm.MethodName)) ∈ lw_tbl := lw_at lw_m14 47 rfl
theorem q3330 : (Jvm.Cond.instanceMethod ({ cls := "LazyForgeModel", name := "apply", desc := "(JI)V" } : Jvm.MethodName)) ∈ lw_all := lw_g (lw_at lw_m14 48 rfl) rfl
theorem q3331 : (Jvm.Cond.code ({ cls := "LazyForgeModel", name := "apply", desc := "(JI)V" } : Jvm.MethodName) prog_27_method_104_code (10 : Nat) (Option.none : Option Jvm.ClassFile.FieldType)) ∈ lw_all := lw_g (lw_at lw_m14 49 rfl) rfl
theorem q3332 : (Jvm.Cond.methodLink "LazyForgeModel" (757 : Nat) ({ cls := "LazyForgeModel", name := "workPart", desc := "()V" } : Jvm.MethodName)) ∈ lw_all := lw_g (lw_at lw_m14 50 rfl) rfl
theorem q3333 : (Jvm.Cond.privateMethod ({ cls := "LazyForgeModel", name := "workPart", desc := "()V" } : Jvm.MethodName)) ∈ lw_tbl := lw_at lw_m14 51 rfl
theorem q3334 : (Jvm.Cond.instanceMethod ({ cls := "LazyForgeModel", name := "workPart", desc := "()V" } : Jvm.MethodName)) ∈ lw_all := lw_g (lw_at lw_m14 52 rfl) rfl
theorem q3335 : (Jvm.Cond.code ({ cls := "LazyForgeModel", name := "workPart", desc := "()V" } : Jvm.MethodName) prog_27_method_99_code (2 : Nat) (Option.none : Option Jvm.ClassFile.FieldType)) ∈ lw_all := lw_g (lw_at lw_m14 53 rfl) rfl
theorem q3336 : (Jvm.Cond.methodLink "LazyForgeModel" (712 : Nat) ({ cls := "LazyForgeModel", name := "keepBindings", desc := "(I)V" } : Jvm.MethodName)) ∈ lw_all := lw_g (lw_at lw_m14 54 rfl) rfl
theorem q3337 : (Jvm.Cond.privateMethod ({ cls := "LazyForgeModel", name := "keepBindings", desc := "(I)V" } : Jvm.MethodName)) ∈ lw_tbl := lw_at lw_m14 55 rfl
theorem q3338 : (Jvm.Cond.instanceMethod ({ cls := "LazyForgeModel", name := "keepBindings", desc := "(I)V" } : Jvm.MethodName)) ∈ lw_all := lw_g (lw_at lw_m14 56 rfl) rfl
theorem q3339 : (Jvm.Cond.code ({ cls := "LazyForgeModel", name := "keepBindings", desc := "(I)V" } : Jvm.MethodName) prog_27_method_96_code (9 : Nat) (Option.none : Option Jvm.ClassFile.FieldType)) ∈ lw_all := lw_g (lw_at lw_m14 57 rfl) rfl
theorem q3340 : (Jvm.Cond.methodLink "LazyForgeModel" (715 : Nat) ({ cls := "LazyForgeModel", name := "workApplication", desc := "(I)V" } : Jvm.MethodName)) ∈ lw_all := lw_g (lw_at lw_m14 58 rfl) rfl
theorem q3341 : (Jvm.Cond.privateMethod ({ cls := "LazyForgeModel", name := "workApplication", desc := "(I)V" } : Jvm.MethodName)) ∈ lw_tbl := lw_at lw_m14 59 rfl
theorem q3342 : (Jvm.Cond.instanceMethod ({ cls := "LazyForgeModel", name := "workApplication", desc := "(I)V" } : Jvm.MethodName)) ∈ lw_all := lw_g (lw_at lw_m14 60 rfl) rfl
theorem q3343 : (Jvm.Cond.code ({ cls := "LazyForgeModel", name := "workApplication", desc := "(I)V" } : Jvm.MethodName) prog_27_method_100_code (6 : Nat) (Option.none : Option Jvm.ClassFile.FieldType)) ∈ lw_all := lw_g (lw_at lw_m14 61 rfl) rfl
theorem q3344 : (Jvm.Cond.methodLink "LazyForgeModel" (774 : Nat) ({ cls := "LazyForgeModel", name := "force", desc := "(J)V" } : Jvm.MethodName)) ∈ lw_all := lw_g (lw_at lw_m14 62 rfl) rfl
theorem q3345 : (Jvm.Cond.privateMethod ({ cls := "LazyForgeModel", name := "force", desc := "(J)V" } : Jvm.MethodName)) ∈ lw_tbl := lw_at lw_m14 63 rfl
theorem q3346 : (Jvm.Cond.instanceMethod ({ cls := "LazyForgeModel", name := "force", desc := "(J)V" } : Jvm.MethodName)) ∈ lw_all := lw_g (lw_at lw_m14 64 rfl) rfl
theorem q3347 : (Jvm.Cond.code ({ cls := "LazyForgeModel", name := "force", desc := "(J)V" } : Jvm.MethodName) prog_27_method_111_code (5 : Nat) (Option.none : Option Jvm.ClassFile.FieldType)) ∈ lw_all := lw_g (lw_at lw_m14 65 rfl) rfl
theorem q3348 : (Jvm.Cond.methodLink "LazyForgeModel" (763 : Nat) ({ cls := "LazyForgeModel", name := "putRow", desc := "(III)Z" } : Jvm.MethodName)) ∈ lw_all := lw_g (lw_at lw_m14 66 rfl) rfl
theorem q3349 : (Jvm.Cond.privateMethod ({ cls := "LazyForgeModel", name := "putRow", desc := "(III)Z" } : Jvm.MethodName)) ∈ lw_tbl := lw_at lw_m14 67 rfl
theorem q3350 : (Jvm.Cond.instanceMethod ({ cls := "LazyForgeModel", name := "putRow", desc := "(III)Z" } : Jvm.MethodName)) ∈ lw_all := lw_g (lw_at lw_m14 68 rfl) rfl
theorem q3351 : (Jvm.Cond.code ({ cls := "LazyForgeModel", name := "putRow", desc := "(III)Z" } : Jvm.MethodName) prog_27_method_110_code (4 : Nat) (Option.some Jvm.ClassFile.FieldType.boolean)) ∈ lw_all := lw_g (lw_at lw_m14 69 rfl) rfl
theorem q3353 : (Jvm.Cond.instanceMethod ({ cls := "LazyForgeModel", name := "put", desc := "(I)I" } : Jvm.MethodName)) ∈ lw_all := lw_g (lw_at lw_m14 71 rfl) rfl
theorem q3354 : (Jvm.Cond.selects "LazyForgeModel" ({ cls := "LazyForgeModel", name := "put", desc := "(I)I" } : Jvm.MethodName) ({ cls := "LazyForgeModel", name := "put", desc := "(I)I" } : Jvm.MethodName)) ∈ lw_all := lw_g (lw_at lw_m14 72 rfl) rfl
theorem q3355 : (Jvm.Cond.code ({ cls := "LazyForgeModel", name := "put", desc := "(I)I" } : Jvm.MethodName) prog_27_method_113_code (6 : Nat) (Option.some Jvm.ClassFile.FieldType.int)) ∈ lw_all := lw_g (lw_at lw_m14 73 rfl) rfl
theorem q3357 : (Jvm.Cond.instanceMethod ({ cls := "LazyForgeModel", name := "end", desc := "(I)V" } : Jvm.MethodName)) ∈ lw_all := lw_g (lw_at lw_m14 75 rfl) rfl
theorem q3358 : (Jvm.Cond.selects "LazyForgeModel" ({ cls := "LazyForgeModel", name := "end", desc := "(I)V" } : Jvm.MethodName) ({ cls := "LazyForgeModel", name := "end", desc := "(I)V" } : Jvm.MethodName)) ∈ lw_all := lw_g (lw_at lw_m14 76 rfl) rfl
theorem q3359 : (Jvm.Cond.code ({ cls := "LazyForgeModel", name := "end", desc := "(I)V" } : Jvm.MethodName) prog_27_method_114_code (2 : Nat) (Option.none : Option Jvm.ClassFile.FieldType)) ∈ lw_all := lw_g (lw_at lw_m14 77 rfl) rfl
theorem q3361 : (Jvm.Cond.instanceMethod ({ cls := "LazyForgeModel", name := "take", desc := "()I" } : Jvm.MethodName)) ∈ lw_all := lw_g (lw_at lw_m14 79 rfl) rfl
theorem q3362 : (Jvm.Cond.selects "LazyForgeModel" ({ cls := "LazyForgeModel", name := "take", desc := "()I" } : Jvm.MethodName) ({ cls := "LazyForgeModel", name := "take", desc := "()I" } : Jvm.MethodName)) ∈ lw_all := lw_g (lw_at lw_m14 80 rfl) rfl
theorem q3363 : (Jvm.Cond.code ({ cls := "LazyForgeModel", name := "take", desc := "()I" } : Jvm.MethodName) prog_27_method_115_code (2 : Nat) (Option.some Jvm.ClassFile.FieldType.int)) ∈ lw_all := lw_g (lw_at lw_m14 81 rfl) rfl
theorem q3365 : (Jvm.Cond.instanceMethod ({ cls := "LazyForgeModel", name := "fault", desc := "(I)I" } : Jvm.MethodName)) ∈ lw_all := lw_g (lw_at lw_m14 83 rfl) rfl
theorem q3366 : (Jvm.Cond.selects "LazyForgeModel" ({ cls := "LazyForgeModel", name := "fault", desc := "(I)I" } : Jvm.MethodName) ({ cls := "LazyForgeModel", name := "fault", desc := "(I)I" } : Jvm.MethodName)) ∈ lw_all := lw_g (lw_at lw_m14 84 rfl) rfl
theorem q3367 : (Jvm.Cond.code ({ cls := "LazyForgeModel", name := "fault", desc := "(I)I" } : Jvm.MethodName) prog_27_method_116_code (2 : Nat) (Option.some Jvm.ClassFile.FieldType.int)) ∈ lw_all := lw_g (lw_at lw_m14 85 rfl) rfl
theorem q3369 : (Jvm.Cond.instanceMethod ({ cls := "LazyForgeModel", name := "write", desc := "()I" } : Jvm.MethodName)) ∈ lw_all := lw_g (lw_at lw_m14 87 rfl) rfl
theorem q3370 : (Jvm.Cond.selects "LazyForgeModel" ({ cls := "LazyForgeModel", name := "write", desc := "()I" } : Jvm.MethodName) ({ cls := "LazyForgeModel", name := "write", desc := "()I" } : Jvm.MethodName)) ∈ lw_all := lw_g (lw_at lw_m14 88 rfl) rfl
theorem q3371 : (Jvm.Cond.code ({ cls := "LazyForgeModel", name := "write", desc := "()I" } : Jvm.MethodName) prog_27_method_127_code (3 : Nat) (Option.some Jvm.ClassFile.FieldType.int)) ∈ lw_all := lw_g (lw_at lw_m14 89 rfl) rfl
theorem q3372 : (Jvm.Cond.methodLink "LazyForgeModel" (789 : Nat) ({ cls := "LazyForgeModel", name := "signs", desc := "(J)V" } : Jvm.MethodName)) ∈ lw_all := lw_g (lw_at lw_m14 90 rfl) rfl
theorem q3373 : (Jvm.Cond.privateMethod ({ cls := "LazyForgeModel", name := "signs", desc := "(J)V" } : Jvm.MethodName)) ∈ lw_tbl := lw_at lw_m14 91 rfl
theorem q3374 : (Jvm.Cond.instanceMethod ({ cls := "LazyForgeModel", name := "signs", desc := "(J)V" } : Jvm.MethodName)) ∈ lw_all := lw_g (lw_at lw_m14 92 rfl) rfl
theorem q3375 : (Jvm.Cond.code ({ cls := "LazyForgeModel", name := "signs", desc := "(J)V" } : Jvm.MethodName) prog_27_method_118_code (5 : Nat) (Option.none : Option Jvm.ClassFile.FieldType)) ∈ lw_all := lw_g (lw_at lw_m14 93 rfl) rfl
theorem q3376 : (Jvm.Cond.methodLink "LazyForgeModel" (783 : Nat) ({ cls := "LazyForgeModel", name := "letters", desc := "(I)V" } : Jvm.MethodName)) ∈ lw_all := lw_g (lw_at lw_m14 94 rfl) rfl
theorem q3377 : (Jvm.Cond.privateMethod ({ cls := "LazyForgeModel", name := "letters", desc := "(I)V" } : Jvm.MethodName)) ∈ lw_tbl := lw_at lw_m14 95 rfl
theorem q3378 : (Jvm.Cond.instanceMethod ({ cls := "LazyForgeModel", name := "letters", desc := "(I)V" } : Jvm.MethodName)) ∈ lw_all := lw_g (lw_at lw_m14 96 rfl) rfl
theorem q3379 : (Jvm.Cond.code ({ cls := "LazyForgeModel", name := "letters", desc := "(I)V" } : Jvm.MethodName) prog_27_method_117_code (2 : Nat) (Option.none : Option Jvm.ClassFile.FieldType)) ∈ lw_all := lw_g (lw_at lw_m14 97 rfl) rfl
theorem q3380 : (Jvm.Cond.methodLink "LazyForgeModel" (786 : Nat) ({ cls := "LazyForgeModel", name := "digits", desc := "(I)V" } : Jvm.MethodName)) ∈ lw_all := lw_g (lw_at lw_m14 98 rfl) rfl
theorem q3381 : (Jvm.Cond.privateMethod ({ cls := "LazyForgeModel", name := "digits", desc := "(I)V" } : Jvm.MethodName)) ∈ lw_tbl := lw_at lw_m14 99 rfl
theorem q3382 : (Jvm.Cond.instanceMethod ({ cls := "LazyForgeModel", name := "digits", desc := "(I)V" } : Jvm.MethodName)) ∈ lw_all := lw_g (lw_at lw_m14 100 rfl) rfl
theorem q3383 : (Jvm.Cond.code ({ cls := "LazyForgeModel", name := "digits", desc := "(I)V" } : Jvm.MethodName) prog_27_method_119_code (4 : Nat) (Option.none : Option Jvm.ClassFile.FieldType)) ∈ lw_all := lw_g (lw_at lw_m14 101 rfl) rfl
theorem q3384 : (Jvm.Cond.methodLink "LazyForgeModel" (801 : Nat) ({ cls := "LazyForgeModel", name := "functionName", desc := "(I)V" } : Jvm.MethodName)) ∈ lw_all := lw_g (lw_at lw_m14 102 rfl) rfl
theorem q3385 : (Jvm.Cond.privateMethod ({ cls := "LazyForgeModel", name := "functionName", desc := "(I)V" } : Jvm.MethodName)) ∈ lw_tbl := lw_at lw_m14 103 rfl
theorem q3386 : (Jvm.Cond.instanceMethod ({ cls := "LazyForgeModel", name := "functionName", desc := "(I)V" } : Jvm.MethodName)) ∈ lw_all := lw_g (lw_at lw_m14 104 rfl) rfl
theorem q3387 : (Jvm.Cond.code ({ cls := "LazyForgeModel", name := "functionName", desc := "(I)V" } : Jvm.MethodName) prog_27_method_121_code (2 : Nat) (Option.none : Option Jvm.ClassFile.FieldType)) ∈ lw_all := lw_g (lw_at lw_m14 105 rfl) rfl
theorem q3388 : (Jvm.Cond.methodLink "LazyForgeModel" (792 : Nat) ({ cls := "LazyForgeModel", name := "variable", desc := "(I)V" } : Jvm.MethodName)) ∈ lw_all := lw_g (lw_at lw_m14 106 rfl) rfl
theorem q3389 : (Jvm.Cond.privateMethod ({ cls := "LazyForgeModel", name := "variable", desc := "(I)V" } : Jvm.MethodName)) ∈ lw_tbl := lw_at lw_m14 107 rfl
theorem q3390 : (Jvm.Cond.instanceMethod ({ cls := "LazyForgeModel", name := "variable", desc := "(I)V" } : Jvm.MethodName)) ∈ lw_all := lw_g (lw_at lw_m14 108 rfl) rfl
theorem q3391 : (Jvm.Cond.code ({ cls := "LazyForgeModel", name := "variable", desc := "(I)V" } : Jvm.MethodName) prog_27_method_120_code (2 : Nat) (Option.none : Option Jvm.ClassFile.FieldType)) ∈ lw_all := lw_g (lw_at lw_m14 109 rfl) rfl
theorem q3392 : (Jvm.Cond.methodLink "LazyForgeModel" (808 : Nat) ({ cls := "LazyForgeModel", name := "writeE", desc := "(I)V" } : Jvm.MethodName)) ∈ lw_all := lw_g (lw_at lw_m14 110 rfl) rfl
theorem q3393 : (Jvm.Cond.privateMethod ({ cls := "LazyForgeModel", name := "writeE", desc := "(I)V" } : Jvm.MethodName)) ∈ lw_tbl := lw_at lw_m14 111 rfl
theorem q3394 : (Jvm.Cond.instanceMethod ({ cls := "LazyForgeModel", name := "writeE", desc := "(I)V" } : Jvm.MethodName)) ∈ lw_all := lw_g (lw_at lw_m14 112 rfl) rfl
theorem q3395 : (Jvm.Cond.code ({ cls := "LazyForgeModel", name := "writeE", desc := "(I)V" } : Jvm.MethodName) prog_27_method_126_code (5 : Nat) (Option.none : Option Jvm.ClassFile.FieldType)) ∈ lw_all := lw_g (lw_at lw_m14 113 rfl) rfl
theorem q3396 : (Jvm.Cond.methodLink "LazyForgeModel" (804 : Nat) ({ cls := "LazyForgeModel", name := "atom", desc := "(I)V" } : Jvm.MethodName)) ∈ lw_all := lw_g (lw_at lw_m14 114 rfl) rfl
theorem q3397 : (Jvm.Cond.privateMethod ({ cls := "LazyForgeModel", name := "atom", desc := "(I)V" } : Jvm.MethodName)) ∈ lw_tbl := lw_at lw_m14 115 rfl
theorem q3398 : (Jvm.Cond.instanceMethod ({ cls := "LazyForgeModel", name := "atom", desc := "(I)V" } : Jvm.MethodName)) ∈ lw_all := lw_g (lw_at lw_m14 116 rfl) rfl
theorem q3399 : (Jvm.Cond.code ({ cls := "LazyForgeModel", name := "atom", desc := "(I)V" } : Jvm.MethodName) prog_27_method_125_code (2 : Nat) (Option.none : Option Jvm.ClassFile.FieldType)) ∈ lw_all := lw_g (lw_at lw_m14 117 rfl) rfl
theorem q3400 : (Jvm.Cond.methodLink "LazyForgeModel" (806 : Nat) ({ cls := "LazyForgeModel", name := "around", desc := "(II)V" } : Jvm.MethodName)) ∈ lw_all := lw_g (lw_at lw_m14 118 rfl) rfl
theorem q3401 : (Jvm.Cond.privateMethod ({ cls := "LazyForgeModel", name := "around", desc := "(II)V" } : Jvm.MethodName)) ∈ lw_tbl := lw_at lw_m14 119 rfl
theorem q3402 : (Jvm.Cond.instanceMethod ({ cls := "LazyForgeModel", name := "around", desc := "(II)V" } : Jvm.MethodName)) ∈ lw_all := lw_g (lw_at lw_m14 120 rfl) rfl
theorem q3403 : (Jvm.Cond.code ({ cls := "LazyForgeModel", name := "around", desc := "(II)V" } : Jvm.MethodName) prog_27_method_124_code (4 : Nat) (Option.none : Option Jvm.ClassFile.FieldType)) ∈ lw_all := lw_g (lw_at lw_m14 121 rfl) rfl
theorem q3404 : (Jvm.Cond.methodLink "LazyForgeModel" (795 : Nat) ({ cls := "LazyForgeModel", name := "pattern", desc := "(I)V" } : Jvm.MethodName)) ∈ lw_all := lw_g (lw_at lw_m14 122 rfl) rfl
theorem q3405 : (Jvm.Cond.privateMethod ({ cls := "LazyForgeModel", name := "pattern", desc := "(I)V" } : Jvm.MethodName)) ∈ lw_tbl := lw_at lw_m14 123 rfl
theorem q3406 : (Jvm.Cond.instanceMethod ({ cls := "LazyForgeModel", name := "pattern", desc := "(I)V" } : Jvm.MethodName)) ∈ lw_all := lw_g (lw_at lw_m14 124 rfl) rfl
theorem q3407 : (Jvm.Cond.code ({ cls := "LazyForgeModel", name := "pattern", desc := "(I)V" } : Jvm.MethodName) prog_27_method_123_code (3 : Nat) (Option.none : Option Jvm.ClassFile.FieldType)) ∈ lw_all := lw_g (lw_at lw_m14 125 rfl) rfl
theorem q3408 : (Jvm.Cond.methodLink "LazyForgeModel" (798 : Nat) ({ cls := "LazyForgeModel", name := "operation", desc := "(I)V" } : Jvm.MethodName)) ∈ lw_all := lw_g (lw_at lw_m14 126 rfl) rfl
theorem q3409 : (Jvm.Cond.privateMethod ({ cls := "LazyForgeModel", name := "operation", desc := "(I)V" } : Jvm.MethodName)) ∈ lw_tbl := lw_at lw_m14 127 rfl
theorem q3410 : (Jvm.Cond.instanceMethod ({ cls := "LazyForgeModel", name := "operation", desc := "(I)V" } : Jvm.MethodName)) ∈ lw_all := lw_g (lw_at lw_m14 128 rfl) rfl
theorem q3411 : (Jvm.Cond.code ({ cls := "LazyForgeModel", name := "operation", desc := "(I)V" } : Jvm.MethodName) prog_27_method_122_code (2 : Nat) (Option.none : Option Jvm.ClassFile.FieldType)) ∈ lw_all := lw_g (lw_at lw_m14 129 rfl) rfl
theorem q3413 : (Jvm.Cond.instanceMethod ({ cls := "LazyForgeModel", name := "letter", desc := "(I)I" } : Jvm.MethodName)) ∈ lw_all := lw_g (lw_at lw_m14 131 rfl) rfl
theorem q3414 : (Jvm.Cond.selects "LazyForgeModel" ({ cls := "LazyForgeModel", name := "letter", desc := "(I)I" } : Jvm.MethodName) ({ cls := "LazyForgeModel", name := "letter", desc := "(I)I" } : Jvm.MethodName)) ∈ lw_all := lw_g (lw_at lw_m14 132 rfl) rfl
theorem q3415 : (Jvm.Cond.code ({ cls := "LazyForgeModel", name := "letter", desc := "(I)I" } : Jvm.MethodName) prog_27_method_128_code (2 : Nat) (Option.some Jvm.ClassFile.FieldType.int)) ∈ lw_all := lw_g (lw_at lw_m14 133 rfl) rfl
theorem q3417 : (Jvm.Cond.instanceMethod ({ cls := "LazyForgeModel", name := "function", desc := "(II)I" } : Jvm.MethodName)) ∈ lw_all := lw_g (lw_at lw_m14 135 rfl) rfl
theorem q3418 : (Jvm.Cond.selects "LazyForgeModel" ({ cls := "LazyForgeModel", name := "function", desc := "(II)I" } : Jvm.MethodName) ({ cls := "LazyForgeModel", name := "function", desc := "(II)I" } : Jvm.MethodName)) ∈ lw_all := lw_g (lw_at lw_m14 136 rfl) rfl
theorem q3419 : (Jvm.Cond.code ({ cls := "LazyForgeModel", name := "function", desc := "(II)I" } : Jvm.MethodName) prog_27_method_130_code (5 : Nat) (Option.some Jvm.ClassFile.FieldType.int)) ∈ lw_all := lw_g (lw_at lw_m14 137 rfl) rfl
theorem q3420 : (Jvm.Cond.methodLink "LazyForgeModel" (811 : Nat) ({ cls := "LazyForgeModel", name := "codeOf", desc := "(I)I" } : Jvm.MethodName)) ∈ lw_all := lw_g (lw_at lw_m14 138 rfl) rfl
theorem q3421 : (Jvm.Cond.privateMethod ({ cls := "LazyForgeModel", name := "codeOf", desc := "(I)I" } : Jvm.MethodName)) ∈ lw_tbl := lw_at lw_m14 139 rfl
theorem q3422 : (Jvm.Cond.instanceMethod ({ cls := "LazyForgeModel", name := "codeOf", desc := "(I)I" } : Jvm.MethodName)) ∈ lw_all := lw_g (lw_at lw_m14 140 rfl) rfl
theorem q3423 : (Jvm.Cond.code ({ cls := "LazyForgeModel", name := "codeOf", desc := "(I)I" } : Jvm.MethodName) prog_27_method_129_code (2 : Nat) (Option.some Jvm.ClassFile.FieldType.int)) ∈ lw_all := lw_g (lw_at lw_m14 141 rfl) rfl
theorem q3425 : (Jvm.Cond.instanceMethod ({ cls := "LazyForgeModel", name := "needs", desc := "(II)Z" } : Jvm.MethodName)) ∈ lw_all := lw_g (lw_at lw_m14 143 rfl) rfl
theorem q3426 : (Jvm.Cond.selects "LazyForgeModel" ({ cls := "LazyForgeModel", name := "needs", desc := "(II)Z" } : Jvm.MethodName) ({ cls := "LazyForgeModel", name := "needs", desc := "(II)Z" } : Jvm.MethodName)) ∈ lw_all := lw_g (lw_at lw_m14 144 rfl) rfl
theorem q3427 : (Jvm.Cond.code ({ cls := "LazyForgeModel", name := "needs", desc := "(II)Z" } : Jvm.MethodName) prog_27_method_131_code (3 : Nat) (Option.some Jvm.ClassFile.FieldType.boolean)) ∈ lw_all := lw_g (lw_at lw_m14 145 rfl) rfl
theorem q3429 : (Jvm.Cond.instanceMethod ({ cls := "LazyForgeModel", name := "bit", desc := "(II)I" } : Jvm.MethodName)) ∈ lw_all := lw_g (lw_at lw_m14 147 rfl) rfl
theorem q3430 : (Jvm.Cond.selects "LazyForgeModel" ({ cls := "LazyForgeModel", name := "bit", desc := "(II)I" } : Jvm.MethodName) ({ cls := "LazyForgeModel", name := "bit", desc := "(II)I" } : Jvm.MethodName)) ∈ lw_all := lw_g (lw_at lw_m14 148 rfl) rfl
theorem q3431 : (Jvm.Cond.code ({ cls := "LazyForgeModel", name := "bit", desc := "(II)I" } : Jvm.MethodName) prog_27_method_132_code (3 : Nat) (Option.some Jvm.ClassFile.FieldType.int)) ∈ lw_all := lw_g (lw_at lw_m14 149 rfl) rfl
theorem q3433 : (Jvm.Cond.instanceMethod ({ cls := "LazyForgeModel", name := "result", desc := "(I)I" } : Jvm.MethodName)) ∈ lw_all := lw_g (lw_at lw_m14 151 rfl) rfl
theorem q3434 : (Jvm.Cond.selects "LazyForgeModel" ({ cls := "LazyForgeModel", name := "result", desc := "(I)I" } : Jvm.MethodName) ({ cls := "LazyForgeModel", name := "result", desc := "(I)I" } : Jvm.MethodName)) ∈ lw_all := lw_g (lw_at lw_m14 152 rfl) rfl
theorem q3435 : (Jvm.Cond.code ({ cls := "LazyForgeModel", name := "result", desc := "(I)I" } : Jvm.MethodName) prog_27_method_133_code (2 : Nat) (Option.some Jvm.ClassFile.FieldType.int)) ∈ lw_all := lw_g (lw_at lw_m14 153 rfl) rfl
theorem q3437 : (Jvm.Cond.instanceMethod ({ cls := "LazyForgeModel", name := "number", desc := "(I)I" } : Jvm.MethodName)) ∈ lw_all := lw_g (lw_at lw_m14 155 rfl) rfl
theorem q3438 : (Jvm.Cond.selects "LazyForgeModel" ({ cls := "LazyForgeModel", name := "number", desc := "(I)I" } : Jvm.MethodName) ({ cls := "LazyForgeModel", name := "number", desc := "(I)I" } : Jvm.MethodName)) ∈ lw_all := lw_g (lw_at lw_m14 156 rfl) rfl
theorem q3439 : (Jvm.Cond.code ({ cls := "LazyForgeModel", name := "number", desc := "(I)I" } : Jvm.MethodName) prog_27_method_134_code (2 : Nat) (Option.some Jvm.ClassFile.FieldType.int)) ∈ lw_all := lw_g (lw_at lw_m14 157 rfl) rfl
theorem q3441 : (Jvm.Cond.instanceMethod ({ cls := "LazyForgeModel", name := "called", desc := "(I)I" } : Jvm.MethodName)) ∈ lw_all := lw_g (lw_at lw_m14 159 rfl) rfl
theorem q3442 : (Jvm.Cond.selects "LazyForgeModel" ({ cls := "LazyForgeModel", name := "called", desc := "(I)I" } : Jvm.MethodName) ({ cls := "LazyForgeModel", name := "called", desc := "(I)I" } : Jvm.MethodName)) ∈ lw_all := lw_g (lw_at lw_m14 160 rfl) rfl
theorem q3443 : (Jvm.Cond.code ({ cls := "LazyForgeModel", name := "called", desc := "(I)I" } : Jvm.MethodName) prog_27_method_135_code (2 : Nat) (Option.some Jvm.ClassFile.FieldType.int)) ∈ lw_all := lw_g (lw_at lw_m14 161 rfl) rfl
theorem q3445 : (Jvm.Cond.instanceMethod ({ cls := "LazyForgeModel", name := "about", desc := "(I)I" } : Jvm.MethodName)) ∈ lw_all := lw_g (lw_at lw_m14 163 rfl) rfl
theorem q3446 : (Jvm.Cond.selects "LazyForgeModel" ({ cls := "LazyForgeModel", name := "about", desc := "(I)I" } : Jvm.MethodName) ({ cls := "LazyForgeModel", name := "about", desc := "(I)I" } : Jvm.MethodName)) ∈ lw_all := lw_g (lw_at lw_m14 164 rfl) rfl
theorem q3447 : (Jvm.Cond.code ({ cls := "LazyForgeModel", name := "about", desc := "(I)I" } : Jvm.MethodName) prog_27_method_136_code (2 : Nat) (Option.some Jvm.ClassFile.FieldType.int)) ∈ lw_all := lw_g (lw_at lw_m14 165 rfl) rfl
theorem q3499 : (Jvm.Cond.castable "LazyForgeModel" "java/lang/Object") ∈ lw_tbl := lw_at lw_m14 217 rfl
theorem in_X11 : ∀ w ∈ wsX110, w ∈ lw_all := lw_in wsX110 [2640, 2642, 2644, 2646, 2648, 2650, 2652, 2654, 2656, 2658, 2660, 2662, 2664, 2666, 2668, 2670, 2672, 2674, 2676, 2678, 2680, 2682, 2684, 2686, 2688, 2690, 2692, 2694, 2696, 2698, 2700, 2702, 2704, 2706, 2708, 2710, 2712, 2714, 2716, 2718, 2720, 2722, 2724, 2726, 2728, 2730, 2732, 2734, 2736, 2738, 2740, 2742, 2744, 2746, 2748, 2750, 2752, 2754, 2756, 2758, 2760, 2762, 2764, 2766, 2768, 2770, 2772, 2774, 2776, 2778, 2780, 2782, 2784, 2786, 2788, 2790, 2792, 2794, 2796, 2798, 2800, 2802, 2804, 2806, 2808, 2810, 2812, 2814, 2816, 2818, 2820, 2822, 2824, 2826, 2828, 2830, 2832, 2834, 2836, 2838, 2840, 2842, 2844, 2846, 2848, 2850, 2852, 2854, 2856, 2858, 2860, 2862, 2864, 2866, 2868, 2870, 2872, 2874, 2876, 2878, 2880, 2882, 2884, 2886, 2888, 2890, 2892, 2894, 2896, 2898, 2900, 2902, 2904, 2906, 2908, 2910] (by decide +kernel) (by decide +kernel)

/-! LazyForge$Reader -/
set_option maxRecDepth 100000
def RX12 : String := "LazyForge$Reader"
def TX12 : u_T := fun k => match k with
  | 0 => ("LazyForge$Reader", "house", "LLazyForge;", true)
  | 1 => ("LazyForge$Reader", "text", "[C", true)
  | 2 => ("LazyForge$Reader", "size", "I", true)
  | 3 => ("LazyForge$Reader", "at", "I", false)
  | 4 => ("LazyForge$Reader", "sort", "I", false)
  | 5 => ("LazyForge$Reader", "place", "I", false)
  | 6 => ("LazyForge$Reader", "number", "I", false)
  | 7 => ("LazyForge$Reader", "mark", "I", false)
  | 8 => ("LazyForge$Reader", "word", "J", false)
  | 9 => ("LazyForge$Reader", "kind", "I", false)
  | 10 => ("LazyForge$Reader", "faultPlace", "I", false)
  | 11 => ("LazyForge$Reader", "open", "I", false)
  | 12 => ("LazyForge$Reader", "parts", "I", false)
  | 13 => ("LazyForge$Reader", "constructors", "[J", true)
  | 14 => ("LazyForge$Reader", "fields", "[I", true)
  | 15 => ("LazyForge$Reader", "constructorCount", "I", false)
  | 16 => ("LazyForge$Reader", "names", "[J", true)
  | 17 => ("LazyForge$Reader", "places", "[I", true)
  | 18 => ("LazyForge$Reader", "parameters", "[[J", true)
  | 19 => ("LazyForge$Reader", "bodies", "[LLazyForge$Raw;", true)
  | 20 => ("LazyForge$Reader", "functions", "I", false)
  | 21 => ("LazyForge$Reader", "previous", "I", false)
  | _ => ("LazyForge$Reader", "gathered", "[J", true)
def tyX12 : Nat → FieldType := fun k => match k with
  | 0 => .object "LazyForge"
  | 1 => .array .char
  | 2 => .int
  | 3 => .int
  | 4 => .int
  | 5 => .int
  | 6 => .int
  | 7 => .int
  | 8 => .long
  | 9 => .int
  | 10 => .int
  | 11 => .int
  | 12 => .int
  | 13 => .array .long
  | 14 => .array .int
  | 15 => .int
  | 16 => .array .long
  | 17 => .array .int
  | 18 => .array (.array .long)
  | 19 => .array (.object "LazyForge$Raw")
  | 20 => .int
  | 21 => .int
  | _ => .array .long
abbrev wsX120 : List Cond := u_ws RX12 TX12 23
set_option maxRecDepth 100000 in
theorem nmX12 : ∀ a, a < 23 → ∀ b, b < 23 → a ≠ b → (TX12 a).2.1 ≠ (TX12 b).2.1 := by decide +kernel
set_option maxRecDepth 100000 in
theorem tyX12_ok : ∀ k, k < 23 → parseFieldDescriptor (TX12 k).2.2.1 = some (tyX12 k) := by decide +kernel
abbrev cX12_init : ByteArray := prog_18_method_1_code
def yX12_init : MethodName := ⟨RX12, "<init>", "(LLazyForge;[CI)V"⟩
abbrev cX12_wordOf : ByteArray := prog_18_method_8_code
def yX12_wordOf : MethodName := ⟨RX12, "wordOf", "(Ljava/lang/String;)J"⟩
abbrev cX12_newConstructor : ByteArray := prog_18_method_2_code
def yX12_newConstructor : MethodName := ⟨RX12, "newConstructor", "(JI)V"⟩
abbrev cX12_read : ByteArray := prog_18_method_20_code
def yX12_read : MethodName := ⟨RX12, "read", "()Z"⟩
abbrev cX12_next : ByteArray := prog_18_method_10_code
def yX12_next : MethodName := ⟨RX12, "next", "()V"⟩
abbrev cX12_isSmall : ByteArray := prog_18_method_5_code
def yX12_isSmall : MethodName := ⟨RX12, "isSmall", "(C)Z"⟩
abbrev cX12_isBig : ByteArray := prog_18_method_6_code
def yX12_isBig : MethodName := ⟨RX12, "isBig", "(C)Z"⟩
abbrev cX12_isDigit : ByteArray := prog_18_method_7_code
def yX12_isDigit : MethodName := ⟨RX12, "isDigit", "(C)Z"⟩
abbrev cX12_isKey : ByteArray := prog_18_method_9_code
def yX12_isKey : MethodName := ⟨RX12, "isKey", "()Z"⟩
abbrev cX12_digits : ByteArray := prog_18_method_11_code
def yX12_digits : MethodName := ⟨RX12, "digits", "()V"⟩
abbrev cX12_sign : ByteArray := prog_18_method_12_code
def yX12_sign : MethodName := ⟨RX12, "sign", "(C)V"⟩
abbrev cX12_isGood : ByteArray := prog_18_method_4_code
def yX12_isGood : MethodName := ⟨RX12, "isGood", "()Z"⟩
abbrev cX12_isKeyword : ByteArray := prog_18_method_14_code
def yX12_isKeyword : MethodName := ⟨RX12, "isKeyword", "(Ljava/lang/String;)Z"⟩
abbrev cX12_data : ByteArray := prog_18_method_22_code
def yX12_data : MethodName := ⟨RX12, "data", "()V"⟩
abbrev cX12_fail : ByteArray := prog_18_method_3_code
def yX12_fail : MethodName := ⟨RX12, "fail", "(II)LLazyForge$Raw;"⟩
abbrev cX12_constructor : ByteArray := prog_18_method_21_code
def yX12_constructor : MethodName := ⟨RX12, "constructor", "(J)I"⟩
abbrev cX12_need : ByteArray := prog_18_method_15_code
def yX12_need : MethodName := ⟨RX12, "need", "(Z)Z"⟩
abbrev cX12_isSign : ByteArray := prog_18_method_13_code
def yX12_isSign : MethodName := ⟨RX12, "isSign", "(Ljava/lang/String;)Z"⟩
abbrev cX12_needSign : ByteArray := prog_18_method_16_code
def yX12_needSign : MethodName := ⟨RX12, "needSign", "(Ljava/lang/String;)Z"⟩
abbrev cX12_function : ByteArray := prog_18_method_23_code
def yX12_function : MethodName := ⟨RX12, "function", "()V"⟩
abbrev cX12_row : ByteArray := prog_18_method_24_code
def yX12_row : MethodName := ⟨RX12, "row", "(IZ)[J"⟩
abbrev cX12_part : ByteArray := prog_18_method_19_code
def yX12_part : MethodName := ⟨RX12, "part", "(I)Z"⟩
abbrev cX12_e : ByteArray := prog_18_method_25_code
def yX12_e : MethodName := ⟨RX12, "e", "()LLazyForge$Raw;"⟩
abbrev cX12_let : ByteArray := prog_18_method_27_code
def yX12_let : MethodName := ⟨RX12, "let", "()LLazyForge$Raw;"⟩
abbrev cX12_opens : ByteArray := prog_18_method_18_code
def yX12_opens : MethodName := ⟨RX12, "opens", "()Z"⟩
abbrev cX12_function_2 : ByteArray := prog_18_method_28_code
def yX12_function_2 : MethodName := ⟨RX12, "function", "([JLLazyForge$Raw;I)LLazyForge$Raw;"⟩
abbrev cX12_needKey : ByteArray := prog_18_method_17_code
def yX12_needKey : MethodName := ⟨RX12, "needKey", "(Ljava/lang/String;)Z"⟩
abbrev cX12_choice : ByteArray := prog_18_method_29_code
def yX12_choice : MethodName := ⟨RX12, "choice", "()LLazyForge$Raw;"⟩
abbrev cX12_pattern : ByteArray := prog_18_method_30_code
def yX12_pattern : MethodName := ⟨RX12, "pattern", "(LLazyForge$Raw;I)Z"⟩
abbrev cX12_lambda : ByteArray := prog_18_method_26_code
def yX12_lambda : MethodName := ⟨RX12, "lambda", "()LLazyForge$Raw;"⟩
abbrev cX12_comparison : ByteArray := prog_18_method_32_code
def yX12_comparison : MethodName := ⟨RX12, "comparison", "()LLazyForge$Raw;"⟩
abbrev cX12_sum : ByteArray := prog_18_method_33_code
def yX12_sum : MethodName := ⟨RX12, "sum", "()LLazyForge$Raw;"⟩
abbrev cX12_product : ByteArray := prog_18_method_34_code
def yX12_product : MethodName := ⟨RX12, "product", "()LLazyForge$Raw;"⟩
abbrev cX12_application : ByteArray := prog_18_method_36_code
def yX12_application : MethodName := ⟨RX12, "application", "()LLazyForge$Raw;"⟩
abbrev cX12_made : ByteArray := prog_18_method_38_code
def yX12_made : MethodName := ⟨RX12, "made", "(I)LLazyForge$Raw;"⟩
abbrev cX12_isAtom : ByteArray := prog_18_method_35_code
def yX12_isAtom : MethodName := ⟨RX12, "isAtom", "()Z"⟩
abbrev cX12_mayBegin : ByteArray := prog_18_method_37_code
def yX12_mayBegin : MethodName := ⟨RX12, "mayBegin", "()Z"⟩
abbrev cX12_atom : ByteArray := prog_18_method_39_code
def yX12_atom : MethodName := ⟨RX12, "atom", "()LLazyForge$Raw;"⟩
abbrev cX12_two : ByteArray := prog_18_method_31_code
def yX12_two : MethodName := ⟨RX12, "two", "(IILLazyForge$Raw;LLazyForge$Raw;)LLazyForge$Raw;"⟩
theorem q180 : (Jvm.Cond.initialized "LazyForge$Reader") ∈ lw_all := lw_g (lw_at lw_m1 18 rfl) rfl
theorem q446 : (Jvm.Cond.fieldLinkNest "LazyForge$Reader" (170 : Nat) "LazyForge" "allParts" "I" "LazyForge") ∈ lw_tbl := lw_at lw_m2 44 rfl
theorem q587 : (Jvm.Cond.instantiable "LazyForge$Reader" (23 : Nat)) ∈ lw_all := lw_g (lw_at lw_m2 185 rfl) rfl
theorem q589 : (Jvm.Cond.instanceMethod ({ cls := "LazyForge$Reader", name := "<init>", desc := "(LLazyForge;[CI)V" } : Jvm.MethodName)) ∈ lw_all := lw_g (lw_at lw_m2 187 rfl) rfl
theorem q590 : (Jvm.Cond.code ({ cls := "LazyForge$Reader", name := "<init>", desc := "(LLazyForge;[CI)V" } : Jvm.MethodName) prog_18_method_1_code (4 : Nat) (Option.none : Option Jvm.ClassFile.FieldType)) ∈ lw_all := lw_g (lw_at lw_m2 188 rfl) rfl
theorem q591 : (Jvm.Cond.methodLink "LazyForge$Reader" (3 : Nat) ({ cls := "java/lang/Object", name := "<init>", desc := "()V" } : Jvm.MethodName)) ∈ lw_all := lw_g (lw_at lw_m2 189 rfl) rfl
theorem q592 : (Jvm.Cond.classLink "LazyForge$Reader" (29 : Nat) "[J") ∈ lw_all := lw_g (lw_at lw_m2 190 rfl) rfl
theorem q594 : (Jvm.Cond.classLink "LazyForge$Reader" (34 : Nat) "LazyForge$Raw") ∈ lw_all := lw_g (lw_at lw_m2 192 rfl) rfl
theorem q596 : (Jvm.Cond.stringRef "LazyForge$Reader" (54 : Nat) "False") ∈ lw_tbl := lw_at lw_m2 194 rfl
theorem q597 : (Jvm.Cond.methodLink "LazyForge$Reader" (56 : Nat) ({ cls := "LazyForge$Reader", name := "wordOf", desc := "(Ljava/lang/String;)J" } : Jvm.MethodName)) ∈ lw_all := lw_g (lw_at lw_m2 195 rfl) rfl
theorem q598 : (Jvm.Cond.static ({ cls := "LazyForge$Reader", name := "wordOf", desc := "(Ljava/lang/String;)J" } : Jvm.MethodName)) ∈ lw_all := lw_g (lw_at lw_m2 196 rfl) rfl
theorem q599 : (Jvm.Cond.code ({ cls := "LazyForge$Reader", name := "wordOf", desc := "(Ljava/lang/String;)J" } : Jvm.MethodName) prog_18_method_8_code (4 : Nat) (Option.some Jvm.ClassFile.FieldType.long)) ∈ lw_all := lw_g (lw_at lw_m2 197 rfl) rfl
theorem q600 : (Jvm.Cond.methodLink "LazyForge$Reader" (72 : Nat) ({ cls := "java/lang/String", name := "length", desc := "()I" } : Jvm.MethodName)) ∈ lw_all := lw_g (lw_at lw_m2 198 rfl) rfl
theorem q610 : (Jvm.Cond.methodLink "LazyForge$Reader" (78 : Nat) ({ cls := "java/lang/String", name := "charAt", desc := "(I)C" } : Jvm.MethodName)) ∈ lw_all := lw_g (lw_at lw_m2 208 rfl) rfl
theorem q648 : (Jvm.Cond.methodLink "LazyForge$Reader" (60 : Nat) ({ cls := "LazyForge$Reader", name := "newConstructor", desc := "(JI)V" } : Jvm.MethodName)) ∈ lw_all := lw_g (lw_at lw_m3 6 rfl) rfl
theorem q649 : (Jvm.Cond.privateMethod ({ cls := "LazyForge$Reader", name := "newConstructor", desc := "(JI)V" } : Jvm.MethodName)) ∈ lw_tbl := lw_at lw_m3 7 rfl
theorem q650 : (Jvm.Cond.instanceMethod ({ cls := "LazyForge$Reader", name := "newConstructor", desc := "(JI)V" } : Jvm.MethodName)) ∈ lw_all := lw_g (lw_at lw_m3 8 rfl) rfl
theorem q651 : (Jvm.Cond.code ({ cls := "LazyForge$Reader", name := "newConstructor", desc := "(JI)V" } : Jvm.MethodName) prog_18_method_2_code (4 : Nat) (Option.none : Option Jvm.ClassFile.FieldType)) ∈ lw_all := lw_g (lw_at lw_m3 9 rfl) rfl
theorem q652 : (Jvm.Cond.stringRef "LazyForge$Reader" (64 : Nat) "True") ∈ lw_tbl := lw_at lw_m3 10 rfl
theorem q653 : (Jvm.Cond.fieldLink "LazyForge$Reader" (43 : Nat) "LazyForge$Reader" "house" "LLazyForge;") ∈ lw_all := lw_g (lw_at lw_m3 11 rfl) rfl
theorem q654 : (Jvm.Cond.fieldLink "LazyForge$Reader" (47 : Nat) "LazyForge$Reader" "text" "[C") ∈ lw_all := lw_g (lw_at lw_m3 12 rfl) rfl
theorem q655 : (Jvm.Cond.fieldLink "LazyForge$Reader" (51 : Nat) "LazyForge$Reader" "size" "I") ∈ lw_all := lw_g (lw_at lw_m3 13 rfl) rfl
theorem q656 : (Jvm.Cond.fieldLink "LazyForge$Reader" (88 : Nat) "LazyForge$Reader" "at" "I") ∈ lw_all := lw_g (lw_at lw_m3 14 rfl) rfl
theorem q657 : (Jvm.Cond.fieldLink "LazyForge$Reader" (97 : Nat) "LazyForge$Reader" "sort" "I") ∈ lw_all := lw_g (lw_at lw_m3 15 rfl) rfl
theorem q658 : (Jvm.Cond.fieldLink "LazyForge$Reader" (91 : Nat) "LazyForge$Reader" "place" "I") ∈ lw_all := lw_g (lw_at lw_m3 16 rfl) rfl
theorem q659 : (Jvm.Cond.fieldLink "LazyForge$Reader" (131 : Nat) "LazyForge$Reader" "number" "I") ∈ lw_all := lw_g (lw_at lw_m3 17 rfl) rfl
theorem q660 : (Jvm.Cond.fieldLink "LazyForge$Reader" (94 : Nat) "LazyForge$Reader" "mark" "I") ∈ lw_all := lw_g (lw_at lw_m3 18 rfl) rfl
theorem q661 : (Jvm.Cond.fieldLink "LazyForge$Reader" (84 : Nat) "LazyForge$Reader" "word" "J") ∈ lw_all := lw_g (lw_at lw_m3 19 rfl) rfl
theorem q662 : (Jvm.Cond.fieldLink "LazyForge$Reader" (69 : Nat) "LazyForge$Reader" "kind" "I") ∈ lw_all := lw_g (lw_at lw_m3 20 rfl) rfl
theorem q664 : (Jvm.Cond.fieldLink "LazyForge$Reader" (9 : Nat) "LazyForge$Reader" "faultPlace" "I") ∈ lw_all := lw_g (lw_at lw_m3 22 rfl) rfl
theorem q666 : (Jvm.Cond.fieldLink "LazyForge$Reader" (164 : Nat) "LazyForge$Reader" "open" "I") ∈ lw_all := lw_g (lw_at lw_m3 24 rfl) rfl
theorem q668 : (Jvm.Cond.fieldLink "LazyForge$Reader" (167 : Nat) "LazyForge$Reader" "parts" "I") ∈ lw_all := lw_g (lw_at lw_m3 26 rfl) rfl
theorem q669 : (Jvm.Cond.fieldLink "LazyForge$Reader" (15 : Nat) "LazyForge$Reader" "constructors" "[J") ∈ lw_all := lw_g (lw_at lw_m3 27 rfl) rfl
theorem q671 : (Jvm.Cond.fieldLink "LazyForge$Reader" (19 : Nat) "LazyForge$Reader" "fields" "[I") ∈ lw_all := lw_g (lw_at lw_m3 29 rfl) rfl
theorem q673 : (Jvm.Cond.fieldLink "LazyForge$Reader" (66 : Nat) "LazyForge$Reader" "constructorCount" "I") ∈ lw_all := lw_g (lw_at lw_m3 31 rfl) rfl
theorem q675 : (Jvm.Cond.fieldLink "LazyForge$Reader" (23 : Nat) "LazyForge$Reader" "names" "[J") ∈ lw_all := lw_g (lw_at lw_m3 33 rfl) rfl
theorem q677 : (Jvm.Cond.fieldLink "LazyForge$Reader" (26 : Nat) "LazyForge$Reader" "places" "[I") ∈ lw_all := lw_g (lw_at lw_m3 35 rfl) rfl
theorem q679 : (Jvm.Cond.fieldLink "LazyForge$Reader" (30 : Nat) "LazyForge$Reader" "parameters" "[[J") ∈ lw_all := lw_g (lw_at lw_m3 37 rfl) rfl
theorem q681 : (Jvm.Cond.fieldLink "LazyForge$Reader" (36 : Nat) "LazyForge$Reader" "bodies" "[LLazyForge$Raw;") ∈ lw_all := lw_g (lw_at lw_m3 39 rfl) rfl
theorem q684 : (Jvm.Cond.fieldLink "LazyForge$Reader" (191 : Nat) "LazyForge$Reader" "functions" "I") ∈ lw_all := lw_g (lw_at lw_m3 42 rfl) rfl
theorem q685 : (Jvm.Cond.fieldLink "LazyForge$Reader" (144 : Nat) "LazyForge$Reader" "previous" "I") ∈ lw_all := lw_g (lw_at lw_m3 43 rfl) rfl
theorem q686 : (Jvm.Cond.fieldLink "LazyForge$Reader" (40 : Nat) "LazyForge$Reader" "gathered" "[J") ∈ lw_all := lw_g (lw_at lw_m3 44 rfl) rfl
theorem q687 : (Jvm.Cond.laysFinal "LazyForge$Reader" "LazyForge$Reader" "house" "LLazyForge;") ∈ lw_all := lw_g (lw_at lw_m3 45 rfl) rfl
theorem q688 : (Jvm.Cond.soleField "LazyForge$Reader" "house") ∈ lw_all := lw_g (lw_at lw_m3 46 rfl) rfl
theorem q689 : (Jvm.Cond.laysFinal "LazyForge$Reader" "LazyForge$Reader" "text" "[C") ∈ lw_all := lw_g (lw_at lw_m3 47 rfl) rfl
theorem q690 : (Jvm.Cond.soleField "LazyForge$Reader" "text") ∈ lw_all := lw_g (lw_at lw_m3 48 rfl) rfl
theorem q691 : (Jvm.Cond.laysFinal "LazyForge$Reader" "LazyForge$Reader" "size" "I") ∈ lw_all := lw_g (lw_at lw_m3 49 rfl) rfl
theorem q692 : (Jvm.Cond.soleField "LazyForge$Reader" "size") ∈ lw_all := lw_g (lw_at lw_m3 50 rfl) rfl
theorem q693 : (Jvm.Cond.lays "LazyForge$Reader" "LazyForge$Reader" "at" "I") ∈ lw_all := lw_g (lw_at lw_m3 51 rfl) rfl
theorem q694 : (Jvm.Cond.soleField "LazyForge$Reader" "at") ∈ lw_all := lw_g (lw_at lw_m3 52 rfl) rfl
theorem q695 : (Jvm.Cond.lays "LazyForge$Reader" "LazyForge$Reader" "sort" "I") ∈ lw_all := lw_g (lw_at lw_m3 53 rfl) rfl
theorem q696 : (Jvm.Cond.soleField "LazyForge$Reader" "sort") ∈ lw_all := lw_g (lw_at lw_m3 54 rfl) rfl
theorem q697 : (Jvm.Cond.lays "LazyForge$Reader" "LazyForge$Reader" "place" "I") ∈ lw_all := lw_g (lw_at lw_m3 55 rfl) rfl
theorem q698 : (Jvm.Cond.soleField "LazyForge$Reader" "place") ∈ lw_all := lw_g (lw_at lw_m3 56 rfl) rfl
theorem q699 : (Jvm.Cond.lays "LazyForge$Reader" "LazyForge$Reader" "number" "I") ∈ lw_all := lw_g (lw_at lw_m3 57 rfl) rfl
theorem q700 : (Jvm.Cond.soleField "LazyForge$Reader" "number") ∈ lw_all := lw_g (lw_at lw_m3 58 rfl) rfl
theorem q701 : (Jvm.Cond.lays "LazyForge$Reader" "LazyForge$Reader" "mark" "I") ∈ lw_all := lw_g (lw_at lw_m3 59 rfl) rfl
theorem q702 : (Jvm.Cond.soleField "LazyForge$Reader" "mark") ∈ lw_all := lw_g (lw_at lw_m3 60 rfl) rfl
theorem q703 : (Jvm.Cond.lays "LazyForge$Reader" "LazyForge$Reader" "word" "J") ∈ lw_all := lw_g (lw_at lw_m3 61 rfl) rfl
theorem q704 : (Jvm.Cond.soleField "LazyForge$Reader" "word") ∈ lw_all := lw_g (lw_at lw_m3 62 rfl) rfl
theorem q705 : (Jvm.Cond.lays "LazyForge$Reader" "LazyForge$Reader" "kind" "I") ∈ lw_all := lw_g (lw_at lw_m3 63 rfl) rfl
theorem q706 : (Jvm.Cond.soleField "LazyForge$Reader" "kind") ∈ lw_all := lw_g (lw_at lw_m3 64 rfl) rfl
theorem q707 : (Jvm.Cond.lays "LazyForge$Reader" "LazyForge$Reader" "faultPlace" "I") ∈ lw_all := lw_g (lw_at lw_m3 65 rfl) rfl
theorem q708 : (Jvm.Cond.soleField "LazyForge$Reader" "faultPlace") ∈ lw_all := lw_g (lw_at lw_m3 66 rfl) rfl
theorem q709 : (Jvm.Cond.lays "LazyForge$Reader" "LazyForge$Reader" "open" "I") ∈ lw_all := lw_g (lw_at lw_m3 67 rfl) rfl
theorem q710 : (Jvm.Cond.soleField "LazyForge$Reader" "open") ∈ lw_all := lw_g (lw_at lw_m3 68 rfl) rfl
theorem q711 : (Jvm.Cond.lays "LazyForge$Reader" "LazyForge$Reader" "parts" "I") ∈ lw_all := lw_g (lw_at lw_m3 69 rfl) rfl
theorem q712 : (Jvm.Cond.soleField "LazyForge$Reader" "parts") ∈ lw_all := lw_g (lw_at lw_m3 70 rfl) rfl
theorem q713 : (Jvm.Cond.laysFinal "LazyForge$Reader" "LazyForge$Reader" "constructors" "[J") ∈ lw_all := lw_g (lw_at lw_m3 71 rfl) rfl
theorem q714 : (Jvm.Cond.soleField "LazyForge$Reader" "constructors") ∈ lw_all := lw_g (lw_at lw_m3 72 rfl) rfl
theorem q715 : (Jvm.Cond.laysFinal "LazyForge$Reader" "LazyForge$Reader" "fields" "[I") ∈ lw_all := lw_g (lw_at lw_m3 73 rfl) rfl
theorem q716 : (Jvm.Cond.soleField "LazyForge$Reader" "fields") ∈ lw_all := lw_g (lw_at lw_m3 74 rfl) rfl
theorem q717 : (Jvm.Cond.lays "LazyForge$Reader" "LazyForge$Reader" "constructorCount" "I") ∈ lw_all := lw_g (lw_at lw_m3 75 rfl) rfl
theorem q718 : (Jvm.Cond.soleField "LazyForge$Reader" "constructorCount") ∈ lw_all := lw_g (lw_at lw_m3 76 rfl) rfl
theorem q719 : (Jvm.Cond.laysFinal "LazyForge$Reader" "LazyForge$Reader" "names" "[J") ∈ lw_all := lw_g (lw_at lw_m3 77 rfl) rfl
theorem q720 : (Jvm.Cond.soleField "LazyForge$Reader" "names") ∈ lw_all := lw_g (lw_at lw_m3 78 rfl) rfl
theorem q721 : (Jvm.Cond.laysFinal "LazyForge$Reader" "LazyForge$Reader" "places" "[I") ∈ lw_all := lw_g (lw_at lw_m3 79 rfl) rfl
theorem q722 : (Jvm.Cond.soleField "LazyForge$Reader" "places") ∈ lw_all := lw_g (lw_at lw_m3 80 rfl) rfl
theorem q723 : (Jvm.Cond.laysFinal "LazyForge$Reader" "LazyForge$Reader" "parameters" "[[J") ∈ lw_all := lw_g (lw_at lw_m3 81 rfl) rfl
theorem q724 : (Jvm.Cond.soleField "LazyForge$Reader" "parameters") ∈ lw_all := lw_g (lw_at lw_m3 82 rfl) rfl
theorem q725 : (Jvm.Cond.laysFinal "LazyForge$Reader" "LazyForge$Reader" "bodies" "[LLazyForge$Raw;") ∈ lw_all := lw_g (lw_at lw_m3 83 rfl) rfl
theorem q726 : (Jvm.Cond.soleField "LazyForge$Reader" "bodies") ∈ lw_all := lw_g (lw_at lw_m3 84 rfl) rfl
theorem q727 : (Jvm.Cond.lays "LazyForge$Reader" "LazyForge$Reader" "functions" "I") ∈ lw_all := lw_g (lw_at lw_m3 85 rfl) rfl
theorem q728 : (Jvm.Cond.soleField "LazyForge$Reader" "functions") ∈ lw_all := lw_g (lw_at lw_m3 86 rfl) rfl
theorem q729 : (Jvm.Cond.lays "LazyForge$Reader" "LazyForge$Reader" "previous" "I") ∈ lw_all := lw_g (lw_at lw_m3 87 rfl) rfl
theorem q730 : (Jvm.Cond.soleField "LazyForge$Reader" "previous") ∈ lw_all := lw_g (lw_at lw_m3 88 rfl) rfl
theorem q731 : (Jvm.Cond.laysFinal "LazyForge$Reader" "LazyForge$Reader" "gathered" "[J") ∈ lw_all := lw_g (lw_at lw_m3 89 rfl) rfl
theorem q732 : (Jvm.Cond.soleField "LazyForge$Reader" "gathered") ∈ lw_all := lw_g (lw_at lw_m3 90 rfl) rfl
theorem q733 : (Jvm.Cond.superclass "LazyForge$Reader" "java/lang/Object") ∈ lw_all := lw_g (lw_at lw_m3 91 rfl) rfl
theorem q740 : (Jvm.Cond.instanceMethod ({ cls := "LazyForge$Reader", name := "read", desc := "()Z" } : Jvm.MethodName)) ∈ lw_all := lw_g (lw_at lw_m3 98 rfl) rfl
theorem q741 : (Jvm.Cond.selects "LazyForge$Reader" ({ cls := "LazyForge$Reader", name := "read", desc := "()Z" } : Jvm.MethodName) ({ cls := "LazyForge$Reader", name := "read", desc := "()Z" } : Jvm.MethodName)) ∈ lw_all := lw_g (lw_at lw_m3 99 rfl) rfl
theorem q742 : (Jvm.Cond.code ({ cls := "LazyForge$Reader", name := "read", desc := "()Z" } : Jvm.MethodName) prog_18_method_20_code (1 : Nat) (Option.some Jvm.ClassFile.FieldType.boolean)) ∈ lw_all := lw_g (lw_at lw_m3 100 rfl) rfl
theorem q743 : (Jvm.Cond.methodLink "LazyForge$Reader" (150 : Nat) ({ cls := "LazyForge$Reader", name := "next", desc := "()V" } : Jvm.MethodName)) ∈ lw_all := lw_g (lw_at lw_m3 101 rfl) rfl
theorem q744 : (Jvm.Cond.privateMethod ({ cls := "LazyForge$Reader", name := "next", desc := "()V" } : Jvm.MethodName)) ∈ lw_tbl := lw_at lw_m3 102 rfl
theorem q745 : (Jvm.Cond.instanceMethod ({ cls := "LazyForge$Reader", name := "next", desc := "()V" } : Jvm.MethodName)) ∈ lw_all := lw_g (lw_at lw_m3 103 rfl) rfl
theorem q746 : (Jvm.Cond.code ({ cls := "LazyForge$Reader", name := "next", desc := "()V" } : Jvm.MethodName) prog_18_method_10_code (2 : Nat) (Option.none : Option Jvm.ClassFile.FieldType)) ∈ lw_all := lw_g (lw_at lw_m3 104 rfl) rfl
theorem q747 : (Jvm.Cond.methodLink "LazyForge$Reader" (100 : Nat) ({ cls := "LazyForge$Reader", name := "isSmall", desc := "(C)Z" } : Jvm.MethodName)) ∈ lw_all := lw_g (lw_at lw_m3 105 rfl) rfl
theorem q748 : (Jvm.Cond.static ({ cls := "LazyForge$Reader", name := "isSmall", desc := "(C)Z" } : Jvm.MethodName)) ∈ lw_all := lw_g (lw_at lw_m3 106 rfl) rfl
theorem q749 : (Jvm.Cond.code ({ cls := "LazyForge$Reader", name := "isSmall", desc := "(C)Z" } : Jvm.MethodName) prog_18_method_5_code (1 : Nat) (Option.some Jvm.ClassFile.FieldType.boolean)) ∈ lw_all := lw_g (lw_at lw_m3 107 rfl) rfl
theorem q750 : (Jvm.Cond.methodLink "LazyForge$Reader" (104 : Nat) ({ cls := "LazyForge$Reader", name := "isBig", desc := "(C)Z" } : Jvm.MethodName)) ∈ lw_all := lw_g (lw_at lw_m3 108 rfl) rfl
theorem q751 : (Jvm.Cond.static ({ cls := "LazyForge$Reader", name := "isBig", desc := "(C)Z" } : Jvm.MethodName)) ∈ lw_all := lw_g (lw_at lw_m3 109 rfl) rfl
theorem q752 : (Jvm.Cond.code ({ cls := "LazyForge$Reader", name := "isBig", desc := "(C)Z" } : Jvm.MethodName) prog_18_method_6_code (1 : Nat) (Option.some Jvm.ClassFile.FieldType.boolean)) ∈ lw_all := lw_g (lw_at lw_m3 110 rfl) rfl
theorem q753 : (Jvm.Cond.methodLink "LazyForge$Reader" (107 : Nat) ({ cls := "LazyForge$Reader", name := "isDigit", desc := "(C)Z" } : Jvm.MethodName)) ∈ lw_all := lw_g (lw_at lw_m3 111 rfl) rfl
theorem q754 : (Jvm.Cond.static ({ cls := "LazyForge$Reader", name := "isDigit", desc := "(C)Z" } : Jvm.MethodName)) ∈ lw_all := lw_g (lw_at lw_m3 112 rfl) rfl
theorem q755 : (Jvm.Cond.code ({ cls := "LazyForge$Reader", name := "isDigit", desc := "(C)Z" } : Jvm.MethodName) prog_18_method_7_code (1 : Nat) (Option.some Jvm.ClassFile.FieldType.boolean)) ∈ lw_all := lw_g (lw_at lw_m3 113 rfl) rfl
theorem q756 : (Jvm.Cond.methodLink "LazyForge$Reader" (110 : Nat) ({ cls := "LazyForge$Reader", name := "isKey", desc := "()Z" } : Jvm.MethodName)) ∈ lw_all := lw_g (lw_at lw_m3 114 rfl) rfl
theorem q757 : (Jvm.Cond.privateMethod ({ cls := "LazyForge$Reader", name := "isKey", desc := "()Z" } : Jvm.MethodName)) ∈ lw_tbl := lw_at lw_m3 115 rfl
theorem q758 : (Jvm.Cond.instanceMethod ({ cls := "LazyForge$Reader", name := "isKey", desc := "()Z" } : Jvm.MethodName)) ∈ lw_all := lw_g (lw_at lw_m3 116 rfl) rfl
theorem q759 : (Jvm.Cond.code ({ cls := "LazyForge$Reader", name := "isKey", desc := "()Z" } : Jvm.MethodName) prog_18_method_9_code (4 : Nat) (Option.some Jvm.ClassFile.FieldType.boolean)) ∈ lw_all := lw_g (lw_at lw_m3 117 rfl) rfl
theorem q760 : (Jvm.Cond.stringRef "LazyForge$Reader" (82 : Nat) "data let in case of fail ") ∈ lw_tbl := lw_at lw_m3 118 rfl
theorem q761 : (Jvm.Cond.methodLink "LazyForge$Reader" (114 : Nat) ({ cls := "LazyForge$Reader", name := "digits", desc := "()V" } : Jvm.MethodName)) ∈ lw_all := lw_g (lw_at lw_m3 119 rfl) rfl
theorem q762 : (Jvm.Cond.privateMethod ({ cls := "LazyForge$Reader", name := "digits", desc := "()V" } : Jvm.MethodName)) ∈ lw_tbl := lw_at lw_m3 120 rfl
theorem q763 : (Jvm.Cond.instanceMethod ({ cls := "LazyForge$Reader", name := "digits", desc := "()V" } : Jvm.MethodName)) ∈ lw_all := lw_g (lw_at lw_m3 121 rfl) rfl
theorem q764 : (Jvm.Cond.code ({ cls := "LazyForge$Reader", name := "digits", desc := "()V" } : Jvm.MethodName) prog_18_method_11_code (4 : Nat) (Option.none : Option Jvm.ClassFile.FieldType)) ∈ lw_all := lw_g (lw_at lw_m3 122 rfl) rfl
theorem q765 : (Jvm.Cond.constantLong "LazyForge$Reader" (121 : Nat) (10 : Int64)) ∈ lw_all := lw_g (lw_at lw_m3 123 rfl) rfl
theorem q766 : (Jvm.Cond.constantLong "LazyForge$Reader" (123 : Nat) (48 : Int64)) ∈ lw_all := lw_g (lw_at lw_m3 124 rfl) rfl
theorem q767 : (Jvm.Cond.constantLong "LazyForge$Reader" (127 : Nat) (9223372036854775807 : Int64)) ∈ lw_all := lw_g (lw_at lw_m3 125 rfl) rfl
theorem q768 : (Jvm.Cond.constantLong "LazyForge$Reader" (129 : Nat) (2147483648 : Int64)) ∈ lw_all := lw_g (lw_at lw_m3 126 rfl) rfl
theorem q769 : (Jvm.Cond.methodLink "LazyForge$Reader" (117 : Nat) ({ cls := "LazyForge$Reader", name := "sign", desc := "(C)V" } : Jvm.MethodName)) ∈ lw_all := lw_g (lw_at lw_m3 127 rfl) rfl
theorem q770 : (Jvm.Cond.privateMethod ({ cls := "LazyForge$Reader", name := "sign", desc := "(C)V" } : Jvm.MethodName)) ∈ lw_tbl := lw_at lw_m3 128 rfl
theorem q771 : (Jvm.Cond.instanceMethod ({ cls := "LazyForge$Reader", name := "sign", desc := "(C)V" } : Jvm.MethodName)) ∈ lw_all := lw_g (lw_at lw_m3 129 rfl) rfl
theorem q772 : (Jvm.Cond.code ({ cls := "LazyForge$Reader", name := "sign", desc := "(C)V" } : Jvm.MethodName) prog_18_method_12_code (4 : Nat) (Option.none : Option Jvm.ClassFile.FieldType)) ∈ lw_all := lw_g (lw_at lw_m3 130 rfl) rfl
theorem q773 : (Jvm.Cond.stringRef "LazyForge$Reader" (134 : Nat) "(){}=;,\\._+-*/%<|") ∈ lw_tbl := lw_at lw_m3 131 rfl
theorem q774 : (Jvm.Cond.methodLink "LazyForge$Reader" (136 : Nat) ({ cls := "java/lang/String", name := "indexOf", desc := "(I)I" } : Jvm.MethodName)) ∈ lw_all := lw_g (lw_at lw_m3 132 rfl) rfl
theorem q833 : (Jvm.Cond.methodLink "LazyForge$Reader" (147 : Nat) ({ cls := "LazyForge$Reader", name := "isGood", desc := "()Z" } : Jvm.MethodName)) ∈ lw_all := lw_g (lw_at lw_m3 191 rfl) rfl
theorem q834 : (Jvm.Cond.privateMethod ({ cls := "LazyForge$Reader", name := "isGood", desc := "()Z" } : Jvm.MethodName)) ∈ lw_tbl := lw_at lw_m3 192 rfl
theorem q835 : (Jvm.Cond.instanceMethod ({ cls := "LazyForge$Reader", name := "isGood", desc := "()Z" } : Jvm.MethodName)) ∈ lw_all := lw_g (lw_at lw_m3 193 rfl) rfl
theorem q836 : (Jvm.Cond.code ({ cls := "LazyForge$Reader", name := "isGood", desc := "()Z" } : Jvm.MethodName) prog_18_method_4_code (1 : Nat) (Option.some Jvm.ClassFile.FieldType.boolean)) ∈ lw_all := lw_g (lw_at lw_m3 194 rfl) rfl
theorem q837 : (Jvm.Cond.stringRef "LazyForge$Reader" (173 : Nat) "data") ∈ lw_tbl := lw_at lw_m3 195 rfl
theorem q838 : (Jvm.Cond.methodLink "LazyForge$Reader" (161 : Nat) ({ cls := "LazyForge$Reader", name := "isKeyword", desc := "(Ljava/lang/String;)Z" } : Jvm.MethodName)) ∈ lw_all := lw_g (lw_at lw_m3 196 rfl) rfl
theorem q839 : (Jvm.Cond.privateMethod ({ cls := "LazyForge$Reader", name := "isKeyword", desc := "(Ljava/lang/String;)Z" } : Jvm.MethodName)) ∈ lw_tbl := lw_at lw_m3 197 rfl
theorem q840 : (Jvm.Cond.instanceMethod ({ cls := "LazyForge$Reader", name := "isKeyword", desc := "(Ljava/lang/String;)Z" } : Jvm.MethodName)) ∈ lw_all := lw_g (lw_at lw_m3 198 rfl) rfl
theorem q841 : (Jvm.Cond.code ({ cls := "LazyForge$Reader", name := "isKeyword", desc := "(Ljava/lang/String;)Z" } : Jvm.MethodName) prog_18_method_14_code (2 : Nat) (Option.some Jvm.ClassFile.FieldType.boolean)) ∈ lw_all := lw_g (lw_at lw_m3 199 rfl) rfl
theorem q842 : (Jvm.Cond.methodLink "LazyForge$Reader" (175 : Nat) ({ cls := "LazyForge$Reader", name := "data", desc := "()V" } : Jvm.MethodName)) ∈ lw_all := lw_g (lw_at lw_m3 200 rfl) rfl
theorem q843 : (Jvm.Cond.privateMethod ({ cls := "LazyForge$Reader", name := "data", desc := "()V" } : Jvm.MethodName)) ∈ lw_tbl := lw_at lw_m3 201 rfl
theorem q844 : (Jvm.Cond.instanceMethod ({ cls := "LazyForge$Reader", name := "data", desc := "()V" } : Jvm.MethodName)) ∈ lw_all := lw_g (lw_at lw_m3 202 rfl) rfl
theorem q845 : (Jvm.Cond.code ({ cls := "LazyForge$Reader", name := "data", desc := "()V" } : Jvm.MethodName) prog_18_method_22_code (3 : Nat) (Option.none : Option Jvm.ClassFile.FieldType)) ∈ lw_all := lw_g (lw_at lw_m3 203 rfl) rfl
theorem q846 : (Jvm.Cond.methodLink "LazyForge$Reader" (140 : Nat) ({ cls := "LazyForge$Reader", name := "fail", desc := "(II)LLazyForge$Raw;" } : Jvm.MethodName)) ∈ lw_all := lw_g (lw_at lw_m3 204 rfl) rfl
theorem q847 : (Jvm.Cond.privateMethod ({ cls := "LazyForge$Reader", name := "fail", desc := "(II)LLazyForge$Raw;" } : Jvm.MethodName)) ∈ lw_tbl := lw_at lw_m3 205 rfl
theorem q848 : (Jvm.Cond.instanceMethod ({ cls := "LazyForge$Reader", name := "fail", desc := "(II)LLazyForge$Raw;" } : Jvm.MethodName)) ∈ lw_all := lw_g (lw_at lw_m3 206 rfl) rfl
theorem q849 : (Jvm.Cond.code ({ cls := "LazyForge$Reader", name := "fail", desc := "(II)LLazyForge$Raw;" } : Jvm.MethodName) prog_18_method_3_code (3 : Nat) (Option.some (Jvm.ClassFile.FieldType.object "LazyForge$Raw"))) ∈ lw_all := lw_g (lw_at lw_m3 207 rfl) rfl
theorem q850 : (Jvm.Cond.methodLink "LazyForge$Reader" (180 : Nat) ({ cls := "LazyForge$Reader", name := "constructor", desc := "(J)I" } : Jvm.MethodName)) ∈ lw_all := lw_g (lw_at lw_m3 208 rfl) rfl
theorem q851 : (Jvm.Cond.privateMethod ({ cls := "LazyForge$Reader", name := "constructor", desc := "(J)I" } : Jvm.MethodName)) ∈ lw_tbl := lw_at lw_m3 209 rfl
theorem q852 : (Jvm.Cond.instanceMethod ({ cls := "LazyForge$Reader", name := "constructor", desc := "(J)I" } : Jvm.MethodName)) ∈ lw_all := lw_g (lw_at lw_m3 210 rfl) rfl
theorem q853 : (Jvm.Cond.code ({ cls := "LazyForge$Reader", name := "constructor", desc := "(J)I" } : Jvm.MethodName) prog_18_method_21_code (4 : Nat) (Option.some Jvm.ClassFile.FieldType.int)) ∈ lw_all := lw_g (lw_at lw_m3 211 rfl) rfl
theorem q854 : (Jvm.Cond.methodLink "LazyForge$Reader" (157 : Nat) ({ cls := "LazyForge$Reader", name := "need", desc := "(Z)Z" } : Jvm.MethodName)) ∈ lw_all := lw_g (lw_at lw_m3 212 rfl) rfl
theorem q855 : (Jvm.Cond.privateMethod ({ cls := "LazyForge$Reader", name := "need", desc := "(Z)Z" } : Jvm.MethodName)) ∈ lw_tbl := lw_at lw_m3 213 rfl
theorem q856 : (Jvm.Cond.instanceMethod ({ cls := "LazyForge$Reader", name := "need", desc := "(Z)Z" } : Jvm.MethodName)) ∈ lw_all := lw_g (lw_at lw_m3 214 rfl) rfl
theorem q857 : (Jvm.Cond.code ({ cls := "LazyForge$Reader", name := "need", desc := "(Z)Z" } : Jvm.MethodName) prog_18_method_15_code (2 : Nat) (Option.some Jvm.ClassFile.FieldType.boolean)) ∈ lw_all := lw_g (lw_at lw_m3 215 rfl) rfl
theorem q858 : (Jvm.Cond.stringRef "LazyForge$Reader" (184 : Nat) "|") ∈ lw_tbl := lw_at lw_m3 216 rfl
theorem q859 : (Jvm.Cond.methodLink "LazyForge$Reader" (153 : Nat) ({ cls := "LazyForge$Reader", name := "isSign", desc := "(Ljava/lang/String;)Z" } : Jvm.MethodName)) ∈ lw_all := lw_g (lw_at lw_m3 217 rfl) rfl
theorem q860 : (Jvm.Cond.privateMethod ({ cls := "LazyForge$Reader", name := "isSign", desc := "(Ljava/lang/String;)Z" } : Jvm.MethodName)) ∈ lw_tbl := lw_at lw_m3 218 rfl
theorem q861 : (Jvm.Cond.instanceMethod ({ cls := "LazyForge$Reader", name := "isSign", desc := "(Ljava/lang/String;)Z" } : Jvm.MethodName)) ∈ lw_all := lw_g (lw_at lw_m3 219 rfl) rfl
theorem q862 : (Jvm.Cond.code ({ cls := "LazyForge$Reader", name := "isSign", desc := "(Ljava/lang/String;)Z" } : Jvm.MethodName) prog_18_method_13_code (2 : Nat) (Option.some Jvm.ClassFile.FieldType.boolean)) ∈ lw_all := lw_g (lw_at lw_m3 220 rfl) rfl
theorem q863 : (Jvm.Cond.stringRef "LazyForge$Reader" (186 : Nat) ";") ∈ lw_tbl := lw_at lw_m3 221 rfl
theorem q864 : (Jvm.Cond.methodLink "LazyForge$Reader" (188 : Nat) ({ cls := "LazyForge$Reader", name := "needSign", desc := "(Ljava/lang/String;)Z" } : Jvm.MethodName)) ∈ lw_all := lw_g (lw_at lw_m3 222 rfl) rfl
theorem q865 : (Jvm.Cond.privateMethod ({ cls := "LazyForge$Reader", name := "needSign", desc := "(Ljava/lang/String;)Z" } : Jvm.MethodName)) ∈ lw_tbl := lw_at lw_m3 223 rfl
theorem q866 : (Jvm.Cond.instanceMethod ({ cls := "LazyForge$Reader", name := "needSign", desc := "(Ljava/lang/String;)Z" } : Jvm.MethodName)) ∈ lw_all := lw_g (lw_at lw_m3 224 rfl) rfl
theorem q867 : (Jvm.Cond.code ({ cls := "LazyForge$Reader", name := "needSign", desc := "(Ljava/lang/String;)Z" } : Jvm.MethodName) prog_18_method_16_code (2 : Nat) (Option.some Jvm.ClassFile.FieldType.boolean)) ∈ lw_all := lw_g (lw_at lw_m3 225 rfl) rfl
theorem q868 : (Jvm.Cond.methodLink "LazyForge$Reader" (177 : Nat) ({ cls := "LazyForge$Reader", name := "function", desc := "()V" } : Jvm.MethodName)) ∈ lw_all := lw_g (lw_at lw_m3 226 rfl) rfl
theorem q869 : (Jvm.Cond.privateMethod ({ cls := "LazyForge$Reader", name := "function", desc := "()V" } : Jvm.MethodName)) ∈ lw_tbl := lw_at lw_m3 227 rfl
theorem q870 : (Jvm.Cond.instanceMethod ({ cls := "LazyForge$Reader", name := "function", desc := "()V" } : Jvm.MethodName)) ∈ lw_all := lw_g (lw_at lw_m3 228 rfl) rfl
theorem q871 : (Jvm.Cond.code ({ cls := "LazyForge$Reader", name := "function", desc := "()V" } : Jvm.MethodName) prog_18_method_23_code (2 : Nat) (Option.none : Option Jvm.ClassFile.FieldType)) ∈ lw_all := lw_g (lw_at lw_m3 229 rfl) rfl
theorem q872 : (Jvm.Cond.methodLink "LazyForge$Reader" (194 : Nat) ({ cls := "LazyForge$Reader", name := "row", desc := "(IZ)[J" } : Jvm.MethodName)) ∈ lw_all := lw_g (lw_at lw_m3 230 rfl) rfl
theorem q873 : (Jvm.Cond.privateMethod ({ cls := "LazyForge$Reader", name := "row", desc := "(IZ)[J" } : Jvm.MethodName)) ∈ lw_tbl := lw_at lw_m3 231 rfl
theorem q874 : (Jvm.Cond.instanceMethod ({ cls := "LazyForge$Reader", name := "row", desc := "(IZ)[J" } : Jvm.MethodName)) ∈ lw_all := lw_g (lw_at lw_m3 232 rfl) rfl
theorem q875 : (Jvm.Cond.code ({ cls := "LazyForge$Reader", name := "row", desc := "(IZ)[J" } : Jvm.MethodName) prog_18_method_24_code (5 : Nat) (Option.some (Jvm.ClassFile.FieldType.array Jvm.ClassFile.FieldType.long))) ∈ lw_all := lw_g (lw_at lw_m3 233 rfl) rfl
theorem q876 : (Jvm.Cond.methodLink "LazyForge$Reader" (204 : Nat) ({ cls := "LazyForge$Reader", name := "part", desc := "(I)Z" } : Jvm.MethodName)) ∈ lw_all := lw_g (lw_at lw_m3 234 rfl) rfl
theorem q877 : (Jvm.Cond.privateMethod ({ cls := "LazyForge$Reader", name := "part", desc := "(I)Z" } : Jvm.MethodName)) ∈ lw_tbl := lw_at lw_m3 235 rfl
theorem q878 : (Jvm.Cond.instanceMethod ({ cls := "LazyForge$Reader", name := "part", desc := "(I)Z" } : Jvm.MethodName)) ∈ lw_all := lw_g (lw_at lw_m3 236 rfl) rfl
theorem q879 : (Jvm.Cond.code ({ cls := "LazyForge$Reader", name := "part", desc := "(I)Z" } : Jvm.MethodName) prog_18_method_19_code (2 : Nat) (Option.some Jvm.ClassFile.FieldType.boolean)) ∈ lw_all := lw_g (lw_at lw_m3 237 rfl) rfl
theorem q880 : (Jvm.Cond.methodLink "LazyForge$Reader" (208 : Nat) ({ cls := "java/lang/System", name := "arraycopy", desc := "(Ljava/lang/Object;ILjava/lang/Object;II)V" } : Jvm.MethodName)) ∈ lw_all := lw_g (lw_at lw_m3 238 rfl) rfl
theorem q881 : (Jvm.Cond.stringRef "LazyForge$Reader" (198 : Nat) "=") ∈ lw_tbl := lw_at lw_m3 239 rfl
theorem q882 : (Jvm.Cond.methodLink "LazyForge$Reader" (200 : Nat) ({ cls := "LazyForge$Reader", name := "e", desc := "()LLazyForge$Raw;" } : Jvm.MethodName)) ∈ lw_all := lw_g (lw_at lw_m4 0 rfl) rfl
theorem q883 : (Jvm.Cond.privateMethod ({ cls := "LazyForge$Reader", name := "e", desc := "()LLazyForge$Raw;" } : Jvm.MethodName)) ∈ lw_tbl := lw_at lw_m4 1 rfl
theorem q884 : (Jvm.Cond.instanceMethod ({ cls := "LazyForge$Reader", name := "e", desc := "()LLazyForge$Raw;" } : Jvm.MethodName)) ∈ lw_all := lw_g (lw_at lw_m4 2 rfl) rfl
theorem q885 : (Jvm.Cond.code ({ cls := "LazyForge$Reader", name := "e", desc := "()LLazyForge$Raw;" } : Jvm.MethodName) prog_18_method_25_code (1 : Nat) (Option.some (Jvm.ClassFile.FieldType.object "LazyForge$Raw"))) ∈ lw_all := lw_g (lw_at lw_m4 3 rfl) rfl
theorem q886 : (Jvm.Cond.stringRef "LazyForge$Reader" (214 : Nat) "let") ∈ lw_tbl := lw_at lw_m4 4 rfl
theorem q887 : (Jvm.Cond.methodLink "LazyForge$Reader" (216 : Nat) ({ cls := "LazyForge$Reader", name := "let", desc := "()LLazyForge$Raw;" } : Jvm.MethodName)) ∈ lw_all := lw_g (lw_at lw_m4 5 rfl) rfl
theorem q888 : (Jvm.Cond.privateMethod ({ cls := "LazyForge$Reader", name := "let", desc := "()LLazyForge$Raw;" } : Jvm.MethodName)) ∈ lw_tbl := lw_at lw_m4 6 rfl
theorem q889 : (Jvm.Cond.instanceMethod ({ cls := "LazyForge$Reader", name := "let", desc := "()LLazyForge$Raw;" } : Jvm.MethodName)) ∈ lw_all := lw_g (lw_at lw_m4 7 rfl) rfl
theorem q890 : (Jvm.Cond.code ({ cls := "LazyForge$Reader", name := "let", desc := "()LLazyForge$Raw;" } : Jvm.MethodName) prog_18_method_27_code (7 : Nat) (Option.some (Jvm.ClassFile.FieldType.object "LazyForge$Raw"))) ∈ lw_all := lw_g (lw_at lw_m4 8 rfl) rfl
theorem q892 : (Jvm.Cond.methodLink "LazyForge$Reader" (231 : Nat) ({ cls := "LazyForge$Raw", name := "<init>", desc := "(II)V" } : Jvm.MethodName)) ∈ lw_all := lw_g (lw_at lw_m4 10 rfl) rfl
theorem q900 : (Jvm.Cond.fieldLinkNest "LazyForge$Reader" (322 : Nat) "LazyForge$Raw" "place" "I" "LazyForge") ∈ lw_tbl := lw_at lw_m4 18 rfl
theorem q902 : (Jvm.Cond.fieldLinkNest "LazyForge$Reader" (277 : Nat) "LazyForge$Raw" "op" "I" "LazyForge") ∈ lw_tbl := lw_at lw_m4 20 rfl
theorem q904 : (Jvm.Cond.fieldLinkNest "LazyForge$Reader" (276 : Nat) "LazyForge$Raw" "number" "I" "LazyForge") ∈ lw_tbl := lw_at lw_m4 22 rfl
theorem q906 : (Jvm.Cond.fieldLinkNest "LazyForge$Reader" (326 : Nat) "LazyForge$Raw" "name" "J" "LazyForge") ∈ lw_tbl := lw_at lw_m4 24 rfl
theorem q908 : (Jvm.Cond.fieldLinkNest "LazyForge$Reader" (237 : Nat) "LazyForge$Raw" "names" "[J" "LazyForge") ∈ lw_tbl := lw_at lw_m4 26 rfl
theorem q910 : (Jvm.Cond.fieldLinkNest "LazyForge$Reader" (240 : Nat) "LazyForge$Raw" "kids" "[LLazyForge$Raw;" "LazyForge") ∈ lw_tbl := lw_at lw_m4 28 rfl
theorem q912 : (Jvm.Cond.fieldLinkNest "LazyForge$Reader" (257 : Nat) "LazyForge$Raw" "patterns" "[I" "LazyForge") ∈ lw_tbl := lw_at lw_m4 30 rfl
theorem q914 : (Jvm.Cond.fieldLinkNest "LazyForge$Reader" (260 : Nat) "LazyForge$Raw" "numbers" "[I" "LazyForge") ∈ lw_tbl := lw_at lw_m4 32 rfl
theorem q916 : (Jvm.Cond.fieldLinkNest "LazyForge$Reader" (263 : Nat) "LazyForge$Raw" "bound" "[[J" "LazyForge") ∈ lw_tbl := lw_at lw_m4 34 rfl
theorem q938 : (Jvm.Cond.methodLink "LazyForge$Reader" (234 : Nat) ({ cls := "LazyForge$Reader", name := "opens", desc := "()Z" } : Jvm.MethodName)) ∈ lw_all := lw_g (lw_at lw_m4 56 rfl) rfl
theorem q939 : (Jvm.Cond.privateMethod ({ cls := "LazyForge$Reader", name := "opens", desc := "()Z" } : Jvm.MethodName)) ∈ lw_tbl := lw_at lw_m4 57 rfl
theorem q940 : (Jvm.Cond.instanceMethod ({ cls := "LazyForge$Reader", name := "opens", desc := "()Z" } : Jvm.MethodName)) ∈ lw_all := lw_g (lw_at lw_m4 58 rfl) rfl
theorem q941 : (Jvm.Cond.code ({ cls := "LazyForge$Reader", name := "opens", desc := "()Z" } : Jvm.MethodName) prog_18_method_18_code (1 : Nat) (Option.some Jvm.ClassFile.FieldType.boolean)) ∈ lw_all := lw_g (lw_at lw_m4 59 rfl) rfl
theorem q942 : (Jvm.Cond.methodLink "LazyForge$Reader" (243 : Nat) ({ cls := "LazyForge$Reader", name := "function", desc := "([JLLazyForge$Raw;I)LLazyForge$Raw;" } : Jvm.MethodName)) ∈ lw_all := lw_g (lw_at lw_m4 60 rfl) rfl
theorem q943 : (Jvm.Cond.static ({ cls := "LazyForge$Reader", name := "function", desc := "([JLLazyForge$Raw;I)LLazyForge$Raw;" } : Jvm.MethodName)) ∈ lw_all := lw_g (lw_at lw_m4 61 rfl) rfl
theorem q944 : (Jvm.Cond.code ({ cls := "LazyForge$Reader", name := "function", desc := "([JLLazyForge$Raw;I)LLazyForge$Raw;" } : Jvm.MethodName) prog_18_method_28_code (4 : Nat) (Option.some (Jvm.ClassFile.FieldType.object "LazyForge$Raw"))) ∈ lw_all := lw_g (lw_at lw_m4 62 rfl) rfl
theorem q945 : (Jvm.Cond.stringRef "LazyForge$Reader" (246 : Nat) ",") ∈ lw_tbl := lw_at lw_m4 63 rfl
theorem q946 : (Jvm.Cond.stringRef "LazyForge$Reader" (248 : Nat) "in") ∈ lw_tbl := lw_at lw_m4 64 rfl
theorem q947 : (Jvm.Cond.methodLink "LazyForge$Reader" (250 : Nat) ({ cls := "LazyForge$Reader", name := "needKey", desc := "(Ljava/lang/String;)Z" } : Jvm.MethodName)) ∈ lw_all := lw_g (lw_at lw_m4 65 rfl) rfl
theorem q948 : (Jvm.Cond.privateMethod ({ cls := "LazyForge$Reader", name := "needKey", desc := "(Ljava/lang/String;)Z" } : Jvm.MethodName)) ∈ lw_tbl := lw_at lw_m4 66 rfl
theorem q949 : (Jvm.Cond.instanceMethod ({ cls := "LazyForge$Reader", name := "needKey", desc := "(Ljava/lang/String;)Z" } : Jvm.MethodName)) ∈ lw_all := lw_g (lw_at lw_m4 67 rfl) rfl
theorem q950 : (Jvm.Cond.code ({ cls := "LazyForge$Reader", name := "needKey", desc := "(Ljava/lang/String;)Z" } : Jvm.MethodName) prog_18_method_17_code (2 : Nat) (Option.some Jvm.ClassFile.FieldType.boolean)) ∈ lw_all := lw_g (lw_at lw_m4 68 rfl) rfl
theorem q951 : (Jvm.Cond.stringRef "LazyForge$Reader" (218 : Nat) "case") ∈ lw_tbl := lw_at lw_m4 69 rfl
theorem q952 : (Jvm.Cond.methodLink "LazyForge$Reader" (220 : Nat) ({ cls := "LazyForge$Reader", name := "choice", desc := "()LLazyForge$Raw;" } : Jvm.MethodName)) ∈ lw_all := lw_g (lw_at lw_m4 70 rfl) rfl
theorem q953 : (Jvm.Cond.privateMethod ({ cls := "LazyForge$Reader", name := "choice", desc := "()LLazyForge$Raw;" } : Jvm.MethodName)) ∈ lw_tbl := lw_at lw_m4 71 rfl
theorem q954 : (Jvm.Cond.instanceMethod ({ cls := "LazyForge$Reader", name := "choice", desc := "()LLazyForge$Raw;" } : Jvm.MethodName)) ∈ lw_all := lw_g (lw_at lw_m4 72 rfl) rfl
theorem q955 : (Jvm.Cond.code ({ cls := "LazyForge$Reader", name := "choice", desc := "()LLazyForge$Raw;" } : Jvm.MethodName) prog_18_method_29_code (6 : Nat) (Option.some (Jvm.ClassFile.FieldType.object "LazyForge$Raw"))) ∈ lw_all := lw_g (lw_at lw_m4 73 rfl) rfl
theorem q956 : (Jvm.Cond.stringRef "LazyForge$Reader" (253 : Nat) "of") ∈ lw_tbl := lw_at lw_m4 74 rfl
theorem q957 : (Jvm.Cond.stringRef "LazyForge$Reader" (255 : Nat) "{") ∈ lw_tbl := lw_at lw_m4 75 rfl
theorem q958 : (Jvm.Cond.stringRef "LazyForge$Reader" (266 : Nat) "_") ∈ lw_tbl := lw_at lw_m4 76 rfl
theorem q959 : (Jvm.Cond.methodLink "LazyForge$Reader" (268 : Nat) ({ cls := "LazyForge$Reader", name := "pattern", desc := "(LLazyForge$Raw;I)Z" } : Jvm.MethodName)) ∈ lw_all := lw_g (lw_at lw_m4 77 rfl) rfl
theorem q960 : (Jvm.Cond.privateMethod ({ cls := "LazyForge$Reader", name := "pattern", desc := "(LLazyForge$Raw;I)Z" } : Jvm.MethodName)) ∈ lw_tbl := lw_at lw_m4 78 rfl
theorem q961 : (Jvm.Cond.instanceMethod ({ cls := "LazyForge$Reader", name := "pattern", desc := "(LLazyForge$Raw;I)Z" } : Jvm.MethodName)) ∈ lw_all := lw_g (lw_at lw_m4 79 rfl) rfl
theorem q962 : (Jvm.Cond.code ({ cls := "LazyForge$Reader", name := "pattern", desc := "(LLazyForge$Raw;I)Z" } : Jvm.MethodName) prog_18_method_30_code (7 : Nat) (Option.some Jvm.ClassFile.FieldType.boolean)) ∈ lw_all := lw_g (lw_at lw_m4 80 rfl) rfl
theorem q963 : (Jvm.Cond.stringRef "LazyForge$Reader" (272 : Nat) "->") ∈ lw_tbl := lw_at lw_m4 81 rfl
theorem q964 : (Jvm.Cond.stringRef "LazyForge$Reader" (274 : Nat) "}") ∈ lw_tbl := lw_at lw_m4 82 rfl
theorem q965 : (Jvm.Cond.stringRef "LazyForge$Reader" (223 : Nat) "\\") ∈ lw_tbl := lw_at lw_m4 83 rfl
theorem q966 : (Jvm.Cond.methodLink "LazyForge$Reader" (225 : Nat) ({ cls := "LazyForge$Reader", name := "lambda", desc := "()LLazyForge$Raw;" } : Jvm.MethodName)) ∈ lw_all := lw_g (lw_at lw_m4 84 rfl) rfl
theorem q967 : (Jvm.Cond.privateMethod ({ cls := "LazyForge$Reader", name := "lambda", desc := "()LLazyForge$Raw;" } : Jvm.MethodName)) ∈ lw_tbl := lw_at lw_m4 85 rfl
theorem q968 : (Jvm.Cond.instanceMethod ({ cls := "LazyForge$Reader", name := "lambda", desc := "()LLazyForge$Raw;" } : Jvm.MethodName)) ∈ lw_all := lw_g (lw_at lw_m4 86 rfl) rfl
theorem q969 : (Jvm.Cond.code ({ cls := "LazyForge$Reader", name := "lambda", desc := "()LLazyForge$Raw;" } : Jvm.MethodName) prog_18_method_26_code (3 : Nat) (Option.some (Jvm.ClassFile.FieldType.object "LazyForge$Raw"))) ∈ lw_all := lw_g (lw_at lw_m4 87 rfl) rfl
theorem q970 : (Jvm.Cond.stringRef "LazyForge$Reader" (238 : Nat) ".") ∈ lw_tbl := lw_at lw_m4 88 rfl
theorem q971 : (Jvm.Cond.methodLink "LazyForge$Reader" (228 : Nat) ({ cls := "LazyForge$Reader", name := "comparison", desc := "()LLazyForge$Raw;" } : Jvm.MethodName)) ∈ lw_all := lw_g (lw_at lw_m4 89 rfl) rfl
theorem q972 : (Jvm.Cond.privateMethod ({ cls := "LazyForge$Reader", name := "comparison", desc := "()LLazyForge$Raw;" } : Jvm.MethodName)) ∈ lw_tbl := lw_at lw_m4 90 rfl
theorem q973 : (Jvm.Cond.instanceMethod ({ cls := "LazyForge$Reader", name := "comparison", desc := "()LLazyForge$Raw;" } : Jvm.MethodName)) ∈ lw_all := lw_g (lw_at lw_m4 91 rfl) rfl
theorem q974 : (Jvm.Cond.code ({ cls := "LazyForge$Reader", name := "comparison", desc := "()LLazyForge$Raw;" } : Jvm.MethodName) prog_18_method_32_code (5 : Nat) (Option.some (Jvm.ClassFile.FieldType.object "LazyForge$Raw"))) ∈ lw_all := lw_g (lw_at lw_m4 92 rfl) rfl
theorem q975 : (Jvm.Cond.methodLink "LazyForge$Reader" (280 : Nat) ({ cls := "LazyForge$Reader", name := "sum", desc := "()LLazyForge$Raw;" } : Jvm.MethodName)) ∈ lw_all := lw_g (lw_at lw_m4 93 rfl) rfl
theorem q976 : (Jvm.Cond.privateMethod ({ cls := "LazyForge$Reader", name := "sum", desc := "()LLazyForge$Raw;" } : Jvm.MethodName)) ∈ lw_tbl := lw_at lw_m4 94 rfl
theorem q977 : (Jvm.Cond.instanceMethod ({ cls := "LazyForge$Reader", name := "sum", desc := "()LLazyForge$Raw;" } : Jvm.MethodName)) ∈ lw_all := lw_g (lw_at lw_m4 95 rfl) rfl
theorem q978 : (Jvm.Cond.code ({ cls := "LazyForge$Reader", name := "sum", desc := "()LLazyForge$Raw;" } : Jvm.MethodName) prog_18_method_33_code (5 : Nat) (Option.some (Jvm.ClassFile.FieldType.object "LazyForge$Raw"))) ∈ lw_all := lw_g (lw_at lw_m4 96 rfl) rfl
theorem q979 : (Jvm.Cond.methodLink "LazyForge$Reader" (293 : Nat) ({ cls := "LazyForge$Reader", name := "product", desc := "()LLazyForge$Raw;" } : Jvm.MethodName)) ∈ lw_all := lw_g (lw_at lw_m4 97 rfl) rfl
theorem q980 : (Jvm.Cond.privateMethod ({ cls := "LazyForge$Reader", name := "product", desc := "()LLazyForge$Raw;" } : Jvm.MethodName)) ∈ lw_tbl := lw_at lw_m4 98 rfl
theorem q981 : (Jvm.Cond.instanceMethod ({ cls := "LazyForge$Reader", name := "product", desc := "()LLazyForge$Raw;" } : Jvm.MethodName)) ∈ lw_all := lw_g (lw_at lw_m4 99 rfl) rfl
theorem q982 : (Jvm.Cond.code ({ cls := "LazyForge$Reader", name := "product", desc := "()LLazyForge$Raw;" } : Jvm.MethodName) prog_18_method_34_code (5 : Nat) (Option.some (Jvm.ClassFile.FieldType.object "LazyForge$Raw"))) ∈ lw_all := lw_g (lw_at lw_m4 100 rfl) rfl
theorem q983 : (Jvm.Cond.methodLink "LazyForge$Reader" (300 : Nat) ({ cls := "LazyForge$Reader", name := "application", desc := "()LLazyForge$Raw;" } : Jvm.MethodName)) ∈ lw_all := lw_g (lw_at lw_m4 101 rfl) rfl
theorem q984 : (Jvm.Cond.privateMethod ({ cls := "LazyForge$Reader", name := "application", desc := "()LLazyForge$Raw;" } : Jvm.MethodName)) ∈ lw_tbl := lw_at lw_m4 102 rfl
theorem q985 : (Jvm.Cond.instanceMethod ({ cls := "LazyForge$Reader", name := "application", desc := "()LLazyForge$Raw;" } : Jvm.MethodName)) ∈ lw_all := lw_g (lw_at lw_m4 103 rfl) rfl
theorem q986 : (Jvm.Cond.code ({ cls := "LazyForge$Reader", name := "application", desc := "()LLazyForge$Raw;" } : Jvm.MethodName) prog_18_method_36_code (5 : Nat) (Option.some (Jvm.ClassFile.FieldType.object "LazyForge$Raw"))) ∈ lw_all := lw_g (lw_at lw_m4 104 rfl) rfl
theorem q987 : (Jvm.Cond.methodLink "LazyForge$Reader" (312 : Nat) ({ cls := "LazyForge$Reader", name := "made", desc := "(I)LLazyForge$Raw;" } : Jvm.MethodName)) ∈ lw_all := lw_g (lw_at lw_m4 105 rfl) rfl
theorem q988 : (Jvm.Cond.privateMethod ({ cls := "LazyForge$Reader", name := "made", desc := "(I)LLazyForge$Raw;" } : Jvm.MethodName)) ∈ lw_tbl := lw_at lw_m4 106 rfl
theorem q989 : (Jvm.Cond.instanceMethod ({ cls := "LazyForge$Reader", name := "made", desc := "(I)LLazyForge$Raw;" } : Jvm.MethodName)) ∈ lw_all := lw_g (lw_at lw_m4 107 rfl) rfl
theorem q990 : (Jvm.Cond.code ({ cls := "LazyForge$Reader", name := "made", desc := "(I)LLazyForge$Raw;" } : Jvm.MethodName) prog_18_method_38_code (4 : Nat) (Option.some (Jvm.ClassFile.FieldType.object "LazyForge$Raw"))) ∈ lw_all := lw_g (lw_at lw_m4 108 rfl) rfl
theorem q991 : (Jvm.Cond.methodLink "LazyForge$Reader" (319 : Nat) ({ cls := "LazyForge$Reader", name := "isAtom", desc := "()Z" } : Jvm.MethodName)) ∈ lw_all := lw_g (lw_at lw_m4 109 rfl) rfl
theorem q992 : (Jvm.Cond.privateMethod ({ cls := "LazyForge$Reader", name := "isAtom", desc := "()Z" } : Jvm.MethodName)) ∈ lw_tbl := lw_at lw_m4 110 rfl
theorem q993 : (Jvm.Cond.instanceMethod ({ cls := "LazyForge$Reader", name := "isAtom", desc := "()Z" } : Jvm.MethodName)) ∈ lw_all := lw_g (lw_at lw_m4 111 rfl) rfl
theorem q994 : (Jvm.Cond.code ({ cls := "LazyForge$Reader", name := "isAtom", desc := "()Z" } : Jvm.MethodName) prog_18_method_35_code (1 : Nat) (Option.some Jvm.ClassFile.FieldType.boolean)) ∈ lw_all := lw_g (lw_at lw_m4 112 rfl) rfl
theorem q995 : (Jvm.Cond.stringRef "LazyForge$Reader" (309 : Nat) "(") ∈ lw_tbl := lw_at lw_m4 113 rfl
theorem q996 : (Jvm.Cond.stringRef "LazyForge$Reader" (311 : Nat) "fail") ∈ lw_tbl := lw_at lw_m4 114 rfl
theorem q997 : (Jvm.Cond.methodLink "LazyForge$Reader" (323 : Nat) ({ cls := "LazyForge$Reader", name := "mayBegin", desc := "()Z" } : Jvm.MethodName)) ∈ lw_all := lw_g (lw_at lw_m4 115 rfl) rfl
theorem q998 : (Jvm.Cond.privateMethod ({ cls := "LazyForge$Reader", name := "mayBegin", desc := "()Z" } : Jvm.MethodName)) ∈ lw_tbl := lw_at lw_m4 116 rfl
theorem q999 : (Jvm.Cond.instanceMethod ({ cls := "LazyForge$Reader", name := "mayBegin", desc := "()Z" } : Jvm.MethodName)) ∈ lw_all := lw_g (lw_at lw_m4 117 rfl) rfl
theorem q1000 : (Jvm.Cond.code ({ cls := "LazyForge$Reader", name := "mayBegin", desc := "()Z" } : Jvm.MethodName) prog_18_method_37_code (2 : Nat) (Option.some Jvm.ClassFile.FieldType.boolean)) ∈ lw_all := lw_g (lw_at lw_m4 118 rfl) rfl
theorem q1001 : (Jvm.Cond.methodLink "LazyForge$Reader" (316 : Nat) ({ cls := "LazyForge$Reader", name := "atom", desc := "()LLazyForge$Raw;" } : Jvm.MethodName)) ∈ lw_all := lw_g (lw_at lw_m4 119 rfl) rfl
theorem q1002 : (Jvm.Cond.privateMethod ({ cls := "LazyForge$Reader", name := "atom", desc := "()LLazyForge$Raw;" } : Jvm.MethodName)) ∈ lw_tbl := lw_at lw_m4 120 rfl
theorem q1003 : (Jvm.Cond.instanceMethod ({ cls := "LazyForge$Reader", name := "atom", desc := "()LLazyForge$Raw;" } : Jvm.MethodName)) ∈ lw_all := lw_g (lw_at lw_m4 121 rfl) rfl
theorem q1004 : (Jvm.Cond.code ({ cls := "LazyForge$Reader", name := "atom", desc := "()LLazyForge$Raw;" } : Jvm.MethodName) prog_18_method_39_code (3 : Nat) (Option.some (Jvm.ClassFile.FieldType.object "LazyForge$Raw"))) ∈ lw_all := lw_g (lw_at lw_m4 122 rfl) rfl
theorem q1005 : (Jvm.Cond.stringRef "LazyForge$Reader" (329 : Nat) ")") ∈ lw_tbl := lw_at lw_m4 123 rfl
theorem q1006 : (Jvm.Cond.stringRef "LazyForge$Reader" (303 : Nat) "*") ∈ lw_tbl := lw_at lw_m4 124 rfl
theorem q1007 : (Jvm.Cond.stringRef "LazyForge$Reader" (305 : Nat) "/") ∈ lw_tbl := lw_at lw_m4 125 rfl
theorem q1008 : (Jvm.Cond.stringRef "LazyForge$Reader" (307 : Nat) "%") ∈ lw_tbl := lw_at lw_m4 126 rfl
theorem q1009 : (Jvm.Cond.methodLink "LazyForge$Reader" (289 : Nat) ({ cls := "LazyForge$Reader", name := "two", desc := "(IILLazyForge$Raw;LLazyForge$Raw;)LLazyForge$Raw;" } : Jvm.MethodName)) ∈ lw_all := lw_g (lw_at lw_m4 127 rfl) rfl
theorem q1010 : (Jvm.Cond.privateMethod ({ cls := "LazyForge$Reader", name := "two", desc := "(IILLazyForge$Raw;LLazyForge$Raw;)LLazyForge$Raw;" } : Jvm.MethodName)) ∈ lw_tbl := lw_at lw_m4 128 rfl
theorem q1011 : (Jvm.Cond.instanceMethod ({ cls := "LazyForge$Reader", name := "two", desc := "(IILLazyForge$Raw;LLazyForge$Raw;)LLazyForge$Raw;" } : Jvm.MethodName)) ∈ lw_all := lw_g (lw_at lw_m4 129 rfl) rfl
theorem q1012 : (Jvm.Cond.code ({ cls := "LazyForge$Reader", name := "two", desc := "(IILLazyForge$Raw;LLazyForge$Raw;)LLazyForge$Raw;" } : Jvm.MethodName) prog_18_method_31_code (6 : Nat) (Option.some (Jvm.ClassFile.FieldType.object "LazyForge$Raw"))) ∈ lw_all := lw_g (lw_at lw_m4 130 rfl) rfl
theorem q1013 : (Jvm.Cond.stringRef "LazyForge$Reader" (296 : Nat) "+") ∈ lw_tbl := lw_at lw_m4 131 rfl
theorem q1014 : (Jvm.Cond.stringRef "LazyForge$Reader" (298 : Nat) "-") ∈ lw_tbl := lw_at lw_m4 132 rfl
theorem q1015 : (Jvm.Cond.stringRef "LazyForge$Reader" (283 : Nat) "==") ∈ lw_tbl := lw_at lw_m4 133 rfl
theorem q1016 : (Jvm.Cond.stringRef "LazyForge$Reader" (285 : Nat) "<") ∈ lw_tbl := lw_at lw_m4 134 rfl
theorem q1017 : (Jvm.Cond.stringRef "LazyForge$Reader" (287 : Nat) "<=") ∈ lw_tbl := lw_at lw_m4 135 rfl
theorem q1239 : (Jvm.Cond.selects "LazyForge$Reader" ({ cls := "java/lang/Object", name := "getClass", desc := "()Ljava/lang/Class;" } : Jvm.MethodName) ({ cls := "java/lang/Object", name := "getClass", desc := "()Ljava/lang/Class;" } : Jvm.MethodName)) ∈ lw_all := lw_g (lw_at lw_m5 117 rfl) rfl
theorem q1417 : (Jvm.Cond.selects "LazyForge$Reader" ({ cls := "java/lang/Object", name := "equals", desc := "(Ljava/lang/Object;)Z" } : Jvm.MethodName) ({ cls := "java/lang/Object", name := "equals", desc := "(Ljava/lang/Object;)Z" } : Jvm.MethodName)) ∈ lw_all := lw_g (lw_at lw_m6 55 rfl) rfl
theorem q3502 : (Jvm.Cond.castable "LazyForge$Reader" "java/lang/Object") ∈ lw_tbl := lw_at lw_m14 220 rfl
theorem in_X12 : ∀ w ∈ wsX120, w ∈ lw_all := lw_in wsX120 [687, 689, 691, 693, 695, 697, 699, 701, 703, 705, 707, 709, 711, 713, 715, 717, 719, 721, 723, 725, 727, 729, 731] (by decide +kernel) (by decide +kernel)

/-! LazyForge$Raw -/
set_option maxRecDepth 100000
def RX13 : String := "LazyForge$Raw"
def TX13 : u_T := fun k => match k with
  | 0 => ("LazyForge$Raw", "kind", "I", true)
  | 1 => ("LazyForge$Raw", "place", "I", true)
  | 2 => ("LazyForge$Raw", "op", "I", false)
  | 3 => ("LazyForge$Raw", "number", "I", false)
  | 4 => ("LazyForge$Raw", "name", "J", false)
  | 5 => ("LazyForge$Raw", "names", "[J", false)
  | 6 => ("LazyForge$Raw", "kids", "[LLazyForge$Raw;", false)
  | 7 => ("LazyForge$Raw", "patterns", "[I", false)
  | 8 => ("LazyForge$Raw", "numbers", "[I", false)
  | _ => ("LazyForge$Raw", "bound", "[[J", false)
def tyX13 : Nat → FieldType := fun k => match k with
  | 0 => .int
  | 1 => .int
  | 2 => .int
  | 3 => .int
  | 4 => .long
  | 5 => .array .long
  | 6 => .array (.object "LazyForge$Raw")
  | 7 => .array .int
  | 8 => .array .int
  | _ => .array (.array .long)
abbrev wsX130 : List Cond := u_ws RX13 TX13 10
theorem nmX13 : ∀ a, a < 10 → ∀ b, b < 10 → a ≠ b → (TX13 a).2.1 ≠ (TX13 b).2.1 := by decide +kernel
theorem tyX13_ok : ∀ k, k < 10 → parseFieldDescriptor (TX13 k).2.2.1 = some (tyX13 k) := by decide +kernel
abbrev cX13_init : ByteArray := prog_17_method_1_code
def yX13_init : MethodName := ⟨RX13, "<init>", "(II)V"⟩
theorem q187 : (Jvm.Cond.initialized "LazyForge$Raw") ∈ lw_all := lw_g (lw_at lw_m1 25 rfl) rfl
theorem q891 : (Jvm.Cond.instantiable "LazyForge$Raw" (10 : Nat)) ∈ lw_all := lw_g (lw_at lw_m4 9 rfl) rfl
theorem q893 : (Jvm.Cond.instanceMethod ({ cls := "LazyForge$Raw", name := "<init>", desc := "(II)V" } : Jvm.MethodName)) ∈ lw_all := lw_g (lw_at lw_m4 11 rfl) rfl
theorem q894 : (Jvm.Cond.code ({ cls := "LazyForge$Raw", name := "<init>", desc := "(II)V" } : Jvm.MethodName) prog_17_method_1_code (3 : Nat) (Option.none : Option Jvm.ClassFile.FieldType)) ∈ lw_all := lw_g (lw_at lw_m4 12 rfl) rfl
theorem q895 : (Jvm.Cond.methodLink "LazyForge$Raw" (1 : Nat) ({ cls := "java/lang/Object", name := "<init>", desc := "()V" } : Jvm.MethodName)) ∈ lw_all := lw_g (lw_at lw_m4 13 rfl) rfl
theorem q896 : (Jvm.Cond.fieldLink "LazyForge$Raw" (7 : Nat) "LazyForge$Raw" "kind" "I") ∈ lw_all := lw_g (lw_at lw_m4 14 rfl) rfl
theorem q898 : (Jvm.Cond.fieldLink "LazyForge$Raw" (13 : Nat) "LazyForge$Raw" "place" "I") ∈ lw_all := lw_g (lw_at lw_m4 16 rfl) rfl
theorem q917 : (Jvm.Cond.laysFinal "LazyForge$Raw" "LazyForge$Raw" "kind" "I") ∈ lw_all := lw_g (lw_at lw_m4 35 rfl) rfl
theorem q918 : (Jvm.Cond.soleField "LazyForge$Raw" "kind") ∈ lw_all := lw_g (lw_at lw_m4 36 rfl) rfl
theorem q919 : (Jvm.Cond.laysFinal "LazyForge$Raw" "LazyForge$Raw" "place" "I") ∈ lw_all := lw_g (lw_at lw_m4 37 rfl) rfl
theorem q920 : (Jvm.Cond.soleField "LazyForge$Raw" "place") ∈ lw_all := lw_g (lw_at lw_m4 38 rfl) rfl
theorem q921 : (Jvm.Cond.lays "LazyForge$Raw" "LazyForge$Raw" "op" "I") ∈ lw_all := lw_g (lw_at lw_m4 39 rfl) rfl
theorem q922 : (Jvm.Cond.soleField "LazyForge$Raw" "op") ∈ lw_all := lw_g (lw_at lw_m4 40 rfl) rfl
theorem q923 : (Jvm.Cond.lays "LazyForge$Raw" "LazyForge$Raw" "number" "I") ∈ lw_all := lw_g (lw_at lw_m4 41 rfl) rfl
theorem q924 : (Jvm.Cond.soleField "LazyForge$Raw" "number") ∈ lw_all := lw_g (lw_at lw_m4 42 rfl) rfl
theorem q925 : (Jvm.Cond.lays "LazyForge$Raw" "LazyForge$Raw" "name" "J") ∈ lw_all := lw_g (lw_at lw_m4 43 rfl) rfl
theorem q926 : (Jvm.Cond.soleField "LazyForge$Raw" "name") ∈ lw_all := lw_g (lw_at lw_m4 44 rfl) rfl
theorem q927 : (Jvm.Cond.lays "LazyForge$Raw" "LazyForge$Raw" "names" "[J") ∈ lw_all := lw_g (lw_at lw_m4 45 rfl) rfl
theorem q928 : (Jvm.Cond.soleField "LazyForge$Raw" "names") ∈ lw_all := lw_g (lw_at lw_m4 46 rfl) rfl
theorem q929 : (Jvm.Cond.lays "LazyForge$Raw" "LazyForge$Raw" "kids" "[LLazyForge$Raw;") ∈ lw_all := lw_g (lw_at lw_m4 47 rfl) rfl
theorem q930 : (Jvm.Cond.soleField "LazyForge$Raw" "kids") ∈ lw_all := lw_g (lw_at lw_m4 48 rfl) rfl
theorem q931 : (Jvm.Cond.lays "LazyForge$Raw" "LazyForge$Raw" "patterns" "[I") ∈ lw_all := lw_g (lw_at lw_m4 49 rfl) rfl
theorem q932 : (Jvm.Cond.soleField "LazyForge$Raw" "patterns") ∈ lw_all := lw_g (lw_at lw_m4 50 rfl) rfl
theorem q933 : (Jvm.Cond.lays "LazyForge$Raw" "LazyForge$Raw" "numbers" "[I") ∈ lw_all := lw_g (lw_at lw_m4 51 rfl) rfl
theorem q934 : (Jvm.Cond.soleField "LazyForge$Raw" "numbers") ∈ lw_all := lw_g (lw_at lw_m4 52 rfl) rfl
theorem q935 : (Jvm.Cond.lays "LazyForge$Raw" "LazyForge$Raw" "bound" "[[J") ∈ lw_all := lw_g (lw_at lw_m4 53 rfl) rfl
theorem q936 : (Jvm.Cond.soleField "LazyForge$Raw" "bound") ∈ lw_all := lw_g (lw_at lw_m4 54 rfl) rfl
theorem q937 : (Jvm.Cond.superclass "LazyForge$Raw" "java/lang/Object") ∈ lw_all := lw_g (lw_at lw_m4 55 rfl) rfl
theorem q1238 : (Jvm.Cond.selects "LazyForge$Raw" ({ cls := "java/lang/Object", name := "getClass", desc := "()Ljava/lang/Class;" } : Jvm.MethodName) ({ cls := "java/lang/Object", name := "getClass", desc := "()Ljava/lang/Class;" } : Jvm.MethodName)) ∈ lw_all := lw_g (lw_at lw_m5 116 rfl) rfl
theorem q1416 : (Jvm.Cond.selects "LazyForge$Raw" ({ cls := "java/lang/Object", name := "equals", desc := "(Ljava/lang/Object;)Z" } : Jvm.MethodName) ({ cls := "java/lang/Object", name := "equals", desc := "(Ljava/lang/Object;)Z" } : Jvm.MethodName)) ∈ lw_all := lw_g (lw_at lw_m6 54 rfl) rfl
theorem q3503 : (Jvm.Cond.castable "LazyForge$Raw" "java/lang/Object") ∈ lw_tbl := lw_at lw_m14 221 rfl
theorem in_X13 : ∀ w ∈ wsX130, w ∈ lw_all := lw_in wsX130 [917, 919, 921, 923, 925, 927, 929, 931, 933, 935] (by decide +kernel) (by decide +kernel)

/-! LazyForge$Resolver -/
set_option maxRecDepth 100000
def RX14 : String := "LazyForge$Resolver"
def TX14 : u_T := fun k => match k with
  | 0 => ("LazyForge$Resolver", "text", "LLazyForge$Reader;", true)
  | 1 => ("LazyForge$Resolver", "program", "LLazyForge$Program;", true)
  | 2 => ("LazyForge$Resolver", "names", "[J", false)
  | 3 => ("LazyForge$Resolver", "variables", "[LLazyForge$Variable;", false)
  | 4 => ("LazyForge$Resolver", "seen", "I", false)
  | 5 => ("LazyForge$Resolver", "uses", "Ljava/util/ArrayList;", true)
  | 6 => ("LazyForge$Resolver", "kind", "I", false)
  | _ => ("LazyForge$Resolver", "place", "I", false)
def tyX14 : Nat → FieldType := fun k => match k with
  | 0 => .object "LazyForge$Reader"
  | 1 => .object "LazyForge$Program"
  | 2 => .array .long
  | 3 => .array (.object "LazyForge$Variable")
  | 4 => .int
  | 5 => .object "java/util/ArrayList"
  | 6 => .int
  | _ => .int
abbrev wsX140 : List Cond := u_ws RX14 TX14 8
theorem nmX14 : ∀ a, a < 8 → ∀ b, b < 8 → a ≠ b → (TX14 a).2.1 ≠ (TX14 b).2.1 := by decide +kernel
theorem tyX14_ok : ∀ k, k < 8 → parseFieldDescriptor (TX14 k).2.2.1 = some (tyX14 k) := by decide +kernel
abbrev cX14_init : ByteArray := prog_19_method_1_code
def yX14_init : MethodName := ⟨RX14, "<init>", "(LLazyForge$Reader;)V"⟩
abbrev cX14_resolve : ByteArray := prog_19_method_4_code
def yX14_resolve : MethodName := ⟨RX14, "resolve", "()LLazyForge$Program;"⟩
abbrev cX14_enter : ByteArray := prog_19_method_5_code
def yX14_enter : MethodName := ⟨RX14, "enter", "(LLazyForge$Function;[JLLazyForge$Raw;)V"⟩
abbrev cX14_show : ByteArray := prog_19_method_2_code
def yX14_show : MethodName := ⟨RX14, "show", "(JLLazyForge$Variable;)V"⟩
abbrev cX14_part : ByteArray := prog_19_method_10_code
def yX14_part : MethodName := ⟨RX14, "part", "(LLazyForge$Raw;LLazyForge$Function;)LLazyForge$Part;"⟩
abbrev cX14_let : ByteArray := prog_19_method_11_code
def yX14_let : MethodName := ⟨RX14, "let", "(LLazyForge$Raw;LLazyForge$Function;)LLazyForge$Part;"⟩
abbrev cX14_parts : ByteArray := prog_19_method_9_code
def yX14_parts : MethodName := ⟨RX14, "parts", "([LLazyForge$Raw;IILLazyForge$Function;)[LLazyForge$Part;"⟩
abbrev cX14_lambda : ByteArray := prog_19_method_8_code
def yX14_lambda : MethodName := ⟨RX14, "lambda", "(LLazyForge$Raw;LLazyForge$Function;)LLazyForge$Part;"⟩
abbrev cX14_use : ByteArray := prog_19_method_6_code
def yX14_use : MethodName := ⟨RX14, "use", "(LLazyForge$Variable;LLazyForge$Function;)LLazyForge$Use;"⟩
abbrev cX14_choice : ByteArray := prog_19_method_12_code
def yX14_choice : MethodName := ⟨RX14, "choice", "(LLazyForge$Raw;LLazyForge$Function;)LLazyForge$Part;"⟩
abbrev cX14_name : ByteArray := prog_19_method_7_code
def yX14_name : MethodName := ⟨RX14, "name", "(LLazyForge$Raw;LLazyForge$Function;)LLazyForge$Part;"⟩
abbrev cX14_fail : ByteArray := prog_19_method_3_code
def yX14_fail : MethodName := ⟨RX14, "fail", "(II)LLazyForge$Part;"⟩
theorem q188 : (Jvm.Cond.initialized "LazyForge$Resolver") ∈ lw_all := lw_g (lw_at lw_m1 26 rfl) rfl
theorem q258 : (Jvm.Cond.fieldLinkNest "LazyForge$Resolver" (118 : Nat) "LazyForge$Part" "high" "I" "LazyForge") ∈ lw_tbl := lw_at lw_m1 96 rfl
theorem q667 : (Jvm.Cond.fieldLinkNest "LazyForge$Resolver" (130 : Nat) "LazyForge$Reader" "parts" "I" "LazyForge") ∈ lw_tbl := lw_at lw_m3 25 rfl
theorem q670 : (Jvm.Cond.fieldLinkNest "LazyForge$Resolver" (134 : Nat) "LazyForge$Reader" "constructors" "[J" "LazyForge") ∈ lw_tbl := lw_at lw_m3 28 rfl
theorem q672 : (Jvm.Cond.fieldLinkNest "LazyForge$Resolver" (138 : Nat) "LazyForge$Reader" "fields" "[I" "LazyForge") ∈ lw_tbl := lw_at lw_m3 30 rfl
theorem q674 : (Jvm.Cond.fieldLinkNest "LazyForge$Resolver" (142 : Nat) "LazyForge$Reader" "constructorCount" "I" "LazyForge") ∈ lw_tbl := lw_at lw_m3 32 rfl
theorem q676 : (Jvm.Cond.fieldLinkNest "LazyForge$Resolver" (75 : Nat) "LazyForge$Reader" "names" "[J" "LazyForge") ∈ lw_tbl := lw_at lw_m3 34 rfl
theorem q678 : (Jvm.Cond.fieldLinkNest "LazyForge$Resolver" (62 : Nat) "LazyForge$Reader" "places" "[I" "LazyForge") ∈ lw_tbl := lw_at lw_m3 36 rfl
theorem q680 : (Jvm.Cond.fieldLinkNest "LazyForge$Resolver" (88 : Nat) "LazyForge$Reader" "parameters" "[[J" "LazyForge") ∈ lw_tbl := lw_at lw_m3 38 rfl
theorem q682 : (Jvm.Cond.fieldLinkNest "LazyForge$Resolver" (92 : Nat) "LazyForge$Reader" "bodies" "[LLazyForge$Raw;" "LazyForge") ∈ lw_tbl := lw_at lw_m3 40 rfl
theorem q683 : (Jvm.Cond.fieldLinkNest "LazyForge$Resolver" (55 : Nat) "LazyForge$Reader" "functions" "I" "LazyForge") ∈ lw_tbl := lw_at lw_m3 41 rfl
theorem q897 : (Jvm.Cond.fieldLinkNest "LazyForge$Resolver" (203 : Nat) "LazyForge$Raw" "kind" "I" "LazyForge") ∈ lw_tbl := lw_at lw_m4 15 rfl
theorem q899 : (Jvm.Cond.fieldLinkNest "LazyForge$Resolver" (189 : Nat) "LazyForge$Raw" "place" "I" "LazyForge") ∈ lw_tbl := lw_at lw_m4 17 rfl
theorem q901 : (Jvm.Cond.fieldLinkNest "LazyForge$Resolver" (215 : Nat) "LazyForge$Raw" "op" "I" "LazyForge") ∈ lw_tbl := lw_at lw_m4 19 rfl
theorem q903 : (Jvm.Cond.fieldLinkNest "LazyForge$Resolver" (240 : Nat) "LazyForge$Raw" "number" "I" "LazyForge") ∈ lw_tbl := lw_at lw_m4 21 rfl
theorem q905 : (Jvm.Cond.fieldLinkNest "LazyForge$Resolver" (176 : Nat) "LazyForge$Raw" "name" "J" "LazyForge") ∈ lw_tbl := lw_at lw_m4 23 rfl
theorem q907 : (Jvm.Cond.fieldLinkNest "LazyForge$Resolver" (190 : Nat) "LazyForge$Raw" "names" "[J" "LazyForge") ∈ lw_tbl := lw_at lw_m4 25 rfl
theorem q909 : (Jvm.Cond.fieldLinkNest "LazyForge$Resolver" (191 : Nat) "LazyForge$Raw" "kids" "[LLazyForge$Raw;" "LazyForge") ∈ lw_tbl := lw_at lw_m4 27 rfl
theorem q911 : (Jvm.Cond.fieldLinkNest "LazyForge$Resolver" (264 : Nat) "LazyForge$Raw" "patterns" "[I" "LazyForge") ∈ lw_tbl := lw_at lw_m4 29 rfl
theorem q913 : (Jvm.Cond.fieldLinkNest "LazyForge$Resolver" (267 : Nat) "LazyForge$Raw" "numbers" "[I" "LazyForge") ∈ lw_tbl := lw_at lw_m4 31 rfl
theorem q915 : (Jvm.Cond.fieldLinkNest "LazyForge$Resolver" (259 : Nat) "LazyForge$Raw" "bound" "[[J" "LazyForge") ∈ lw_tbl := lw_at lw_m4 33 rfl
theorem q1019 : (Jvm.Cond.instantiable "LazyForge$Resolver" (8 : Nat)) ∈ lw_all := lw_g (lw_at lw_m4 137 rfl) rfl
theorem q1021 : (Jvm.Cond.instanceMethod ({ cls := "LazyForge$Resolver", name := "<init>", desc := "(LLazyForge$Reader;)V" } : Jvm.MethodName)) ∈ lw_all := lw_g (lw_at lw_m4 139 rfl) rfl
theorem q1022 : (Jvm.Cond.code ({ cls := "LazyForge$Resolver", name := "<init>", desc := "(LLazyForge$Reader;)V" } : Jvm.MethodName) prog_19_method_1_code (2 : Nat) (Option.none : Option Jvm.ClassFile.FieldType)) ∈ lw_all := lw_g (lw_at lw_m4 140 rfl) rfl
theorem q1023 : (Jvm.Cond.methodLink "LazyForge$Resolver" (3 : Nat) ({ cls := "java/lang/Object", name := "<init>", desc := "()V" } : Jvm.MethodName)) ∈ lw_all := lw_g (lw_at lw_m4 141 rfl) rfl
theorem q1024 : (Jvm.Cond.classLink "LazyForge$Resolver" (9 : Nat) "LazyForge$Program") ∈ lw_all := lw_g (lw_at lw_m4 142 rfl) rfl
theorem q1026 : (Jvm.Cond.methodLinkNest "LazyForge$Resolver" (11 : Nat) ({ cls := "LazyForge$Program", name := "<init>", desc := "()V" } : Jvm.MethodName) "LazyForge") ∈ lw_tbl := lw_at lw_m4 144 rfl
theorem q1057 : (Jvm.Cond.fieldLinkNest "LazyForge$Resolver" (69 : Nat) "LazyForge$Program" "functions" "Ljava/util/ArrayList;" "LazyForge") ∈ lw_tbl := lw_at lw_m4 175 rfl
theorem q1069 : (Jvm.Cond.fieldLinkNest "LazyForge$Resolver" (82 : Nat) "LazyForge$Program" "main" "I" "LazyForge") ∈ lw_tbl := lw_at lw_m4 187 rfl
theorem q1072 : (Jvm.Cond.fieldLinkNest "LazyForge$Resolver" (133 : Nat) "LazyForge$Program" "parts" "I" "LazyForge") ∈ lw_tbl := lw_at lw_m4 190 rfl
theorem q1074 : (Jvm.Cond.fieldLinkNest "LazyForge$Resolver" (137 : Nat) "LazyForge$Program" "constructors" "[J" "LazyForge") ∈ lw_tbl := lw_at lw_m4 192 rfl
theorem q1076 : (Jvm.Cond.fieldLinkNest "LazyForge$Resolver" (141 : Nat) "LazyForge$Program" "fields" "[I" "LazyForge") ∈ lw_tbl := lw_at lw_m4 194 rfl
theorem q1079 : (Jvm.Cond.fieldLinkNest "LazyForge$Resolver" (145 : Nat) "LazyForge$Program" "constructorCount" "I" "LazyForge") ∈ lw_tbl := lw_at lw_m4 197 rfl
theorem q1100 : (Jvm.Cond.classLink "LazyForge$Resolver" (22 : Nat) "LazyForge$Variable") ∈ lw_all := lw_g (lw_at lw_m4 218 rfl) rfl
theorem q1102 : (Jvm.Cond.classLink "LazyForge$Resolver" (28 : Nat) "java/util/ArrayList") ∈ lw_all := lw_g (lw_at lw_m4 220 rfl) rfl
theorem q1103 : (Jvm.Cond.methodLink "LazyForge$Resolver" (30 : Nat) ({ cls := "java/util/ArrayList", name := "<init>", desc := "()V" } : Jvm.MethodName)) ∈ lw_all := lw_g (lw_at lw_m4 221 rfl) rfl
theorem q1104 : (Jvm.Cond.fieldLink "LazyForge$Resolver" (39 : Nat) "LazyForge$Resolver" "text" "LLazyForge$Reader;") ∈ lw_all := lw_g (lw_at lw_m4 222 rfl) rfl
theorem q1105 : (Jvm.Cond.fieldLink "LazyForge$Resolver" (12 : Nat) "LazyForge$Resolver" "program" "LLazyForge$Program;") ∈ lw_all := lw_g (lw_at lw_m4 223 rfl) rfl
theorem q1106 : (Jvm.Cond.fieldLink "LazyForge$Resolver" (18 : Nat) "LazyForge$Resolver" "names" "[J") ∈ lw_all := lw_g (lw_at lw_m4 224 rfl) rfl
theorem q1107 : (Jvm.Cond.fieldLink "LazyForge$Resolver" (24 : Nat) "LazyForge$Resolver" "variables" "[LLazyForge$Variable;") ∈ lw_all := lw_g (lw_at lw_m4 225 rfl) rfl
theorem q1108 : (Jvm.Cond.fieldLink "LazyForge$Resolver" (43 : Nat) "LazyForge$Resolver" "seen" "I") ∈ lw_all := lw_g (lw_at lw_m4 226 rfl) rfl
theorem q1109 : (Jvm.Cond.fieldLink "LazyForge$Resolver" (31 : Nat) "LazyForge$Resolver" "uses" "Ljava/util/ArrayList;") ∈ lw_all := lw_g (lw_at lw_m4 227 rfl) rfl
theorem q1110 : (Jvm.Cond.fieldLink "LazyForge$Resolver" (52 : Nat) "LazyForge$Resolver" "kind" "I") ∈ lw_all := lw_g (lw_at lw_m4 228 rfl) rfl
theorem q1112 : (Jvm.Cond.fieldLink "LazyForge$Resolver" (35 : Nat) "LazyForge$Resolver" "place" "I") ∈ lw_all := lw_g (lw_at lw_m4 230 rfl) rfl
theorem q1114 : (Jvm.Cond.laysFinal "LazyForge$Resolver" "LazyForge$Resolver" "text" "LLazyForge$Reader;") ∈ lw_all := lw_g (lw_at lw_m4 232 rfl) rfl
theorem q1115 : (Jvm.Cond.soleField "LazyForge$Resolver" "text") ∈ lw_all := lw_g (lw_at lw_m4 233 rfl) rfl
theorem q1116 : (Jvm.Cond.laysFinal "LazyForge$Resolver" "LazyForge$Resolver" "program" "LLazyForge$Program;") ∈ lw_all := lw_g (lw_at lw_m4 234 rfl) rfl
theorem q1117 : (Jvm.Cond.soleField "LazyForge$Resolver" "program") ∈ lw_all := lw_g (lw_at lw_m4 235 rfl) rfl
theorem q1118 : (Jvm.Cond.lays "LazyForge$Resolver" "LazyForge$Resolver" "names" "[J") ∈ lw_all := lw_g (lw_at lw_m4 236 rfl) rfl
theorem q1119 : (Jvm.Cond.soleField "LazyForge$Resolver" "names") ∈ lw_all := lw_g (lw_at lw_m4 237 rfl) rfl
theorem q1120 : (Jvm.Cond.lays "LazyForge$Resolver" "LazyForge$Resolver" "variables" "[LLazyForge$Variable;") ∈ lw_all := lw_g (lw_at lw_m4 238 rfl) rfl
theorem q1121 : (Jvm.Cond.soleField "LazyForge$Resolver" "variables") ∈ lw_all := lw_g (lw_at lw_m4 239 rfl) rfl
theorem q1122 : (Jvm.Cond.lays "LazyForge$Resolver" "LazyForge$Resolver" "seen" "I") ∈ lw_all := lw_g (lw_at lw_m5 0 rfl) rfl
theorem q1123 : (Jvm.Cond.soleField "LazyForge$Resolver" "seen") ∈ lw_all := lw_g (lw_at lw_m5 1 rfl) rfl
theorem q1124 : (Jvm.Cond.laysFinal "LazyForge$Resolver" "LazyForge$Resolver" "uses" "Ljava/util/ArrayList;") ∈ lw_all := lw_g (lw_at lw_m5 2 rfl) rfl
theorem q1125 : (Jvm.Cond.soleField "LazyForge$Resolver" "uses") ∈ lw_all := lw_g (lw_at lw_m5 3 rfl) rfl
theorem q1126 : (Jvm.Cond.lays "LazyForge$Resolver" "LazyForge$Resolver" "kind" "I") ∈ lw_all := lw_g (lw_at lw_m5 4 rfl) rfl
theorem q1127 : (Jvm.Cond.soleField "LazyForge$Resolver" "kind") ∈ lw_all := lw_g (lw_at lw_m5 5 rfl) rfl
theorem q1128 : (Jvm.Cond.lays "LazyForge$Resolver" "LazyForge$Resolver" "place" "I") ∈ lw_all := lw_g (lw_at lw_m5 6 rfl) rfl
theorem q1129 : (Jvm.Cond.soleField "LazyForge$Resolver" "place") ∈ lw_all := lw_g (lw_at lw_m5 7 rfl) rfl
theorem q1130 : (Jvm.Cond.superclass "LazyForge$Resolver" "java/lang/Object") ∈ lw_all := lw_g (lw_at lw_m5 8 rfl) rfl
theorem q1132 : (Jvm.Cond.instanceMethod ({ cls := "LazyForge$Resolver", name := "resolve", desc := "()LLazyForge$Program;" } : Jvm.MethodName)) ∈ lw_all := lw_g (lw_at lw_m5 10 rfl) rfl
theorem q1133 : (Jvm.Cond.selects "LazyForge$Resolver" ({ cls := "LazyForge$Resolver", name := "resolve", desc := "()LLazyForge$Program;" } : Jvm.MethodName) ({ cls := "LazyForge$Resolver", name := "resolve", desc := "()LLazyForge$Program;" } : Jvm.MethodName)) ∈ lw_all := lw_g (lw_at lw_m5 11 rfl) rfl
theorem q1134 : (Jvm.Cond.code ({ cls := "LazyForge$Resolver", name := "resolve", desc := "()LLazyForge$Program;" } : Jvm.MethodName) prog_19_method_4_code (3 : Nat) (Option.some (Jvm.ClassFile.FieldType.object "LazyForge$Program"))) ∈ lw_all := lw_g (lw_at lw_m5 12 rfl) rfl
theorem q1135 : (Jvm.Cond.classLink "LazyForge$Resolver" (60 : Nat) "LazyForge$Function") ∈ lw_all := lw_g (lw_at lw_m5 13 rfl) rfl
theorem q1137 : (Jvm.Cond.methodLink "LazyForge$Resolver" (66 : Nat) ({ cls := "LazyForge$Function", name := "<init>", desc := "(IILLazyForge$Function;)V" } : Jvm.MethodName)) ∈ lw_all := lw_g (lw_at lw_m5 15 rfl) rfl
theorem q1149 : (Jvm.Cond.fieldLinkNest "LazyForge$Resolver" (106 : Nat) "LazyForge$Function" "place" "I" "LazyForge") ∈ lw_tbl := lw_at lw_m5 27 rfl
theorem q1151 : (Jvm.Cond.fieldLinkNest "LazyForge$Resolver" (170 : Nat) "LazyForge$Function" "around" "LLazyForge$Function;" "LazyForge") ∈ lw_tbl := lw_at lw_m5 29 rfl
theorem q1153 : (Jvm.Cond.fieldLinkNest "LazyForge$Resolver" (146 : Nat) "LazyForge$Function" "own" "[LLazyForge$Variable;" "LazyForge") ∈ lw_tbl := lw_at lw_m5 31 rfl
theorem q1155 : (Jvm.Cond.fieldLinkNest "LazyForge$Resolver" (164 : Nat) "LazyForge$Function" "free" "Ljava/util/ArrayList;" "LazyForge") ∈ lw_tbl := lw_at lw_m5 33 rfl
theorem q1158 : (Jvm.Cond.fieldLinkNest "LazyForge$Resolver" (114 : Nat) "LazyForge$Function" "body" "LLazyForge$Part;" "LazyForge") ∈ lw_tbl := lw_at lw_m5 36 rfl
theorem q1193 : (Jvm.Cond.methodLink "LazyForge$Resolver" (71 : Nat) ({ cls := "java/util/ArrayList", name := "add", desc := "(Ljava/lang/Object;)Z" } : Jvm.MethodName)) ∈ lw_all := lw_g (lw_at lw_m5 71 rfl) rfl
theorem q1240 : (Jvm.Cond.selects "LazyForge$Resolver" ({ cls := "java/lang/Object", name := "getClass", desc := "()Ljava/lang/Class;" } : Jvm.MethodName) ({ cls := "java/lang/Object", name := "getClass", desc := "()Ljava/lang/Class;" } : Jvm.MethodName)) ∈ lw_all := lw_g (lw_at lw_m5 118 rfl) rfl
theorem q1264 : (Jvm.Cond.stringRef "LazyForge$Resolver" (76 : Nat) "main") ∈ lw_tbl := lw_at lw_m5 142 rfl
theorem q1265 : (Jvm.Cond.methodLinkNest "LazyForge$Resolver" (78 : Nat) ({ cls := "LazyForge$Reader", name := "wordOf", desc := "(Ljava/lang/String;)J" } : Jvm.MethodName) "LazyForge") ∈ lw_tbl := lw_at lw_m5 143 rfl
theorem q1266 : (Jvm.Cond.methodLink "LazyForge$Resolver" (84 : Nat) ({ cls := "java/util/ArrayList", name := "get", desc := "(I)Ljava/lang/Object;" } : Jvm.MethodName)) ∈ lw_all := lw_g (lw_at lw_m5 144 rfl) rfl
theorem q1278 : (Jvm.Cond.methodLink "LazyForge$Resolver" (96 : Nat) ({ cls := "LazyForge$Resolver", name := "enter", desc := "(LLazyForge$Function;[JLLazyForge$Raw;)V" } : Jvm.MethodName)) ∈ lw_all := lw_g (lw_at lw_m5 156 rfl) rfl
theorem q1279 : (Jvm.Cond.privateMethod ({ cls := "LazyForge$Resolver", name := "enter", desc := "(LLazyForge$Function;[JLLazyForge$Raw;)V" } : Jvm.MethodName)) ∈ lw_tbl := lw_at lw_m5 157 rfl
theorem q1280 : (Jvm.Cond.instanceMethod ({ cls := "LazyForge$Resolver", name := "enter", desc := "(LLazyForge$Function;[JLLazyForge$Raw;)V" } : Jvm.MethodName)) ∈ lw_all := lw_g (lw_at lw_m5 158 rfl) rfl
theorem q1281 : (Jvm.Cond.code ({ cls := "LazyForge$Resolver", name := "enter", desc := "(LLazyForge$Function;[JLLazyForge$Raw;)V" } : Jvm.MethodName) prog_19_method_5_code (6 : Nat) (Option.none : Option Jvm.ClassFile.FieldType)) ∈ lw_all := lw_g (lw_at lw_m5 159 rfl) rfl
theorem q1283 : (Jvm.Cond.methodLink "LazyForge$Resolver" (149 : Nat) ({ cls := "LazyForge$Variable", name := "<init>", desc := "(LLazyForge$Function;)V" } : Jvm.MethodName)) ∈ lw_all := lw_g (lw_at lw_m5 161 rfl) rfl
theorem q1288 : (Jvm.Cond.fieldLinkNest "LazyForge$Resolver" (160 : Nat) "LazyForge$Variable" "owner" "LLazyForge$Function;" "LazyForge") ∈ lw_tbl := lw_at lw_m5 166 rfl
theorem q1298 : (Jvm.Cond.methodLink "LazyForge$Resolver" (152 : Nat) ({ cls := "LazyForge$Resolver", name := "show", desc := "(JLLazyForge$Variable;)V" } : Jvm.MethodName)) ∈ lw_all := lw_g (lw_at lw_m5 176 rfl) rfl
theorem q1299 : (Jvm.Cond.privateMethod ({ cls := "LazyForge$Resolver", name := "show", desc := "(JLLazyForge$Variable;)V" } : Jvm.MethodName)) ∈ lw_tbl := lw_at lw_m5 177 rfl
theorem q1300 : (Jvm.Cond.instanceMethod ({ cls := "LazyForge$Resolver", name := "show", desc := "(JLLazyForge$Variable;)V" } : Jvm.MethodName)) ∈ lw_all := lw_g (lw_at lw_m5 178 rfl) rfl
theorem q1301 : (Jvm.Cond.code ({ cls := "LazyForge$Resolver", name := "show", desc := "(JLLazyForge$Variable;)V" } : Jvm.MethodName) prog_19_method_2_code (6 : Nat) (Option.none : Option Jvm.ClassFile.FieldType)) ∈ lw_all := lw_g (lw_at lw_m5 179 rfl) rfl
theorem q1302 : (Jvm.Cond.methodLink "LazyForge$Resolver" (46 : Nat) ({ cls := "java/lang/System", name := "arraycopy", desc := "(Ljava/lang/Object;ILjava/lang/Object;II)V" } : Jvm.MethodName)) ∈ lw_all := lw_g (lw_at lw_m5 180 rfl) rfl
theorem q1303 : (Jvm.Cond.methodLink "LazyForge$Resolver" (156 : Nat) ({ cls := "LazyForge$Resolver", name := "part", desc := "(LLazyForge$Raw;LLazyForge$Function;)LLazyForge$Part;" } : Jvm.MethodName)) ∈ lw_all := lw_g (lw_at lw_m5 181 rfl) rfl
theorem q1304 : (Jvm.Cond.privateMethod ({ cls := "LazyForge$Resolver", name := "part", desc := "(LLazyForge$Raw;LLazyForge$Function;)LLazyForge$Part;" } : Jvm.MethodName)) ∈ lw_tbl := lw_at lw_m5 182 rfl
theorem q1305 : (Jvm.Cond.instanceMethod ({ cls := "LazyForge$Resolver", name := "part", desc := "(LLazyForge$Raw;LLazyForge$Function;)LLazyForge$Part;" } : Jvm.MethodName)) ∈ lw_all := lw_g (lw_at lw_m5 183 rfl) rfl
theorem q1306 : (Jvm.Cond.code ({ cls := "LazyForge$Resolver", name := "part", desc := "(LLazyForge$Raw;LLazyForge$Function;)LLazyForge$Part;" } : Jvm.MethodName) prog_19_method_10_code (5 : Nat) (Option.some (Jvm.ClassFile.FieldType.object "LazyForge$Part"))) ∈ lw_all := lw_g (lw_at lw_m5 184 rfl) rfl
theorem q1307 : (Jvm.Cond.methodLink "LazyForge$Resolver" (204 : Nat) ({ cls := "LazyForge$Resolver", name := "let", desc := "(LLazyForge$Raw;LLazyForge$Function;)LLazyForge$Part;" } : Jvm.MethodName)) ∈ lw_all := lw_g (lw_at lw_m5 185 rfl) rfl
theorem q1308 : (Jvm.Cond.privateMethod ({ cls := "LazyForge$Resolver", name := "let", desc := "(LLazyForge$Raw;LLazyForge$Function;)LLazyForge$Part;" } : Jvm.MethodName)) ∈ lw_tbl := lw_at lw_m5 186 rfl
theorem q1309 : (Jvm.Cond.instanceMethod ({ cls := "LazyForge$Resolver", name := "let", desc := "(LLazyForge$Raw;LLazyForge$Function;)LLazyForge$Part;" } : Jvm.MethodName)) ∈ lw_all := lw_g (lw_at lw_m5 187 rfl) rfl
theorem q1310 : (Jvm.Cond.code ({ cls := "LazyForge$Resolver", name := "let", desc := "(LLazyForge$Raw;LLazyForge$Function;)LLazyForge$Part;" } : Jvm.MethodName) prog_19_method_11_code (8 : Nat) (Option.some (Jvm.ClassFile.FieldType.object "LazyForge$Part"))) ∈ lw_all := lw_g (lw_at lw_m5 188 rfl) rfl
theorem q1311 : (Jvm.Cond.methodLink "LazyForge$Resolver" (249 : Nat) ({ cls := "LazyForge$Function", name := "local", desc := "()LLazyForge$Variable;" } : Jvm.MethodName)) ∈ lw_all := lw_g (lw_at lw_m5 189 rfl) rfl
theorem q1317 : (Jvm.Cond.methodLink "LazyForge$Resolver" (221 : Nat) ({ cls := "LazyForge$Resolver", name := "parts", desc := "([LLazyForge$Raw;IILLazyForge$Function;)[LLazyForge$Part;" } : Jvm.MethodName)) ∈ lw_all := lw_g (lw_at lw_m5 195 rfl) rfl
theorem q1318 : (Jvm.Cond.privateMethod ({ cls := "LazyForge$Resolver", name := "parts", desc := "([LLazyForge$Raw;IILLazyForge$Function;)[LLazyForge$Part;" } : Jvm.MethodName)) ∈ lw_tbl := lw_at lw_m5 196 rfl
theorem q1319 : (Jvm.Cond.instanceMethod ({ cls := "LazyForge$Resolver", name := "parts", desc := "([LLazyForge$Raw;IILLazyForge$Function;)[LLazyForge$Part;" } : Jvm.MethodName)) ∈ lw_all := lw_g (lw_at lw_m5 197 rfl) rfl
theorem q1320 : (Jvm.Cond.code ({ cls := "LazyForge$Resolver", name := "parts", desc := "([LLazyForge$Raw;IILLazyForge$Function;)[LLazyForge$Part;" } : Jvm.MethodName) prog_19_method_9_code (8 : Nat) (Option.some (Jvm.ClassFile.FieldType.array (Jvm.ClassFile.FieldType.object "LazyForge$Part")))) ∈ lw_all := lw_g (lw_at lw_m5 198 rfl) rfl
theorem q1321 : (Jvm.Cond.classLink "LazyForge$Resolver" (119 : Nat) "LazyForge$Part") ∈ lw_all := lw_g (lw_at lw_m5 199 rfl) rfl
theorem q1322 : (Jvm.Cond.classLink "LazyForge$Resolver" (253 : Nat) "LazyForge$Let") ∈ lw_all := lw_g (lw_at lw_m5 200 rfl) rfl
theorem q1324 : (Jvm.Cond.methodLink "LazyForge$Resolver" (255 : Nat) ({ cls := "LazyForge$Let", name := "<init>", desc := "([LLazyForge$Variable;[LLazyForge$Part;LLazyForge$Part;)V" } : Jvm.MethodName)) ∈ lw_all := lw_g (lw_at lw_m5 202 rfl) rfl
theorem q1353 : (Jvm.Cond.methodLink "LazyForge$Resolver" (207 : Nat) ({ cls := "LazyForge$Resolver", name := "lambda", desc := "(LLazyForge$Raw;LLazyForge$Function;)LLazyForge$Part;" } : Jvm.MethodName)) ∈ lw_all := lw_g (lw_at lw_m5 231 rfl) rfl
theorem q1354 : (Jvm.Cond.privateMethod ({ cls := "LazyForge$Resolver", name := "lambda", desc := "(LLazyForge$Raw;LLazyForge$Function;)LLazyForge$Part;" } : Jvm.MethodName)) ∈ lw_tbl := lw_at lw_m5 232 rfl
theorem q1355 : (Jvm.Cond.instanceMethod ({ cls := "LazyForge$Resolver", name := "lambda", desc := "(LLazyForge$Raw;LLazyForge$Function;)LLazyForge$Part;" } : Jvm.MethodName)) ∈ lw_all := lw_g (lw_at lw_m5 233 rfl) rfl
theorem q1356 : (Jvm.Cond.code ({ cls := "LazyForge$Resolver", name := "lambda", desc := "(LLazyForge$Raw;LLazyForge$Function;)LLazyForge$Part;" } : Jvm.MethodName) prog_19_method_8_code (7 : Nat) (Option.some (Jvm.ClassFile.FieldType.object "LazyForge$Part"))) ∈ lw_all := lw_g (lw_at lw_m5 234 rfl) rfl
theorem q1357 : (Jvm.Cond.methodLink "LazyForge$Resolver" (100 : Nat) ({ cls := "java/util/ArrayList", name := "size", desc := "()I" } : Jvm.MethodName)) ∈ lw_all := lw_g (lw_at lw_m5 235 rfl) rfl
theorem q1361 : (Jvm.Cond.classLink "LazyForge$Resolver" (186 : Nat) "LazyForge$Named") ∈ lw_all := lw_g (lw_at lw_m5 239 rfl) rfl
theorem q1363 : (Jvm.Cond.methodLink "LazyForge$Resolver" (188 : Nat) ({ cls := "LazyForge$Named", name := "<init>", desc := "(LLazyForge$Function;)V" } : Jvm.MethodName)) ∈ lw_all := lw_g (lw_at lw_m6 1 rfl) rfl
theorem q1377 : (Jvm.Cond.methodLink "LazyForge$Resolver" (194 : Nat) ({ cls := "java/util/ArrayList", name := "isEmpty", desc := "()Z" } : Jvm.MethodName)) ∈ lw_all := lw_g (lw_at lw_m6 15 rfl) rfl
theorem q1381 : (Jvm.Cond.methodLink "LazyForge$Resolver" (182 : Nat) ({ cls := "LazyForge$Resolver", name := "use", desc := "(LLazyForge$Variable;LLazyForge$Function;)LLazyForge$Use;" } : Jvm.MethodName)) ∈ lw_all := lw_g (lw_at lw_m6 19 rfl) rfl
theorem q1382 : (Jvm.Cond.privateMethod ({ cls := "LazyForge$Resolver", name := "use", desc := "(LLazyForge$Variable;LLazyForge$Function;)LLazyForge$Use;" } : Jvm.MethodName)) ∈ lw_tbl := lw_at lw_m6 20 rfl
theorem q1383 : (Jvm.Cond.instanceMethod ({ cls := "LazyForge$Resolver", name := "use", desc := "(LLazyForge$Variable;LLazyForge$Function;)LLazyForge$Use;" } : Jvm.MethodName)) ∈ lw_all := lw_g (lw_at lw_m6 21 rfl) rfl
theorem q1384 : (Jvm.Cond.code ({ cls := "LazyForge$Resolver", name := "use", desc := "(LLazyForge$Variable;LLazyForge$Function;)LLazyForge$Use;" } : Jvm.MethodName) prog_19_method_6_code (4 : Nat) (Option.some (Jvm.ClassFile.FieldType.object "LazyForge$Use"))) ∈ lw_all := lw_g (lw_at lw_m6 22 rfl) rfl
theorem q1385 : (Jvm.Cond.methodLink "LazyForge$Resolver" (167 : Nat) ({ cls := "java/util/ArrayList", name := "contains", desc := "(Ljava/lang/Object;)Z" } : Jvm.MethodName)) ∈ lw_all := lw_g (lw_at lw_m6 23 rfl) rfl
theorem q1418 : (Jvm.Cond.selects "LazyForge$Resolver" ({ cls := "java/lang/Object", name := "equals", desc := "(Ljava/lang/Object;)Z" } : Jvm.MethodName) ({ cls := "java/lang/Object", name := "equals", desc := "(Ljava/lang/Object;)Z" } : Jvm.MethodName)) ∈ lw_all := lw_g (lw_at lw_m6 56 rfl) rfl
theorem q1438 : (Jvm.Cond.classLink "LazyForge$Resolver" (125 : Nat) "LazyForge$Use") ∈ lw_all := lw_g (lw_at lw_m6 76 rfl) rfl
theorem q1440 : (Jvm.Cond.methodLink "LazyForge$Resolver" (173 : Nat) ({ cls := "LazyForge$Use", name := "<init>", desc := "(LLazyForge$Variable;LLazyForge$Function;)V" } : Jvm.MethodName)) ∈ lw_all := lw_g (lw_at lw_m6 78 rfl) rfl
theorem q1459 : (Jvm.Cond.classLink "LazyForge$Resolver" (198 : Nat) "LazyForge$Apply") ∈ lw_all := lw_g (lw_at lw_m6 97 rfl) rfl
theorem q1461 : (Jvm.Cond.methodLink "LazyForge$Resolver" (200 : Nat) ({ cls := "LazyForge$Apply", name := "<init>", desc := "(LLazyForge$Part;[LLazyForge$Part;)V" } : Jvm.MethodName)) ∈ lw_all := lw_g (lw_at lw_m6 99 rfl) rfl
theorem q1480 : (Jvm.Cond.methodLink "LazyForge$Resolver" (210 : Nat) ({ cls := "LazyForge$Resolver", name := "choice", desc := "(LLazyForge$Raw;LLazyForge$Function;)LLazyForge$Part;" } : Jvm.MethodName)) ∈ lw_all := lw_g (lw_at lw_m6 118 rfl) rfl
theorem q1481 : (Jvm.Cond.privateMethod ({ cls := "LazyForge$Resolver", name := "choice", desc := "(LLazyForge$Raw;LLazyForge$Function;)LLazyForge$Part;" } : Jvm.MethodName)) ∈ lw_tbl := lw_at lw_m6 119 rfl
theorem q1482 : (Jvm.Cond.instanceMethod ({ cls := "LazyForge$Resolver", name := "choice", desc := "(LLazyForge$Raw;LLazyForge$Function;)LLazyForge$Part;" } : Jvm.MethodName)) ∈ lw_all := lw_g (lw_at lw_m6 120 rfl) rfl
theorem q1483 : (Jvm.Cond.code ({ cls := "LazyForge$Resolver", name := "choice", desc := "(LLazyForge$Raw;LLazyForge$Function;)LLazyForge$Part;" } : Jvm.MethodName) prog_19_method_12_code (10 : Nat) (Option.some (Jvm.ClassFile.FieldType.object "LazyForge$Part"))) ∈ lw_all := lw_g (lw_at lw_m6 121 rfl) rfl
theorem q1484 : (Jvm.Cond.classLink "LazyForge$Resolver" (258 : Nat) "[LLazyForge$Variable;") ∈ lw_all := lw_g (lw_at lw_m6 122 rfl) rfl
theorem q1486 : (Jvm.Cond.classLink "LazyForge$Resolver" (262 : Nat) "LazyForge$Case") ∈ lw_all := lw_g (lw_at lw_m6 124 rfl) rfl
theorem q1488 : (Jvm.Cond.methodLink "LazyForge$Resolver" (270 : Nat) ({ cls := "LazyForge$Case", name := "<init>", desc := "(LLazyForge$Part;[I[I[[LLazyForge$Variable;[LLazyForge$Part;)V" } : Jvm.MethodName)) ∈ lw_all := lw_g (lw_at lw_m6 126 rfl) rfl
theorem q1516 : (Jvm.Cond.classLink "LazyForge$Resolver" (213 : Nat) "LazyForge$Sign") ∈ lw_all := lw_g (lw_at lw_m6 154 rfl) rfl
theorem q1518 : (Jvm.Cond.methodLink "LazyForge$Resolver" (218 : Nat) ({ cls := "LazyForge$Sign", name := "<init>", desc := "(ILLazyForge$Part;LLazyForge$Part;)V" } : Jvm.MethodName)) ∈ lw_all := lw_g (lw_at lw_m6 156 rfl) rfl
theorem q1540 : (Jvm.Cond.classLink "LazyForge$Resolver" (224 : Nat) "LazyForge$Literal") ∈ lw_all := lw_g (lw_at lw_m6 178 rfl) rfl
theorem q1542 : (Jvm.Cond.methodLinkNest "LazyForge$Resolver" (226 : Nat) ({ cls := "LazyForge", name := "atom", desc := "(I)J" } : Jvm.MethodName) "LazyForge") ∈ lw_tbl := lw_at lw_m6 180 rfl
theorem q1546 : (Jvm.Cond.methodLink "LazyForge$Resolver" (230 : Nat) ({ cls := "LazyForge$Literal", name := "<init>", desc := "(J)V" } : Jvm.MethodName)) ∈ lw_all := lw_g (lw_at lw_m6 184 rfl) rfl
theorem q1559 : (Jvm.Cond.classLink "LazyForge$Resolver" (233 : Nat) "LazyForge$Made") ∈ lw_all := lw_g (lw_at lw_m6 197 rfl) rfl
theorem q1561 : (Jvm.Cond.methodLink "LazyForge$Resolver" (235 : Nat) ({ cls := "LazyForge$Made", name := "<init>", desc := "(I[LLazyForge$Part;)V" } : Jvm.MethodName)) ∈ lw_all := lw_g (lw_at lw_m6 199 rfl) rfl
theorem q1580 : (Jvm.Cond.methodLink "LazyForge$Resolver" (238 : Nat) ({ cls := "LazyForge$Resolver", name := "name", desc := "(LLazyForge$Raw;LLazyForge$Function;)LLazyForge$Part;" } : Jvm.MethodName)) ∈ lw_all := lw_g (lw_at lw_m6 218 rfl) rfl
theorem q1581 : (Jvm.Cond.privateMethod ({ cls := "LazyForge$Resolver", name := "name", desc := "(LLazyForge$Raw;LLazyForge$Function;)LLazyForge$Part;" } : Jvm.MethodName)) ∈ lw_tbl := lw_at lw_m6 219 rfl
theorem q1582 : (Jvm.Cond.instanceMethod ({ cls := "LazyForge$Resolver", name := "name", desc := "(LLazyForge$Raw;LLazyForge$Function;)LLazyForge$Part;" } : Jvm.MethodName)) ∈ lw_all := lw_g (lw_at lw_m6 220 rfl) rfl
theorem q1583 : (Jvm.Cond.code ({ cls := "LazyForge$Resolver", name := "name", desc := "(LLazyForge$Raw;LLazyForge$Function;)LLazyForge$Part;" } : Jvm.MethodName) prog_19_method_7_code (4 : Nat) (Option.some (Jvm.ClassFile.FieldType.object "LazyForge$Part"))) ∈ lw_all := lw_g (lw_at lw_m6 221 rfl) rfl
theorem q1584 : (Jvm.Cond.methodLink "LazyForge$Resolver" (107 : Nat) ({ cls := "LazyForge$Resolver", name := "fail", desc := "(II)LLazyForge$Part;" } : Jvm.MethodName)) ∈ lw_all := lw_g (lw_at lw_m6 222 rfl) rfl
theorem q1585 : (Jvm.Cond.privateMethod ({ cls := "LazyForge$Resolver", name := "fail", desc := "(II)LLazyForge$Part;" } : Jvm.MethodName)) ∈ lw_tbl := lw_at lw_m6 223 rfl
theorem q1586 : (Jvm.Cond.instanceMethod ({ cls := "LazyForge$Resolver", name := "fail", desc := "(II)LLazyForge$Part;" } : Jvm.MethodName)) ∈ lw_all := lw_g (lw_at lw_m6 224 rfl) rfl
theorem q1587 : (Jvm.Cond.code ({ cls := "LazyForge$Resolver", name := "fail", desc := "(II)LLazyForge$Part;" } : Jvm.MethodName) prog_19_method_3_code (3 : Nat) (Option.some (Jvm.ClassFile.FieldType.object "LazyForge$Part"))) ∈ lw_all := lw_g (lw_at lw_m6 225 rfl) rfl
theorem q1588 : (Jvm.Cond.methodLinkNest "LazyForge$Resolver" (243 : Nat) ({ cls := "LazyForge", name := "of", desc := "(I)J" } : Jvm.MethodName) "LazyForge") ∈ lw_tbl := lw_at lw_m6 226 rfl
theorem q1592 : (Jvm.Cond.classLink "LazyForge$Resolver" (246 : Nat) "LazyForge$Fail") ∈ lw_all := lw_g (lw_at lw_m6 230 rfl) rfl
theorem q1594 : (Jvm.Cond.methodLinkNest "LazyForge$Resolver" (248 : Nat) ({ cls := "LazyForge$Fail", name := "<init>", desc := "()V" } : Jvm.MethodName) "LazyForge") ∈ lw_tbl := lw_at lw_m6 232 rfl
theorem q1604 : (Jvm.Cond.methodLink "LazyForge$Resolver" (104 : Nat) ({ cls := "LazyForge$Function", name := "parameters", desc := "()I" } : Jvm.MethodName)) ∈ lw_all := lw_g (lw_at lw_m7 2 rfl) rfl
theorem q1609 : (Jvm.Cond.methodLink "LazyForge$Resolver" (111 : Nat) ({ cls := "LazyForge$Function", name := "count", desc := "()V" } : Jvm.MethodName)) ∈ lw_all := lw_g (lw_at lw_m7 7 rfl) rfl
theorem q1615 : (Jvm.Cond.methodLink "LazyForge$Resolver" (123 : Nat) ({ cls := "LazyForge$Function", name := "variables", desc := "()I" } : Jvm.MethodName)) ∈ lw_all := lw_g (lw_at lw_m7 13 rfl) rfl
theorem q1619 : (Jvm.Cond.methodLink "LazyForge$Resolver" (127 : Nat) ({ cls := "LazyForge$Use", name := "settle", desc := "()V" } : Jvm.MethodName)) ∈ lw_all := lw_g (lw_at lw_m7 17 rfl) rfl
theorem q3504 : (Jvm.Cond.castable "LazyForge$Resolver" "java/lang/Object") ∈ lw_tbl := lw_at lw_m14 222 rfl
theorem in_X14 : ∀ w ∈ wsX140, w ∈ lw_all := lw_in wsX140 [1114, 1116, 1118, 1120, 1122, 1124, 1126, 1128] (by decide +kernel) (by decide +kernel)

/-! LazyForge$Program -/
set_option maxRecDepth 100000
def RX15 : String := "LazyForge$Program"
def TX15 : u_T := fun k => match k with
  | 0 => ("LazyForge$Program", "functions", "Ljava/util/ArrayList;", true)
  | 1 => ("LazyForge$Program", "suspended", "Ljava/util/ArrayList;", true)
  | 2 => ("LazyForge$Program", "some", "[Z", true)
  | 3 => ("LazyForge$Program", "main", "I", false)
  | 4 => ("LazyForge$Program", "parts", "I", false)
  | 5 => ("LazyForge$Program", "constructors", "[J", false)
  | 6 => ("LazyForge$Program", "fields", "[I", false)
  | _ => ("LazyForge$Program", "constructorCount", "I", false)
def tyX15 : Nat → FieldType := fun k => match k with
  | 0 => .object "java/util/ArrayList"
  | 1 => .object "java/util/ArrayList"
  | 2 => .array .boolean
  | 3 => .int
  | 4 => .int
  | 5 => .array .long
  | 6 => .array .int
  | _ => .int
abbrev wsX150 : List Cond := u_ws RX15 TX15 8
theorem nmX15 : ∀ a, a < 8 → ∀ b, b < 8 → a ≠ b → (TX15 a).2.1 ≠ (TX15 b).2.1 := by decide +kernel
theorem tyX15_ok : ∀ k, k < 8 → parseFieldDescriptor (TX15 k).2.2.1 = some (tyX15 k) := by decide +kernel
abbrev cX15_init : ByteArray := prog_16_method_1_code
def yX15_init : MethodName := ⟨RX15, "<init>", "()V"⟩
theorem q189 : (Jvm.Cond.initialized "LazyForge$Program") ∈ lw_all := lw_g (lw_at lw_m1 27 rfl) rfl
theorem q1025 : (Jvm.Cond.instantiable "LazyForge$Program" (8 : Nat)) ∈ lw_all := lw_g (lw_at lw_m4 143 rfl) rfl
theorem q1027 : (Jvm.Cond.instanceMethod ({ cls := "LazyForge$Program", name := "<init>", desc := "()V" } : Jvm.MethodName)) ∈ lw_all := lw_g (lw_at lw_m4 145 rfl) rfl
theorem q1028 : (Jvm.Cond.code ({ cls := "LazyForge$Program", name := "<init>", desc := "()V" } : Jvm.MethodName) prog_16_method_1_code (1 : Nat) (Option.none : Option Jvm.ClassFile.FieldType)) ∈ lw_all := lw_g (lw_at lw_m4 146 rfl) rfl
theorem q1029 : (Jvm.Cond.methodLink "LazyForge$Program" (3 : Nat) ({ cls := "java/lang/Object", name := "<init>", desc := "()V" } : Jvm.MethodName)) ∈ lw_all := lw_g (lw_at lw_m4 147 rfl) rfl
theorem q1030 : (Jvm.Cond.classLink "LazyForge$Program" (9 : Nat) "java/util/ArrayList") ∈ lw_all := lw_g (lw_at lw_m4 148 rfl) rfl
theorem q1032 : (Jvm.Cond.methodLink "LazyForge$Program" (11 : Nat) ({ cls := "java/util/ArrayList", name := "<init>", desc := "()V" } : Jvm.MethodName)) ∈ lw_all := lw_g (lw_at lw_m4 150 rfl) rfl
theorem q1056 : (Jvm.Cond.fieldLink "LazyForge$Program" (12 : Nat) "LazyForge$Program" "functions" "Ljava/util/ArrayList;") ∈ lw_all := lw_g (lw_at lw_m4 174 rfl) rfl
theorem q1061 : (Jvm.Cond.fieldLink "LazyForge$Program" (18 : Nat) "LazyForge$Program" "suspended" "Ljava/util/ArrayList;") ∈ lw_all := lw_g (lw_at lw_m4 179 rfl) rfl
theorem q1064 : (Jvm.Cond.fieldLink "LazyForge$Program" (21 : Nat) "LazyForge$Program" "some" "[Z") ∈ lw_all := lw_g (lw_at lw_m4 182 rfl) rfl
theorem q1068 : (Jvm.Cond.fieldLink "LazyForge$Program" (25 : Nat) "LazyForge$Program" "main" "I") ∈ lw_all := lw_g (lw_at lw_m4 186 rfl) rfl
theorem q1082 : (Jvm.Cond.laysFinal "LazyForge$Program" "LazyForge$Program" "functions" "Ljava/util/ArrayList;") ∈ lw_all := lw_g (lw_at lw_m4 200 rfl) rfl
theorem q1083 : (Jvm.Cond.soleField "LazyForge$Program" "functions") ∈ lw_all := lw_g (lw_at lw_m4 201 rfl) rfl
theorem q1084 : (Jvm.Cond.laysFinal "LazyForge$Program" "LazyForge$Program" "suspended" "Ljava/util/ArrayList;") ∈ lw_all := lw_g (lw_at lw_m4 202 rfl) rfl
theorem q1085 : (Jvm.Cond.soleField "LazyForge$Program" "suspended") ∈ lw_all := lw_g (lw_at lw_m4 203 rfl) rfl
theorem q1086 : (Jvm.Cond.laysFinal "LazyForge$Program" "LazyForge$Program" "some" "[Z") ∈ lw_all := lw_g (lw_at lw_m4 204 rfl) rfl
theorem q1087 : (Jvm.Cond.soleField "LazyForge$Program" "some") ∈ lw_all := lw_g (lw_at lw_m4 205 rfl) rfl
theorem q1088 : (Jvm.Cond.lays "LazyForge$Program" "LazyForge$Program" "main" "I") ∈ lw_all := lw_g (lw_at lw_m4 206 rfl) rfl
theorem q1089 : (Jvm.Cond.soleField "LazyForge$Program" "main") ∈ lw_all := lw_g (lw_at lw_m4 207 rfl) rfl
theorem q1090 : (Jvm.Cond.lays "LazyForge$Program" "LazyForge$Program" "parts" "I") ∈ lw_all := lw_g (lw_at lw_m4 208 rfl) rfl
theorem q1091 : (Jvm.Cond.soleField "LazyForge$Program" "parts") ∈ lw_all := lw_g (lw_at lw_m4 209 rfl) rfl
theorem q1092 : (Jvm.Cond.lays "LazyForge$Program" "LazyForge$Program" "constructors" "[J") ∈ lw_all := lw_g (lw_at lw_m4 210 rfl) rfl
theorem q1093 : (Jvm.Cond.soleField "LazyForge$Program" "constructors") ∈ lw_all := lw_g (lw_at lw_m4 211 rfl) rfl
theorem q1094 : (Jvm.Cond.lays "LazyForge$Program" "LazyForge$Program" "fields" "[I") ∈ lw_all := lw_g (lw_at lw_m4 212 rfl) rfl
theorem q1095 : (Jvm.Cond.soleField "LazyForge$Program" "fields") ∈ lw_all := lw_g (lw_at lw_m4 213 rfl) rfl
theorem q1096 : (Jvm.Cond.lays "LazyForge$Program" "LazyForge$Program" "constructorCount" "I") ∈ lw_all := lw_g (lw_at lw_m4 214 rfl) rfl
theorem q1097 : (Jvm.Cond.soleField "LazyForge$Program" "constructorCount") ∈ lw_all := lw_g (lw_at lw_m4 215 rfl) rfl
theorem q1098 : (Jvm.Cond.superclass "LazyForge$Program" "java/lang/Object") ∈ lw_all := lw_g (lw_at lw_m4 216 rfl) rfl
theorem q1237 : (Jvm.Cond.selects "LazyForge$Program" ({ cls := "java/lang/Object", name := "getClass", desc := "()Ljava/lang/Class;" } : Jvm.MethodName) ({ cls := "java/lang/Object", name := "getClass", desc := "()Ljava/lang/Class;" } : Jvm.MethodName)) ∈ lw_all := lw_g (lw_at lw_m5 115 rfl) rfl
theorem q1415 : (Jvm.Cond.selects "LazyForge$Program" ({ cls := "java/lang/Object", name := "equals", desc := "(Ljava/lang/Object;)Z" } : Jvm.MethodName) ({ cls := "java/lang/Object", name := "equals", desc := "(Ljava/lang/Object;)Z" } : Jvm.MethodName)) ∈ lw_all := lw_g (lw_at lw_m6 53 rfl) rfl
theorem q3505 : (Jvm.Cond.castable "LazyForge$Program" "java/lang/Object") ∈ lw_tbl := lw_at lw_m14 223 rfl
theorem in_X15 : ∀ w ∈ wsX150, w ∈ lw_all := lw_in wsX150 [1082, 1084, 1086, 1088, 1090, 1092, 1094, 1096] (by decide +kernel) (by decide +kernel)

/-! LazyForge$Function -/
set_option maxRecDepth 100000
def RX16 : String := "LazyForge$Function"
def TX16 : u_T := fun k => match k with
  | 0 => ("LazyForge$Function", "number", "I", true)
  | 1 => ("LazyForge$Function", "place", "I", true)
  | 2 => ("LazyForge$Function", "around", "LLazyForge$Function;", true)
  | 3 => ("LazyForge$Function", "own", "[LLazyForge$Variable;", false)
  | 4 => ("LazyForge$Function", "free", "Ljava/util/ArrayList;", true)
  | 5 => ("LazyForge$Function", "locals", "Ljava/util/ArrayList;", true)
  | 6 => ("LazyForge$Function", "body", "LLazyForge$Part;", false)
  | 7 => ("LazyForge$Function", "needed", "I", false)
  | 8 => ("LazyForge$Function", "table", "[J", false)
  | 9 => ("LazyForge$Function", "needs", "I", false)
  | _ => ("LazyForge$Function", "calls", "I", false)
def tyX16 : Nat → FieldType := fun k => match k with
  | 0 => .int
  | 1 => .int
  | 2 => .object "LazyForge$Function"
  | 3 => .array (.object "LazyForge$Variable")
  | 4 => .object "java/util/ArrayList"
  | 5 => .object "java/util/ArrayList"
  | 6 => .object "LazyForge$Part"
  | 7 => .int
  | 8 => .array .long
  | 9 => .int
  | _ => .int
abbrev wsX160 : List Cond := u_ws RX16 TX16 11
theorem nmX16 : ∀ a, a < 11 → ∀ b, b < 11 → a ≠ b → (TX16 a).2.1 ≠ (TX16 b).2.1 := by decide +kernel
theorem tyX16_ok : ∀ k, k < 11 → parseFieldDescriptor (TX16 k).2.2.1 = some (tyX16 k) := by decide +kernel
abbrev cX16_init : ByteArray := prog_8_method_1_code
def yX16_init : MethodName := ⟨RX16, "<init>", "(IILLazyForge$Function;)V"⟩
abbrev cX16_local : ByteArray := prog_8_method_6_code
def yX16_local : MethodName := ⟨RX16, "local", "()LLazyForge$Variable;"⟩
abbrev cX16_parameters : ByteArray := prog_8_method_2_code
def yX16_parameters : MethodName := ⟨RX16, "parameters", "()I"⟩
abbrev cX16_count : ByteArray := prog_8_method_7_code
def yX16_count : MethodName := ⟨RX16, "count", "()V"⟩
abbrev cX16_variables : ByteArray := prog_8_method_5_code
def yX16_variables : MethodName := ⟨RX16, "variables", "()I"⟩
abbrev cX16_numberOf : ByteArray := prog_8_method_8_code
def yX16_numberOf : MethodName := ⟨RX16, "numberOf", "(LLazyForge$Variable;)I"⟩
abbrev cX16_at : ByteArray := prog_8_method_3_code
def yX16_at : MethodName := ⟨RX16, "at", "(I)Z"⟩
abbrev cX16_needs : ByteArray := prog_8_method_4_code
def yX16_needs : MethodName := ⟨RX16, "needs", "(I)Z"⟩
theorem q193 : (Jvm.Cond.initialized "LazyForge$Function") ∈ lw_all := lw_g (lw_at lw_m1 31 rfl) rfl
theorem q1136 : (Jvm.Cond.instantiable "LazyForge$Function" (11 : Nat)) ∈ lw_all := lw_g (lw_at lw_m5 14 rfl) rfl
theorem q1138 : (Jvm.Cond.instanceMethod ({ cls := "LazyForge$Function", name := "<init>", desc := "(IILLazyForge$Function;)V" } : Jvm.MethodName)) ∈ lw_all := lw_g (lw_at lw_m5 16 rfl) rfl
theorem q1139 : (Jvm.Cond.code ({ cls := "LazyForge$Function", name := "<init>", desc := "(IILLazyForge$Function;)V" } : Jvm.MethodName) prog_8_method_1_code (4 : Nat) (Option.none : Option Jvm.ClassFile.FieldType)) ∈ lw_all := lw_g (lw_at lw_m5 17 rfl) rfl
theorem q1140 : (Jvm.Cond.methodLink "LazyForge$Function" (1 : Nat) ({ cls := "java/lang/Object", name := "<init>", desc := "()V" } : Jvm.MethodName)) ∈ lw_all := lw_g (lw_at lw_m5 18 rfl) rfl
theorem q1141 : (Jvm.Cond.classLink "LazyForge$Function" (7 : Nat) "LazyForge$Variable") ∈ lw_all := lw_g (lw_at lw_m5 19 rfl) rfl
theorem q1142 : (Jvm.Cond.classLink "LazyForge$Function" (15 : Nat) "java/util/ArrayList") ∈ lw_all := lw_g (lw_at lw_m5 20 rfl) rfl
theorem q1143 : (Jvm.Cond.methodLink "LazyForge$Function" (17 : Nat) ({ cls := "java/util/ArrayList", name := "<init>", desc := "()V" } : Jvm.MethodName)) ∈ lw_all := lw_g (lw_at lw_m5 21 rfl) rfl
theorem q1144 : (Jvm.Cond.fieldLink "LazyForge$Function" (25 : Nat) "LazyForge$Function" "number" "I") ∈ lw_all := lw_g (lw_at lw_m5 22 rfl) rfl
theorem q1148 : (Jvm.Cond.fieldLink "LazyForge$Function" (29 : Nat) "LazyForge$Function" "place" "I") ∈ lw_all := lw_g (lw_at lw_m5 26 rfl) rfl
theorem q1150 : (Jvm.Cond.fieldLink "LazyForge$Function" (32 : Nat) "LazyForge$Function" "around" "LLazyForge$Function;") ∈ lw_all := lw_g (lw_at lw_m5 28 rfl) rfl
theorem q1152 : (Jvm.Cond.fieldLink "LazyForge$Function" (9 : Nat) "LazyForge$Function" "own" "[LLazyForge$Variable;") ∈ lw_all := lw_g (lw_at lw_m5 30 rfl) rfl
theorem q1154 : (Jvm.Cond.fieldLink "LazyForge$Function" (18 : Nat) "LazyForge$Function" "free" "Ljava/util/ArrayList;") ∈ lw_all := lw_g (lw_at lw_m5 32 rfl) rfl
theorem q1157 : (Jvm.Cond.fieldLink "LazyForge$Function" (22 : Nat) "LazyForge$Function" "locals" "Ljava/util/ArrayList;") ∈ lw_all := lw_g (lw_at lw_m5 35 rfl) rfl
theorem q1164 : (Jvm.Cond.fieldLink "LazyForge$Function" (40 : Nat) "LazyForge$Function" "table" "[J") ∈ lw_all := lw_g (lw_at lw_m5 42 rfl) rfl
theorem q1166 : (Jvm.Cond.fieldLink "LazyForge$Function" (44 : Nat) "LazyForge$Function" "needs" "I") ∈ lw_all := lw_g (lw_at lw_m5 44 rfl) rfl
theorem q1170 : (Jvm.Cond.laysFinal "LazyForge$Function" "LazyForge$Function" "number" "I") ∈ lw_all := lw_g (lw_at lw_m5 48 rfl) rfl
theorem q1171 : (Jvm.Cond.soleField "LazyForge$Function" "number") ∈ lw_all := lw_g (lw_at lw_m5 49 rfl) rfl
theorem q1172 : (Jvm.Cond.laysFinal "LazyForge$Function" "LazyForge$Function" "place" "I") ∈ lw_all := lw_g (lw_at lw_m5 50 rfl) rfl
theorem q1173 : (Jvm.Cond.soleField "LazyForge$Function" "place") ∈ lw_all := lw_g (lw_at lw_m5 51 rfl) rfl
theorem q1174 : (Jvm.Cond.laysFinal "LazyForge$Function" "LazyForge$Function" "around" "LLazyForge$Function;") ∈ lw_all := lw_g (lw_at lw_m5 52 rfl) rfl
theorem q1175 : (Jvm.Cond.soleField "LazyForge$Function" "around") ∈ lw_all := lw_g (lw_at lw_m5 53 rfl) rfl
theorem q1176 : (Jvm.Cond.lays "LazyForge$Function" "LazyForge$Function" "own" "[LLazyForge$Variable;") ∈ lw_all := lw_g (lw_at lw_m5 54 rfl) rfl
theorem q1177 : (Jvm.Cond.soleField "LazyForge$Function" "own") ∈ lw_all := lw_g (lw_at lw_m5 55 rfl) rfl
theorem q1178 : (Jvm.Cond.laysFinal "LazyForge$Function" "LazyForge$Function" "free" "Ljava/util/ArrayList;") ∈ lw_all := lw_g (lw_at lw_m5 56 rfl) rfl
theorem q1179 : (Jvm.Cond.soleField "LazyForge$Function" "free") ∈ lw_all := lw_g (lw_at lw_m5 57 rfl) rfl
theorem q1180 : (Jvm.Cond.laysFinal "LazyForge$Function" "LazyForge$Function" "locals" "Ljava/util/ArrayList;") ∈ lw_all := lw_g (lw_at lw_m5 58 rfl) rfl
theorem q1181 : (Jvm.Cond.soleField "LazyForge$Function" "locals") ∈ lw_all := lw_g (lw_at lw_m5 59 rfl) rfl
theorem q1182 : (Jvm.Cond.lays "LazyForge$Function" "LazyForge$Function" "body" "LLazyForge$Part;") ∈ lw_all := lw_g (lw_at lw_m5 60 rfl) rfl
theorem q1183 : (Jvm.Cond.soleField "LazyForge$Function" "body") ∈ lw_all := lw_g (lw_at lw_m5 61 rfl) rfl
theorem q1184 : (Jvm.Cond.lays "LazyForge$Function" "LazyForge$Function" "needed" "I") ∈ lw_all := lw_g (lw_at lw_m5 62 rfl) rfl
theorem q1185 : (Jvm.Cond.soleField "LazyForge$Function" "needed") ∈ lw_all := lw_g (lw_at lw_m5 63 rfl) rfl
theorem q1186 : (Jvm.Cond.lays "LazyForge$Function" "LazyForge$Function" "table" "[J") ∈ lw_all := lw_g (lw_at lw_m5 64 rfl) rfl
theorem q1187 : (Jvm.Cond.soleField "LazyForge$Function" "table") ∈ lw_all := lw_g (lw_at lw_m5 65 rfl) rfl
theorem q1188 : (Jvm.Cond.lays "LazyForge$Function" "LazyForge$Function" "needs" "I") ∈ lw_all := lw_g (lw_at lw_m5 66 rfl) rfl
theorem q1189 : (Jvm.Cond.soleField "LazyForge$Function" "needs") ∈ lw_all := lw_g (lw_at lw_m5 67 rfl) rfl
theorem q1190 : (Jvm.Cond.lays "LazyForge$Function" "LazyForge$Function" "calls" "I") ∈ lw_all := lw_g (lw_at lw_m5 68 rfl) rfl
theorem q1191 : (Jvm.Cond.soleField "LazyForge$Function" "calls") ∈ lw_all := lw_g (lw_at lw_m5 69 rfl) rfl
theorem q1192 : (Jvm.Cond.superclass "LazyForge$Function" "java/lang/Object") ∈ lw_all := lw_g (lw_at lw_m5 70 rfl) rfl
theorem q1230 : (Jvm.Cond.selects "LazyForge$Function" ({ cls := "java/lang/Object", name := "getClass", desc := "()Ljava/lang/Class;" } : Jvm.MethodName) ({ cls := "java/lang/Object", name := "getClass", desc := "()Ljava/lang/Class;" } : Jvm.MethodName)) ∈ lw_all := lw_g (lw_at lw_m5 108 rfl) rfl
theorem q1289 : (Jvm.Cond.fieldLinkNest "LazyForge$Function" (62 : Nat) "LazyForge$Variable" "owner" "LLazyForge$Function;" "LazyForge") ∈ lw_tbl := lw_at lw_m5 167 rfl
theorem q1292 : (Jvm.Cond.fieldLinkNest "LazyForge$Function" (57 : Nat) "LazyForge$Variable" "number" "I" "LazyForge") ∈ lw_tbl := lw_at lw_m5 170 rfl
theorem q1312 : (Jvm.Cond.instanceMethod ({ cls := "LazyForge$Function", name := "local", desc := "()LLazyForge$Variable;" } : Jvm.MethodName)) ∈ lw_all := lw_g (lw_at lw_m5 190 rfl) rfl
theorem q1313 : (Jvm.Cond.selects "LazyForge$Function" ({ cls := "LazyForge$Function", name := "local", desc := "()LLazyForge$Variable;" } : Jvm.MethodName) ({ cls := "LazyForge$Function", name := "local", desc := "()LLazyForge$Variable;" } : Jvm.MethodName)) ∈ lw_all := lw_g (lw_at lw_m5 191 rfl) rfl
theorem q1314 : (Jvm.Cond.code ({ cls := "LazyForge$Function", name := "local", desc := "()LLazyForge$Variable;" } : Jvm.MethodName) prog_8_method_6_code (2 : Nat) (Option.some (Jvm.ClassFile.FieldType.object "LazyForge$Variable"))) ∈ lw_all := lw_g (lw_at lw_m5 192 rfl) rfl
theorem q1315 : (Jvm.Cond.methodLink "LazyForge$Function" (50 : Nat) ({ cls := "LazyForge$Variable", name := "<init>", desc := "(LLazyForge$Function;)V" } : Jvm.MethodName)) ∈ lw_all := lw_g (lw_at lw_m5 193 rfl) rfl
theorem q1316 : (Jvm.Cond.methodLink "LazyForge$Function" (53 : Nat) ({ cls := "java/util/ArrayList", name := "add", desc := "(Ljava/lang/Object;)Z" } : Jvm.MethodName)) ∈ lw_all := lw_g (lw_at lw_m5 194 rfl) rfl
theorem q1408 : (Jvm.Cond.selects "LazyForge$Function" ({ cls := "java/lang/Object", name := "equals", desc := "(Ljava/lang/Object;)Z" } : Jvm.MethodName) ({ cls := "java/lang/Object", name := "equals", desc := "(Ljava/lang/Object;)Z" } : Jvm.MethodName)) ∈ lw_all := lw_g (lw_at lw_m6 46 rfl) rfl
theorem q1605 : (Jvm.Cond.instanceMethod ({ cls := "LazyForge$Function", name := "parameters", desc := "()I" } : Jvm.MethodName)) ∈ lw_all := lw_g (lw_at lw_m7 3 rfl) rfl
theorem q1606 : (Jvm.Cond.selects "LazyForge$Function" ({ cls := "LazyForge$Function", name := "parameters", desc := "()I" } : Jvm.MethodName) ({ cls := "LazyForge$Function", name := "parameters", desc := "()I" } : Jvm.MethodName)) ∈ lw_all := lw_g (lw_at lw_m7 4 rfl) rfl
theorem q1607 : (Jvm.Cond.code ({ cls := "LazyForge$Function", name := "parameters", desc := "()I" } : Jvm.MethodName) prog_8_method_2_code (1 : Nat) (Option.some Jvm.ClassFile.FieldType.int)) ∈ lw_all := lw_g (lw_at lw_m7 5 rfl) rfl
theorem q1608 : (Jvm.Cond.methodLink "LazyForge$Function" (36 : Nat) ({ cls := "java/util/ArrayList", name := "size", desc := "()I" } : Jvm.MethodName)) ∈ lw_all := lw_g (lw_at lw_m7 6 rfl) rfl
theorem q1610 : (Jvm.Cond.instanceMethod ({ cls := "LazyForge$Function", name := "count", desc := "()V" } : Jvm.MethodName)) ∈ lw_all := lw_g (lw_at lw_m7 8 rfl) rfl
theorem q1611 : (Jvm.Cond.selects "LazyForge$Function" ({ cls := "LazyForge$Function", name := "count", desc := "()V" } : Jvm.MethodName) ({ cls := "LazyForge$Function", name := "count", desc := "()V" } : Jvm.MethodName)) ∈ lw_all := lw_g (lw_at lw_m7 9 rfl) rfl
theorem q1612 : (Jvm.Cond.code ({ cls := "LazyForge$Function", name := "count", desc := "()V" } : Jvm.MethodName) prog_8_method_7_code (2 : Nat) (Option.none : Option Jvm.ClassFile.FieldType)) ∈ lw_all := lw_g (lw_at lw_m7 10 rfl) rfl
theorem q1613 : (Jvm.Cond.methodLink "LazyForge$Function" (58 : Nat) ({ cls := "java/util/ArrayList", name := "get", desc := "(I)Ljava/lang/Object;" } : Jvm.MethodName)) ∈ lw_all := lw_g (lw_at lw_m7 11 rfl) rfl
theorem q1614 : (Jvm.Cond.methodLink "LazyForge$Function" (47 : Nat) ({ cls := "LazyForge$Function", name := "parameters", desc := "()I" } : Jvm.MethodName)) ∈ lw_all := lw_g (lw_at lw_m7 12 rfl) rfl
theorem q1616 : (Jvm.Cond.instanceMethod ({ cls := "LazyForge$Function", name := "variables", desc := "()I" } : Jvm.MethodName)) ∈ lw_all := lw_g (lw_at lw_m7 14 rfl) rfl
theorem q1617 : (Jvm.Cond.selects "LazyForge$Function" ({ cls := "LazyForge$Function", name := "variables", desc := "()I" } : Jvm.MethodName) ({ cls := "LazyForge$Function", name := "variables", desc := "()I" } : Jvm.MethodName)) ∈ lw_all := lw_g (lw_at lw_m7 15 rfl) rfl
theorem q1618 : (Jvm.Cond.code ({ cls := "LazyForge$Function", name := "variables", desc := "()I" } : Jvm.MethodName) prog_8_method_5_code (1 : Nat) (Option.some Jvm.ClassFile.FieldType.int)) ∈ lw_all := lw_g (lw_at lw_m7 16 rfl) rfl
theorem q1624 : (Jvm.Cond.instanceMethod ({ cls := "LazyForge$Function", name := "numberOf", desc := "(LLazyForge$Variable;)I" } : Jvm.MethodName)) ∈ lw_all := lw_g (lw_at lw_m7 22 rfl) rfl
theorem q1625 : (Jvm.Cond.selects "LazyForge$Function" ({ cls := "LazyForge$Function", name := "numberOf", desc := "(LLazyForge$Variable;)I" } : Jvm.MethodName) ({ cls := "LazyForge$Function", name := "numberOf", desc := "(LLazyForge$Variable;)I" } : Jvm.MethodName)) ∈ lw_all := lw_g (lw_at lw_m7 23 rfl) rfl
theorem q1626 : (Jvm.Cond.code ({ cls := "LazyForge$Function", name := "numberOf", desc := "(LLazyForge$Variable;)I" } : Jvm.MethodName) prog_8_method_8_code (2 : Nat) (Option.some Jvm.ClassFile.FieldType.int)) ∈ lw_all := lw_g (lw_at lw_m7 24 rfl) rfl
theorem q1627 : (Jvm.Cond.methodLink "LazyForge$Function" (65 : Nat) ({ cls := "java/util/ArrayList", name := "indexOf", desc := "(Ljava/lang/Object;)I" } : Jvm.MethodName)) ∈ lw_all := lw_g (lw_at lw_m7 25 rfl) rfl
theorem q1639 : (Jvm.Cond.instanceMethod ({ cls := "LazyForge$Function", name := "at", desc := "(I)Z" } : Jvm.MethodName)) ∈ lw_all := lw_g (lw_at lw_m7 37 rfl) rfl
theorem q1640 : (Jvm.Cond.selects "LazyForge$Function" ({ cls := "LazyForge$Function", name := "at", desc := "(I)Z" } : Jvm.MethodName) ({ cls := "LazyForge$Function", name := "at", desc := "(I)Z" } : Jvm.MethodName)) ∈ lw_all := lw_g (lw_at lw_m7 38 rfl) rfl
theorem q1641 : (Jvm.Cond.code ({ cls := "LazyForge$Function", name := "at", desc := "(I)Z" } : Jvm.MethodName) prog_8_method_3_code (2 : Nat) (Option.some Jvm.ClassFile.FieldType.boolean)) ∈ lw_all := lw_g (lw_at lw_m7 39 rfl) rfl
theorem q2132 : (Jvm.Cond.instanceMethod ({ cls := "LazyForge$Function", name := "needs", desc := "(I)Z" } : Jvm.MethodName)) ∈ lw_all := lw_g (lw_at lw_m9 50 rfl) rfl
theorem q2133 : (Jvm.Cond.selects "LazyForge$Function" ({ cls := "LazyForge$Function", name := "needs", desc := "(I)Z" } : Jvm.MethodName) ({ cls := "LazyForge$Function", name := "needs", desc := "(I)Z" } : Jvm.MethodName)) ∈ lw_all := lw_g (lw_at lw_m9 51 rfl) rfl
theorem q2134 : (Jvm.Cond.code ({ cls := "LazyForge$Function", name := "needs", desc := "(I)Z" } : Jvm.MethodName) prog_8_method_4_code (2 : Nat) (Option.some Jvm.ClassFile.FieldType.boolean)) ∈ lw_all := lw_g (lw_at lw_m9 52 rfl) rfl
theorem q3467 : (Jvm.Cond.castable "LazyForge$Function" "LazyForge$Function") ∈ lw_tbl := lw_at lw_m14 185 rfl
theorem q3507 : (Jvm.Cond.castable "LazyForge$Function" "java/lang/Object") ∈ lw_tbl := lw_at lw_m14 225 rfl
theorem in_X16 : ∀ w ∈ wsX160, w ∈ lw_all := lw_in wsX160 [1170, 1172, 1174, 1176, 1178, 1180, 1182, 1184, 1186, 1188, 1190] (by decide +kernel) (by decide +kernel)

/-! LazyForge$Variable -/
set_option maxRecDepth 100000
def RX17 : String := "LazyForge$Variable"
def TX17 : u_T := fun k => match k with
  | 0 => ("LazyForge$Variable", "owner", "LLazyForge$Function;", true)
  | _ => ("LazyForge$Variable", "number", "I", false)
def tyX17 : Nat → FieldType := fun k => match k with
  | 0 => .object "LazyForge$Function"
  | _ => .int
abbrev wsX170 : List Cond := u_ws RX17 TX17 2
theorem nmX17 : ∀ a, a < 2 → ∀ b, b < 2 → a ≠ b → (TX17 a).2.1 ≠ (TX17 b).2.1 := by decide +kernel
theorem tyX17_ok : ∀ k, k < 2 → parseFieldDescriptor (TX17 k).2.2.1 = some (tyX17 k) := by decide +kernel
abbrev cX17_init : ByteArray := prog_24_method_1_code
def yX17_init : MethodName := ⟨RX17, "<init>", "(LLazyForge$Function;)V"⟩
theorem q197 : (Jvm.Cond.initialized "LazyForge$Variable") ∈ lw_all := lw_g (lw_at lw_m1 35 rfl) rfl
theorem q1244 : (Jvm.Cond.selects "LazyForge$Variable" ({ cls := "java/lang/Object", name := "getClass", desc := "()Ljava/lang/Class;" } : Jvm.MethodName) ({ cls := "java/lang/Object", name := "getClass", desc := "()Ljava/lang/Class;" } : Jvm.MethodName)) ∈ lw_all := lw_g (lw_at lw_m5 122 rfl) rfl
theorem q1282 : (Jvm.Cond.instantiable "LazyForge$Variable" (2 : Nat)) ∈ lw_all := lw_g (lw_at lw_m5 160 rfl) rfl
theorem q1284 : (Jvm.Cond.instanceMethod ({ cls := "LazyForge$Variable", name := "<init>", desc := "(LLazyForge$Function;)V" } : Jvm.MethodName)) ∈ lw_all := lw_g (lw_at lw_m5 162 rfl) rfl
theorem q1285 : (Jvm.Cond.code ({ cls := "LazyForge$Variable", name := "<init>", desc := "(LLazyForge$Function;)V" } : Jvm.MethodName) prog_24_method_1_code (2 : Nat) (Option.none : Option Jvm.ClassFile.FieldType)) ∈ lw_all := lw_g (lw_at lw_m5 163 rfl) rfl
theorem q1286 : (Jvm.Cond.methodLink "LazyForge$Variable" (1 : Nat) ({ cls := "java/lang/Object", name := "<init>", desc := "()V" } : Jvm.MethodName)) ∈ lw_all := lw_g (lw_at lw_m5 164 rfl) rfl
theorem q1287 : (Jvm.Cond.fieldLink "LazyForge$Variable" (7 : Nat) "LazyForge$Variable" "owner" "LLazyForge$Function;") ∈ lw_all := lw_g (lw_at lw_m5 165 rfl) rfl
theorem q1293 : (Jvm.Cond.laysFinal "LazyForge$Variable" "LazyForge$Variable" "owner" "LLazyForge$Function;") ∈ lw_all := lw_g (lw_at lw_m5 171 rfl) rfl
theorem q1294 : (Jvm.Cond.soleField "LazyForge$Variable" "owner") ∈ lw_all := lw_g (lw_at lw_m5 172 rfl) rfl
theorem q1295 : (Jvm.Cond.lays "LazyForge$Variable" "LazyForge$Variable" "number" "I") ∈ lw_all := lw_g (lw_at lw_m5 173 rfl) rfl
theorem q1296 : (Jvm.Cond.soleField "LazyForge$Variable" "number") ∈ lw_all := lw_g (lw_at lw_m5 174 rfl) rfl
theorem q1297 : (Jvm.Cond.superclass "LazyForge$Variable" "java/lang/Object") ∈ lw_all := lw_g (lw_at lw_m5 175 rfl) rfl
theorem q1422 : (Jvm.Cond.selects "LazyForge$Variable" ({ cls := "java/lang/Object", name := "equals", desc := "(Ljava/lang/Object;)Z" } : Jvm.MethodName) ({ cls := "java/lang/Object", name := "equals", desc := "(Ljava/lang/Object;)Z" } : Jvm.MethodName)) ∈ lw_all := lw_g (lw_at lw_m6 60 rfl) rfl
theorem q3468 : (Jvm.Cond.castable "LazyForge$Variable" "LazyForge$Variable") ∈ lw_tbl := lw_at lw_m14 186 rfl
theorem q3508 : (Jvm.Cond.castable "LazyForge$Variable" "java/lang/Object") ∈ lw_tbl := lw_at lw_m14 226 rfl
theorem in_X17 : ∀ w ∈ wsX170, w ∈ lw_all := lw_in wsX170 [1293, 1295] (by decide +kernel) (by decide +kernel)

/-! LazyForge$Let -/
set_option maxRecDepth 100000
def RX18 : String := "LazyForge$Let"
def TX18 : u_T := fun k => match k with
  | 0 => ("LazyForge$Part", "parts", "I", false)
  | 1 => ("LazyForge$Part", "high", "I", false)
  | 2 => ("LazyForge$Part", "number", "I", false)
  | 3 => ("LazyForge$Part", "captured", "[I", false)
  | 4 => ("LazyForge$Part", "in", "LLazyForge$Function;", false)
  | 5 => ("LazyForge$Let", "names", "[LLazyForge$Variable;", true)
  | 6 => ("LazyForge$Let", "bound", "[LLazyForge$Part;", true)
  | 7 => ("LazyForge$Let", "body", "LLazyForge$Part;", true)
  | _ => ("LazyForge$Let", "needed", "Z", false)
def tyX18 : Nat → FieldType := fun k => match k with
  | 0 => .int
  | 1 => .int
  | 2 => .int
  | 3 => .array .int
  | 4 => .object "LazyForge$Function"
  | 5 => .array (.object "LazyForge$Variable")
  | 6 => .array (.object "LazyForge$Part")
  | 7 => .object "LazyForge$Part"
  | _ => .boolean
abbrev wsX180 : List Cond := u_ws RX18 TX18 9
theorem nmX18 : ∀ a, a < 9 → ∀ b, b < 9 → a ≠ b → (TX18 a).2.1 ≠ (TX18 b).2.1 := by decide +kernel
theorem tyX18_ok : ∀ k, k < 9 → parseFieldDescriptor (TX18 k).2.2.1 = some (tyX18 k) := by decide +kernel
abbrev cX18_init : ByteArray := prog_10_method_1_code
def yX18_init : MethodName := ⟨RX18, "<init>", "([LLazyForge$Variable;[LLazyForge$Part;LLazyForge$Part;)V"⟩
abbrev cX18_clear : ByteArray := prog_10_method_2_code
def yX18_clear : MethodName := ⟨RX18, "clear", "([Z)V"⟩
abbrev cX18_bit : ByteArray := prog_10_method_3_code
def yX18_bit : MethodName := ⟨RX18, "bit", "([Z)Z"⟩
abbrev cX18_uses : ByteArray := prog_10_method_4_code
def yX18_uses : MethodName := ⟨RX18, "uses", "([Z)V"⟩
abbrev cX18_bound : ByteArray := prog_10_method_5_code
def yX18_bound : MethodName := ⟨RX18, "bound", "([Z)V"⟩
abbrev cX18_prepare : ByteArray := prog_10_method_11_code
def yX18_prepare : MethodName := ⟨RX18, "prepare", "(LLazyForge$Program;LLazyForge$Function;)V"⟩
abbrev cX18_write : ByteArray := prog_10_method_10_code
def yX18_write : MethodName := ⟨RX18, "write", "(LLazyForge$Writer;)V"⟩
abbrev cX18_keep : ByteArray := prog_10_method_6_code
def yX18_keep : MethodName := ⟨RX18, "keep", "(LLazyForge$Machine;)J"⟩
abbrev cX18_step : ByteArray := prog_10_method_9_code
def yX18_step : MethodName := ⟨RX18, "step", "(LLazyForge$Machine;I)V"⟩
abbrev cX18_begin : ByteArray := prog_10_method_7_code
def yX18_begin : MethodName := ⟨RX18, "begin", "(LLazyForge$Machine;LLazyForge$Part;)J"⟩
abbrev cX18_fill : ByteArray := prog_10_method_8_code
def yX18_fill : MethodName := ⟨RX18, "fill", "(LLazyForge$Machine;LLazyForge$Part;J)Z"⟩
theorem q198 : (Jvm.Cond.initialized "LazyForge$Let") ∈ lw_all := lw_g (lw_at lw_m1 36 rfl) rfl
theorem q346 : (Jvm.Cond.fieldLinkNest "LazyForge$Let" (93 : Nat) "LazyForge$Machine" "isEager" "Z" "LazyForge") ∈ lw_tbl := lw_at lw_m1 184 rfl
theorem q371 : (Jvm.Cond.fieldLinkNest "LazyForge$Let" (100 : Nat) "LazyForge$Machine" "atOnce" "I" "LazyForge") ∈ lw_tbl := lw_at lw_m1 209 rfl
theorem q1066 : (Jvm.Cond.fieldLinkNest "LazyForge$Let" (150 : Nat) "LazyForge$Program" "some" "[Z" "LazyForge") ∈ lw_tbl := lw_at lw_m4 184 rfl
theorem q1162 : (Jvm.Cond.fieldLinkNest "LazyForge$Let" (159 : Nat) "LazyForge$Function" "needed" "I" "LazyForge") ∈ lw_tbl := lw_at lw_m5 40 rfl
theorem q1232 : (Jvm.Cond.selects "LazyForge$Let" ({ cls := "java/lang/Object", name := "getClass", desc := "()Ljava/lang/Class;" } : Jvm.MethodName) ({ cls := "java/lang/Object", name := "getClass", desc := "()Ljava/lang/Class;" } : Jvm.MethodName)) ∈ lw_all := lw_g (lw_at lw_m5 110 rfl) rfl
theorem q1290 : (Jvm.Cond.fieldLinkNest "LazyForge$Let" (25 : Nat) "LazyForge$Variable" "number" "I" "LazyForge") ∈ lw_tbl := lw_at lw_m5 168 rfl
theorem q1323 : (Jvm.Cond.instantiable "LazyForge$Let" (9 : Nat)) ∈ lw_all := lw_g (lw_at lw_m5 201 rfl) rfl
theorem q1325 : (Jvm.Cond.instanceMethod ({ cls := "LazyForge$Let", name := "<init>", desc := "([LLazyForge$Variable;[LLazyForge$Part;LLazyForge$Part;)V" } : Jvm.MethodName)) ∈ lw_all := lw_g (lw_at lw_m5 203 rfl) rfl
theorem q1326 : (Jvm.Cond.code ({ cls := "LazyForge$Let", name := "<init>", desc := "([LLazyForge$Variable;[LLazyForge$Part;LLazyForge$Part;)V" } : Jvm.MethodName) prog_10_method_1_code (8 : Nat) (Option.none : Option Jvm.ClassFile.FieldType)) ∈ lw_all := lw_g (lw_at lw_m5 204 rfl) rfl
theorem q1327 : (Jvm.Cond.methodLinkNest "LazyForge$Let" (1 : Nat) ({ cls := "LazyForge$Part", name := "<init>", desc := "()V" } : Jvm.MethodName) "LazyForge") ∈ lw_tbl := lw_at lw_m5 205 rfl
theorem q1328 : (Jvm.Cond.methodLink "LazyForge$Let" (21 : Nat) ({ cls := "LazyForge$Let", name := "has", desc := "(LLazyForge$Part;)V" } : Jvm.MethodName)) ∈ lw_all := lw_g (lw_at lw_m5 206 rfl) rfl
theorem q1329 : (Jvm.Cond.sameMethod "LazyForge$Let" "LazyForge$Part" "has" "(LLazyForge$Part;)V") ∈ lw_all := lw_g (lw_at lw_m5 207 rfl) rfl
theorem q1331 : (Jvm.Cond.selects "LazyForge$Let" ({ cls := "LazyForge$Let", name := "has", desc := "(LLazyForge$Part;)V" } : Jvm.MethodName) ({ cls := "LazyForge$Part", name := "has", desc := "(LLazyForge$Part;)V" } : Jvm.MethodName)) ∈ lw_all := lw_g (lw_at lw_m5 209 rfl) rfl
theorem q1335 : (Jvm.Cond.fieldLink "LazyForge$Let" (7 : Nat) "LazyForge$Let" "names" "[LLazyForge$Variable;") ∈ lw_all := lw_g (lw_at lw_m5 213 rfl) rfl
theorem q1336 : (Jvm.Cond.fieldLink "LazyForge$Let" (13 : Nat) "LazyForge$Let" "bound" "[LLazyForge$Part;") ∈ lw_all := lw_g (lw_at lw_m5 214 rfl) rfl
theorem q1337 : (Jvm.Cond.fieldLink "LazyForge$Let" (17 : Nat) "LazyForge$Let" "body" "LLazyForge$Part;") ∈ lw_all := lw_g (lw_at lw_m5 215 rfl) rfl
theorem q1338 : (Jvm.Cond.fieldLink "LazyForge$Let" (97 : Nat) "LazyForge$Let" "needed" "Z") ∈ lw_all := lw_g (lw_at lw_m5 216 rfl) rfl
theorem q1339 : (Jvm.Cond.laysFinal "LazyForge$Let" "LazyForge$Let" "names" "[LLazyForge$Variable;") ∈ lw_all := lw_g (lw_at lw_m5 217 rfl) rfl
theorem q1340 : (Jvm.Cond.soleField "LazyForge$Let" "names") ∈ lw_all := lw_g (lw_at lw_m5 218 rfl) rfl
theorem q1341 : (Jvm.Cond.laysFinal "LazyForge$Let" "LazyForge$Let" "bound" "[LLazyForge$Part;") ∈ lw_all := lw_g (lw_at lw_m5 219 rfl) rfl
theorem q1342 : (Jvm.Cond.soleField "LazyForge$Let" "bound") ∈ lw_all := lw_g (lw_at lw_m5 220 rfl) rfl
theorem q1343 : (Jvm.Cond.laysFinal "LazyForge$Let" "LazyForge$Let" "body" "LLazyForge$Part;") ∈ lw_all := lw_g (lw_at lw_m5 221 rfl) rfl
theorem q1344 : (Jvm.Cond.soleField "LazyForge$Let" "body") ∈ lw_all := lw_g (lw_at lw_m5 222 rfl) rfl
theorem q1345 : (Jvm.Cond.lays "LazyForge$Let" "LazyForge$Let" "needed" "Z") ∈ lw_all := lw_g (lw_at lw_m5 223 rfl) rfl
theorem q1346 : (Jvm.Cond.soleField "LazyForge$Let" "needed") ∈ lw_all := lw_g (lw_at lw_m5 224 rfl) rfl
theorem q1347 : (Jvm.Cond.lays "LazyForge$Let" "LazyForge$Part" "parts" "I") ∈ lw_all := lw_g (lw_at lw_m5 225 rfl) rfl
theorem q1348 : (Jvm.Cond.lays "LazyForge$Let" "LazyForge$Part" "high" "I") ∈ lw_all := lw_g (lw_at lw_m5 226 rfl) rfl
theorem q1349 : (Jvm.Cond.lays "LazyForge$Let" "LazyForge$Part" "number" "I") ∈ lw_all := lw_g (lw_at lw_m5 227 rfl) rfl
theorem q1350 : (Jvm.Cond.lays "LazyForge$Let" "LazyForge$Part" "captured" "[I") ∈ lw_all := lw_g (lw_at lw_m5 228 rfl) rfl
theorem q1351 : (Jvm.Cond.lays "LazyForge$Let" "LazyForge$Part" "in" "LLazyForge$Function;") ∈ lw_all := lw_g (lw_at lw_m5 229 rfl) rfl
theorem q1352 : (Jvm.Cond.superclass "LazyForge$Let" "LazyForge$Part") ∈ lw_all := lw_g (lw_at lw_m5 230 rfl) rfl
theorem q1410 : (Jvm.Cond.selects "LazyForge$Let" ({ cls := "java/lang/Object", name := "equals", desc := "(Ljava/lang/Object;)Z" } : Jvm.MethodName) ({ cls := "java/lang/Object", name := "equals", desc := "(Ljava/lang/Object;)Z" } : Jvm.MethodName)) ∈ lw_all := lw_g (lw_at lw_m6 48 rfl) rfl
theorem q1652 : (Jvm.Cond.selects "LazyForge$Let" ({ cls := "LazyForge$Part", name := "least", desc := "([Z)Z" } : Jvm.MethodName) ({ cls := "LazyForge$Part", name := "least", desc := "([Z)Z" } : Jvm.MethodName)) ∈ lw_all := lw_g (lw_at lw_m7 50 rfl) rfl
theorem q1671 : (Jvm.Cond.instanceMethod ({ cls := "LazyForge$Let", name := "clear", desc := "([Z)V" } : Jvm.MethodName)) ∈ lw_all := lw_g (lw_at lw_m7 69 rfl) rfl
theorem q1672 : (Jvm.Cond.code ({ cls := "LazyForge$Let", name := "clear", desc := "([Z)V" } : Jvm.MethodName) prog_10_method_2_code (6 : Nat) (Option.none : Option Jvm.ClassFile.FieldType)) ∈ lw_all := lw_g (lw_at lw_m7 70 rfl) rfl
theorem q1673 : (Jvm.Cond.methodLink "LazyForge$Let" (31 : Nat) ({ cls := "LazyForge$Part", name := "clear", desc := "([Z)V" } : Jvm.MethodName)) ∈ lw_all := lw_g (lw_at lw_m7 71 rfl) rfl
theorem q1685 : (Jvm.Cond.selects "LazyForge$Let" ({ cls := "LazyForge$Part", name := "clear", desc := "([Z)V" } : Jvm.MethodName) ({ cls := "LazyForge$Let", name := "clear", desc := "([Z)V" } : Jvm.MethodName)) ∈ lw_all := lw_g (lw_at lw_m7 83 rfl) rfl
theorem q1709 : (Jvm.Cond.instanceMethod ({ cls := "LazyForge$Let", name := "bit", desc := "([Z)Z" } : Jvm.MethodName)) ∈ lw_all := lw_g (lw_at lw_m7 107 rfl) rfl
theorem q1710 : (Jvm.Cond.code ({ cls := "LazyForge$Let", name := "bit", desc := "([Z)Z" } : Jvm.MethodName) prog_10_method_3_code (4 : Nat) (Option.some Jvm.ClassFile.FieldType.boolean)) ∈ lw_all := lw_g (lw_at lw_m7 108 rfl) rfl
theorem q1711 : (Jvm.Cond.methodLink "LazyForge$Let" (35 : Nat) ({ cls := "LazyForge$Part", name := "bit", desc := "([Z)Z" } : Jvm.MethodName)) ∈ lw_all := lw_g (lw_at lw_m7 109 rfl) rfl
theorem q1736 : (Jvm.Cond.selects "LazyForge$Let" ({ cls := "LazyForge$Part", name := "bit", desc := "([Z)Z" } : Jvm.MethodName) ({ cls := "LazyForge$Let", name := "bit", desc := "([Z)Z" } : Jvm.MethodName)) ∈ lw_all := lw_g (lw_at lw_m7 134 rfl) rfl
theorem q1779 : (Jvm.Cond.instanceMethod ({ cls := "LazyForge$Let", name := "uses", desc := "([Z)V" } : Jvm.MethodName)) ∈ lw_all := lw_g (lw_at lw_m7 177 rfl) rfl
theorem q1780 : (Jvm.Cond.code ({ cls := "LazyForge$Let", name := "uses", desc := "([Z)V" } : Jvm.MethodName) prog_10_method_4_code (6 : Nat) (Option.none : Option Jvm.ClassFile.FieldType)) ∈ lw_all := lw_g (lw_at lw_m7 178 rfl) rfl
theorem q1781 : (Jvm.Cond.methodLink "LazyForge$Let" (39 : Nat) ({ cls := "LazyForge$Part", name := "uses", desc := "([Z)V" } : Jvm.MethodName)) ∈ lw_all := lw_g (lw_at lw_m7 179 rfl) rfl
theorem q1799 : (Jvm.Cond.selects "LazyForge$Let" ({ cls := "LazyForge$Part", name := "uses", desc := "([Z)V" } : Jvm.MethodName) ({ cls := "LazyForge$Let", name := "uses", desc := "([Z)V" } : Jvm.MethodName)) ∈ lw_all := lw_g (lw_at lw_m7 197 rfl) rfl
theorem q1817 : (Jvm.Cond.instanceMethod ({ cls := "LazyForge$Let", name := "bound", desc := "([Z)V" } : Jvm.MethodName)) ∈ lw_all := lw_g (lw_at lw_m7 215 rfl) rfl
theorem q1818 : (Jvm.Cond.code ({ cls := "LazyForge$Let", name := "bound", desc := "([Z)V" } : Jvm.MethodName) prog_10_method_5_code (6 : Nat) (Option.none : Option Jvm.ClassFile.FieldType)) ∈ lw_all := lw_g (lw_at lw_m7 216 rfl) rfl
theorem q1819 : (Jvm.Cond.methodLink "LazyForge$Let" (42 : Nat) ({ cls := "LazyForge$Part", name := "bound", desc := "([Z)V" } : Jvm.MethodName)) ∈ lw_all := lw_g (lw_at lw_m7 217 rfl) rfl
theorem q1831 : (Jvm.Cond.selects "LazyForge$Let" ({ cls := "LazyForge$Part", name := "bound", desc := "([Z)V" } : Jvm.MethodName) ({ cls := "LazyForge$Let", name := "bound", desc := "([Z)V" } : Jvm.MethodName)) ∈ lw_all := lw_g (lw_at lw_m7 229 rfl) rfl
theorem q1841 : (Jvm.Cond.instanceMethod ({ cls := "LazyForge$Let", name := "prepare", desc := "(LLazyForge$Program;LLazyForge$Function;)V" } : Jvm.MethodName)) ∈ lw_all := lw_g (lw_at lw_m7 239 rfl) rfl
theorem q1842 : (Jvm.Cond.code ({ cls := "LazyForge$Let", name := "prepare", desc := "(LLazyForge$Program;LLazyForge$Function;)V" } : Jvm.MethodName) prog_10_method_11_code (7 : Nat) (Option.none : Option Jvm.ClassFile.FieldType)) ∈ lw_all := lw_g (lw_at lw_m8 0 rfl) rfl
theorem q1843 : (Jvm.Cond.methodLink "LazyForge$Let" (143 : Nat) ({ cls := "LazyForge$Part", name := "prepare", desc := "(LLazyForge$Program;LLazyForge$Function;)V" } : Jvm.MethodName)) ∈ lw_all := lw_g (lw_at lw_m8 1 rfl) rfl
theorem q1862 : (Jvm.Cond.methodLink "LazyForge$Let" (147 : Nat) ({ cls := "LazyForge$Let", name := "mayWait", desc := "(LLazyForge$Program;LLazyForge$Function;)V" } : Jvm.MethodName)) ∈ lw_all := lw_g (lw_at lw_m8 20 rfl) rfl
theorem q1863 : (Jvm.Cond.sameMethod "LazyForge$Let" "LazyForge$Part" "mayWait" "(LLazyForge$Program;LLazyForge$Function;)V") ∈ lw_all := lw_g (lw_at lw_m8 21 rfl) rfl
theorem q1864 : (Jvm.Cond.selects "LazyForge$Let" ({ cls := "LazyForge$Let", name := "mayWait", desc := "(LLazyForge$Program;LLazyForge$Function;)V" } : Jvm.MethodName) ({ cls := "LazyForge$Part", name := "mayWait", desc := "(LLazyForge$Program;LLazyForge$Function;)V" } : Jvm.MethodName)) ∈ lw_all := lw_g (lw_at lw_m8 22 rfl) rfl
theorem q1865 : (Jvm.Cond.methodLink "LazyForge$Let" (156 : Nat) ({ cls := "LazyForge$Part", name := "least", desc := "([Z)Z" } : Jvm.MethodName)) ∈ lw_all := lw_g (lw_at lw_m8 23 rfl) rfl
theorem q1886 : (Jvm.Cond.selects "LazyForge$Let" ({ cls := "LazyForge$Part", name := "prepare", desc := "(LLazyForge$Program;LLazyForge$Function;)V" } : Jvm.MethodName) ({ cls := "LazyForge$Let", name := "prepare", desc := "(LLazyForge$Program;LLazyForge$Function;)V" } : Jvm.MethodName)) ∈ lw_all := lw_g (lw_at lw_m8 44 rfl) rfl
theorem q1992 : (Jvm.Cond.instanceMethod ({ cls := "LazyForge$Let", name := "write", desc := "(LLazyForge$Writer;)V" } : Jvm.MethodName)) ∈ lw_all := lw_g (lw_at lw_m8 150 rfl) rfl
theorem q1993 : (Jvm.Cond.code ({ cls := "LazyForge$Let", name := "write", desc := "(LLazyForge$Writer;)V" } : Jvm.MethodName) prog_10_method_10_code (3 : Nat) (Option.none : Option Jvm.ClassFile.FieldType)) ∈ lw_all := lw_g (lw_at lw_m8 151 rfl) rfl
theorem q1994 : (Jvm.Cond.stringRef "LazyForge$Let" (117 : Nat) "(let ") ∈ lw_tbl := lw_at lw_m8 152 rfl
theorem q1995 : (Jvm.Cond.methodLink "LazyForge$Let" (119 : Nat) ({ cls := "LazyForge$Writer", name := "text", desc := "(Ljava/lang/String;)V" } : Jvm.MethodName)) ∈ lw_all := lw_g (lw_at lw_m8 153 rfl) rfl
theorem q1996 : (Jvm.Cond.stringRef "LazyForge$Let" (125 : Nat) ", ") ∈ lw_tbl := lw_at lw_m8 154 rfl
theorem q1997 : (Jvm.Cond.methodLink "LazyForge$Let" (127 : Nat) ({ cls := "LazyForge$Writer", name := "variable", desc := "(I)V" } : Jvm.MethodName)) ∈ lw_all := lw_g (lw_at lw_m8 155 rfl) rfl
theorem q1998 : (Jvm.Cond.stringRef "LazyForge$Let" (131 : Nat) " = ") ∈ lw_tbl := lw_at lw_m8 156 rfl
theorem q1999 : (Jvm.Cond.methodLink "LazyForge$Let" (133 : Nat) ({ cls := "LazyForge$Part", name := "write", desc := "(LLazyForge$Writer;)V" } : Jvm.MethodName)) ∈ lw_all := lw_g (lw_at lw_m8 157 rfl) rfl
theorem q2036 : (Jvm.Cond.stringRef "LazyForge$Let" (137 : Nat) " in ") ∈ lw_tbl := lw_at lw_m8 194 rfl
theorem q2037 : (Jvm.Cond.methodLink "LazyForge$Let" (139 : Nat) ({ cls := "LazyForge$Writer", name := "sign", desc := "(C)V" } : Jvm.MethodName)) ∈ lw_all := lw_g (lw_at lw_m8 195 rfl) rfl
theorem q2051 : (Jvm.Cond.selects "LazyForge$Let" ({ cls := "LazyForge$Part", name := "write", desc := "(LLazyForge$Writer;)V" } : Jvm.MethodName) ({ cls := "LazyForge$Let", name := "write", desc := "(LLazyForge$Writer;)V" } : Jvm.MethodName)) ∈ lw_all := lw_g (lw_at lw_m8 209 rfl) rfl
theorem q2288 : (Jvm.Cond.instanceMethod ({ cls := "LazyForge$Let", name := "keep", desc := "(LLazyForge$Machine;)J" } : Jvm.MethodName)) ∈ lw_all := lw_g (lw_at lw_m9 206 rfl) rfl
theorem q2289 : (Jvm.Cond.code ({ cls := "LazyForge$Let", name := "keep", desc := "(LLazyForge$Machine;)J" } : Jvm.MethodName) prog_10_method_6_code (2 : Nat) (Option.some Jvm.ClassFile.FieldType.long)) ∈ lw_all := lw_g (lw_at lw_m9 207 rfl) rfl
theorem q2290 : (Jvm.Cond.methodLink "LazyForge$Let" (44 : Nat) ({ cls := "LazyForge$Machine", name := "suspend", desc := "(LLazyForge$Part;)J" } : Jvm.MethodName)) ∈ lw_all := lw_g (lw_at lw_m9 208 rfl) rfl
theorem q2329 : (Jvm.Cond.selects "LazyForge$Let" ({ cls := "LazyForge$Part", name := "keep", desc := "(LLazyForge$Machine;)J" } : Jvm.MethodName) ({ cls := "LazyForge$Let", name := "keep", desc := "(LLazyForge$Machine;)J" } : Jvm.MethodName)) ∈ lw_all := lw_g (lw_at lw_m10 7 rfl) rfl
theorem q2401 : (Jvm.Cond.selects "LazyForge$Let" ({ cls := "LazyForge$Part", name := "step", desc := "(LLazyForge$Machine;I)V" } : Jvm.MethodName) ({ cls := "LazyForge$Let", name := "step", desc := "(LLazyForge$Machine;I)V" } : Jvm.MethodName)) ∈ lw_all := lw_g (lw_at lw_m10 79 rfl) rfl
theorem q2402 : (Jvm.Cond.instanceMethod ({ cls := "LazyForge$Let", name := "step", desc := "(LLazyForge$Machine;I)V" } : Jvm.MethodName)) ∈ lw_all := lw_g (lw_at lw_m10 80 rfl) rfl
theorem q2403 : (Jvm.Cond.code ({ cls := "LazyForge$Let", name := "step", desc := "(LLazyForge$Machine;I)V" } : Jvm.MethodName) prog_10_method_9_code (6 : Nat) (Option.none : Option Jvm.ClassFile.FieldType)) ∈ lw_all := lw_g (lw_at lw_m10 81 rfl) rfl
theorem q2404 : (Jvm.Cond.methodLink "LazyForge$Let" (82 : Nat) ({ cls := "LazyForge$Machine", name := "taken", desc := "()J" } : Jvm.MethodName)) ∈ lw_all := lw_g (lw_at lw_m10 82 rfl) rfl
theorem q2405 : (Jvm.Cond.methodLink "LazyForge$Let" (86 : Nat) ({ cls := "LazyForge$Machine", name := "set", desc := "(IJ)V" } : Jvm.MethodName)) ∈ lw_all := lw_g (lw_at lw_m10 83 rfl) rfl
theorem q2406 : (Jvm.Cond.methodLink "LazyForge$Let" (90 : Nat) ({ cls := "LazyForge$Machine", name := "work", desc := "(LLazyForge$Part;)V" } : Jvm.MethodName)) ∈ lw_all := lw_g (lw_at lw_m10 84 rfl) rfl
theorem q2407 : (Jvm.Cond.methodLink "LazyForge$Let" (103 : Nat) ({ cls := "LazyForge$Machine", name := "again", desc := "(LLazyForge$Part;I)V" } : Jvm.MethodName)) ∈ lw_all := lw_g (lw_at lw_m10 85 rfl) rfl
theorem q2408 : (Jvm.Cond.methodLink "LazyForge$Let" (107 : Nat) ({ cls := "LazyForge$Let", name := "begin", desc := "(LLazyForge$Machine;LLazyForge$Part;)J" } : Jvm.MethodName)) ∈ lw_all := lw_g (lw_at lw_m10 86 rfl) rfl
theorem q2409 : (Jvm.Cond.static ({ cls := "LazyForge$Let", name := "begin", desc := "(LLazyForge$Machine;LLazyForge$Part;)J" } : Jvm.MethodName)) ∈ lw_all := lw_g (lw_at lw_m10 87 rfl) rfl
theorem q2410 : (Jvm.Cond.code ({ cls := "LazyForge$Let", name := "begin", desc := "(LLazyForge$Machine;LLazyForge$Part;)J" } : Jvm.MethodName) prog_10_method_7_code (2 : Nat) (Option.some Jvm.ClassFile.FieldType.long)) ∈ lw_all := lw_g (lw_at lw_m10 88 rfl) rfl
theorem q2411 : (Jvm.Cond.classLink "LazyForge$Let" (50 : Nat) "LazyForge$Literal") ∈ lw_all := lw_g (lw_at lw_m10 89 rfl) rfl
theorem q2412 : (Jvm.Cond.classLink "LazyForge$Let" (52 : Nat) "LazyForge$Named") ∈ lw_all := lw_g (lw_at lw_m10 90 rfl) rfl
theorem q2413 : (Jvm.Cond.methodLink "LazyForge$Let" (54 : Nat) ({ cls := "LazyForge$Part", name := "keep", desc := "(LLazyForge$Machine;)J" } : Jvm.MethodName)) ∈ lw_all := lw_g (lw_at lw_m10 91 rfl) rfl
theorem q2414 : (Jvm.Cond.classLink "LazyForge$Let" (58 : Nat) "LazyForge$Made") ∈ lw_all := lw_g (lw_at lw_m10 92 rfl) rfl
theorem q2415 : (Jvm.Cond.methodLink "LazyForge$Let" (60 : Nat) ({ cls := "LazyForge$Made", name := "begin", desc := "(LLazyForge$Machine;)J" } : Jvm.MethodName)) ∈ lw_all := lw_g (lw_at lw_m10 93 rfl) rfl
theorem q2416 : (Jvm.Cond.classLink "LazyForge$Let" (63 : Nat) "LazyForge$Apply") ∈ lw_all := lw_g (lw_at lw_m10 94 rfl) rfl
theorem q2417 : (Jvm.Cond.methodLink "LazyForge$Let" (65 : Nat) ({ cls := "LazyForge$Apply", name := "isLess", desc := "()Z" } : Jvm.MethodName)) ∈ lw_all := lw_g (lw_at lw_m10 95 rfl) rfl
theorem q2418 : (Jvm.Cond.methodLink "LazyForge$Let" (69 : Nat) ({ cls := "LazyForge$Apply", name := "begin", desc := "(LLazyForge$Machine;)J" } : Jvm.MethodName)) ∈ lw_all := lw_g (lw_at lw_m10 96 rfl) rfl
theorem q2419 : (Jvm.Cond.methodLink "LazyForge$Let" (70 : Nat) ({ cls := "LazyForge$Machine", name := "reserve", desc := "(LLazyForge$Part;)J" } : Jvm.MethodName)) ∈ lw_all := lw_g (lw_at lw_m10 97 rfl) rfl
theorem q2420 : (Jvm.Cond.methodLink "LazyForge$Let" (110 : Nat) ({ cls := "LazyForge$Machine", name := "local", desc := "(I)J" } : Jvm.MethodName)) ∈ lw_all := lw_g (lw_at lw_m10 98 rfl) rfl
theorem q2421 : (Jvm.Cond.methodLink "LazyForge$Let" (114 : Nat) ({ cls := "LazyForge$Let", name := "fill", desc := "(LLazyForge$Machine;LLazyForge$Part;J)Z" } : Jvm.MethodName)) ∈ lw_all := lw_g (lw_at lw_m10 99 rfl) rfl
theorem q2422 : (Jvm.Cond.static ({ cls := "LazyForge$Let", name := "fill", desc := "(LLazyForge$Machine;LLazyForge$Part;J)Z" } : Jvm.MethodName)) ∈ lw_all := lw_g (lw_at lw_m10 100 rfl) rfl
theorem q2423 : (Jvm.Cond.code ({ cls := "LazyForge$Let", name := "fill", desc := "(LLazyForge$Machine;LLazyForge$Part;J)Z" } : Jvm.MethodName) prog_10_method_8_code (4 : Nat) (Option.some Jvm.ClassFile.FieldType.boolean)) ∈ lw_all := lw_g (lw_at lw_m10 101 rfl) rfl
theorem q2424 : (Jvm.Cond.methodLink "LazyForge$Let" (73 : Nat) ({ cls := "LazyForge$Made", name := "fill", desc := "(LLazyForge$Machine;J)Z" } : Jvm.MethodName)) ∈ lw_all := lw_g (lw_at lw_m10 102 rfl) rfl
theorem q2425 : (Jvm.Cond.methodLink "LazyForge$Let" (77 : Nat) ({ cls := "LazyForge$Apply", name := "fill", desc := "(LLazyForge$Machine;J)Z" } : Jvm.MethodName)) ∈ lw_all := lw_g (lw_at lw_m10 103 rfl) rfl
theorem q2426 : (Jvm.Cond.methodLink "LazyForge$Let" (78 : Nat) ({ cls := "LazyForge$Machine", name := "capture", desc := "(LLazyForge$Part;J)V" } : Jvm.MethodName)) ∈ lw_all := lw_g (lw_at lw_m10 104 rfl) rfl
theorem q3457 : (Jvm.Cond.selects "LazyForge$Let" ({ cls := "LazyForge$Part", name := "mayWait", desc := "(LLazyForge$Program;LLazyForge$Function;)V" } : Jvm.MethodName) ({ cls := "LazyForge$Part", name := "mayWait", desc := "(LLazyForge$Program;LLazyForge$Function;)V" } : Jvm.MethodName)) ∈ lw_all := lw_g (lw_at lw_m14 175 rfl) rfl
theorem q3478 : (Jvm.Cond.castable "LazyForge$Let" "LazyForge$Part") ∈ lw_tbl := lw_at lw_m14 196 rfl
theorem q3509 : (Jvm.Cond.castable "LazyForge$Let" "java/lang/Object") ∈ lw_tbl := lw_at lw_m14 227 rfl
theorem in_X18 : ∀ w ∈ wsX180, w ∈ lw_all := lw_in wsX180 [1347, 1348, 1349, 1350, 1351, 1339, 1341, 1343, 1345] (by decide +kernel) (by decide +kernel)

/-! LazyForge$Named -/
set_option maxRecDepth 100000
def RX19 : String := "LazyForge$Named"
def TX19 : u_T := fun k => match k with
  | 0 => ("LazyForge$Part", "parts", "I", false)
  | 1 => ("LazyForge$Part", "high", "I", false)
  | 2 => ("LazyForge$Part", "number", "I", false)
  | 3 => ("LazyForge$Part", "captured", "[I", false)
  | 4 => ("LazyForge$Part", "in", "LLazyForge$Function;", false)
  | _ => ("LazyForge$Named", "function", "LLazyForge$Function;", true)
def tyX19 : Nat → FieldType := fun k => match k with
  | 0 => .int
  | 1 => .int
  | 2 => .int
  | 3 => .array .int
  | 4 => .object "LazyForge$Function"
  | _ => .object "LazyForge$Function"
abbrev wsX190 : List Cond := u_ws RX19 TX19 6
theorem nmX19 : ∀ a, a < 6 → ∀ b, b < 6 → a ≠ b → (TX19 a).2.1 ≠ (TX19 b).2.1 := by decide +kernel
theorem tyX19_ok : ∀ k, k < 6 → parseFieldDescriptor (TX19 k).2.2.1 = some (tyX19 k) := by decide +kernel
abbrev cX19_init : ByteArray := prog_14_method_1_code
def yX19_init : MethodName := ⟨RX19, "<init>", "(LLazyForge$Function;)V"⟩
abbrev cX19_bit : ByteArray := prog_14_method_3_code
def yX19_bit : MethodName := ⟨RX19, "bit", "([Z)Z"⟩
abbrev cX19_isWhole : ByteArray := prog_14_method_2_code
def yX19_isWhole : MethodName := ⟨RX19, "isWhole", "()Z"⟩
abbrev cX19_uses : ByteArray := prog_14_method_4_code
def yX19_uses : MethodName := ⟨RX19, "uses", "([Z)V"⟩
abbrev cX19_prepare : ByteArray := prog_14_method_8_code
def yX19_prepare : MethodName := ⟨RX19, "prepare", "(LLazyForge$Program;LLazyForge$Function;)V"⟩
abbrev cX19_write : ByteArray := prog_14_method_7_code
def yX19_write : MethodName := ⟨RX19, "write", "(LLazyForge$Writer;)V"⟩
abbrev cX19_keep : ByteArray := prog_14_method_5_code
def yX19_keep : MethodName := ⟨RX19, "keep", "(LLazyForge$Machine;)J"⟩
abbrev cX19_step : ByteArray := prog_14_method_6_code
def yX19_step : MethodName := ⟨RX19, "step", "(LLazyForge$Machine;I)V"⟩
theorem q199 : (Jvm.Cond.initialized "LazyForge$Named") ∈ lw_all := lw_g (lw_at lw_m1 37 rfl) rfl
theorem q1145 : (Jvm.Cond.fieldLinkNest "LazyForge$Named" (37 : Nat) "LazyForge$Function" "number" "I" "LazyForge") ∈ lw_tbl := lw_at lw_m5 23 rfl
theorem q1236 : (Jvm.Cond.selects "LazyForge$Named" ({ cls := "java/lang/Object", name := "getClass", desc := "()Ljava/lang/Class;" } : Jvm.MethodName) ({ cls := "java/lang/Object", name := "getClass", desc := "()Ljava/lang/Class;" } : Jvm.MethodName)) ∈ lw_all := lw_g (lw_at lw_m5 114 rfl) rfl
theorem q1362 : (Jvm.Cond.instantiable "LazyForge$Named" (6 : Nat)) ∈ lw_all := lw_g (lw_at lw_m6 0 rfl) rfl
theorem q1364 : (Jvm.Cond.instanceMethod ({ cls := "LazyForge$Named", name := "<init>", desc := "(LLazyForge$Function;)V" } : Jvm.MethodName)) ∈ lw_all := lw_g (lw_at lw_m6 2 rfl) rfl
theorem q1365 : (Jvm.Cond.code ({ cls := "LazyForge$Named", name := "<init>", desc := "(LLazyForge$Function;)V" } : Jvm.MethodName) prog_14_method_1_code (2 : Nat) (Option.none : Option Jvm.ClassFile.FieldType)) ∈ lw_all := lw_g (lw_at lw_m6 3 rfl) rfl
theorem q1366 : (Jvm.Cond.methodLinkNest "LazyForge$Named" (3 : Nat) ({ cls := "LazyForge$Part", name := "<init>", desc := "()V" } : Jvm.MethodName) "LazyForge") ∈ lw_tbl := lw_at lw_m6 4 rfl
theorem q1367 : (Jvm.Cond.fieldLink "LazyForge$Named" (9 : Nat) "LazyForge$Named" "function" "LLazyForge$Function;") ∈ lw_all := lw_g (lw_at lw_m6 5 rfl) rfl
theorem q1369 : (Jvm.Cond.laysFinal "LazyForge$Named" "LazyForge$Named" "function" "LLazyForge$Function;") ∈ lw_all := lw_g (lw_at lw_m6 7 rfl) rfl
theorem q1370 : (Jvm.Cond.soleField "LazyForge$Named" "function") ∈ lw_all := lw_g (lw_at lw_m6 8 rfl) rfl
theorem q1371 : (Jvm.Cond.lays "LazyForge$Named" "LazyForge$Part" "parts" "I") ∈ lw_all := lw_g (lw_at lw_m6 9 rfl) rfl
theorem q1372 : (Jvm.Cond.lays "LazyForge$Named" "LazyForge$Part" "high" "I") ∈ lw_all := lw_g (lw_at lw_m6 10 rfl) rfl
theorem q1373 : (Jvm.Cond.lays "LazyForge$Named" "LazyForge$Part" "number" "I") ∈ lw_all := lw_g (lw_at lw_m6 11 rfl) rfl
theorem q1374 : (Jvm.Cond.lays "LazyForge$Named" "LazyForge$Part" "captured" "[I") ∈ lw_all := lw_g (lw_at lw_m6 12 rfl) rfl
theorem q1375 : (Jvm.Cond.lays "LazyForge$Named" "LazyForge$Part" "in" "LLazyForge$Function;") ∈ lw_all := lw_g (lw_at lw_m6 13 rfl) rfl
theorem q1376 : (Jvm.Cond.superclass "LazyForge$Named" "LazyForge$Part") ∈ lw_all := lw_g (lw_at lw_m6 14 rfl) rfl
theorem q1414 : (Jvm.Cond.selects "LazyForge$Named" ({ cls := "java/lang/Object", name := "equals", desc := "(Ljava/lang/Object;)Z" } : Jvm.MethodName) ({ cls := "java/lang/Object", name := "equals", desc := "(Ljava/lang/Object;)Z" } : Jvm.MethodName)) ∈ lw_all := lw_g (lw_at lw_m6 52 rfl) rfl
theorem q1655 : (Jvm.Cond.selects "LazyForge$Named" ({ cls := "LazyForge$Part", name := "least", desc := "([Z)Z" } : Jvm.MethodName) ({ cls := "LazyForge$Part", name := "least", desc := "([Z)Z" } : Jvm.MethodName)) ∈ lw_all := lw_g (lw_at lw_m7 53 rfl) rfl
theorem q1688 : (Jvm.Cond.selects "LazyForge$Named" ({ cls := "LazyForge$Part", name := "clear", desc := "([Z)V" } : Jvm.MethodName) ({ cls := "LazyForge$Part", name := "clear", desc := "([Z)V" } : Jvm.MethodName)) ∈ lw_all := lw_g (lw_at lw_m7 86 rfl) rfl
theorem q1716 : (Jvm.Cond.instanceMethod ({ cls := "LazyForge$Named", name := "bit", desc := "([Z)Z" } : Jvm.MethodName)) ∈ lw_all := lw_g (lw_at lw_m7 114 rfl) rfl
theorem q1717 : (Jvm.Cond.code ({ cls := "LazyForge$Named", name := "bit", desc := "([Z)Z" } : Jvm.MethodName) prog_14_method_3_code (2 : Nat) (Option.some Jvm.ClassFile.FieldType.boolean)) ∈ lw_all := lw_g (lw_at lw_m7 115 rfl) rfl
theorem q1718 : (Jvm.Cond.methodLink "LazyForge$Named" (21 : Nat) ({ cls := "LazyForge$Named", name := "isWhole", desc := "()Z" } : Jvm.MethodName)) ∈ lw_all := lw_g (lw_at lw_m7 116 rfl) rfl
theorem q1719 : (Jvm.Cond.instanceMethod ({ cls := "LazyForge$Named", name := "isWhole", desc := "()Z" } : Jvm.MethodName)) ∈ lw_all := lw_g (lw_at lw_m7 117 rfl) rfl
theorem q1720 : (Jvm.Cond.selects "LazyForge$Named" ({ cls := "LazyForge$Named", name := "isWhole", desc := "()Z" } : Jvm.MethodName) ({ cls := "LazyForge$Named", name := "isWhole", desc := "()Z" } : Jvm.MethodName)) ∈ lw_all := lw_g (lw_at lw_m7 118 rfl) rfl
theorem q1721 : (Jvm.Cond.code ({ cls := "LazyForge$Named", name := "isWhole", desc := "()Z" } : Jvm.MethodName) prog_14_method_2_code (1 : Nat) (Option.some Jvm.ClassFile.FieldType.boolean)) ∈ lw_all := lw_g (lw_at lw_m7 119 rfl) rfl
theorem q1722 : (Jvm.Cond.methodLink "LazyForge$Named" (15 : Nat) ({ cls := "LazyForge$Function", name := "parameters", desc := "()I" } : Jvm.MethodName)) ∈ lw_all := lw_g (lw_at lw_m7 120 rfl) rfl
theorem q1723 : (Jvm.Cond.methodLink "LazyForge$Named" (25 : Nat) ({ cls := "LazyForge$Function", name := "at", desc := "(I)Z" } : Jvm.MethodName)) ∈ lw_all := lw_g (lw_at lw_m7 121 rfl) rfl
theorem q1739 : (Jvm.Cond.selects "LazyForge$Named" ({ cls := "LazyForge$Part", name := "bit", desc := "([Z)Z" } : Jvm.MethodName) ({ cls := "LazyForge$Named", name := "bit", desc := "([Z)Z" } : Jvm.MethodName)) ∈ lw_all := lw_g (lw_at lw_m7 137 rfl) rfl
theorem q1787 : (Jvm.Cond.instanceMethod ({ cls := "LazyForge$Named", name := "uses", desc := "([Z)V" } : Jvm.MethodName)) ∈ lw_all := lw_g (lw_at lw_m7 185 rfl) rfl
theorem q1788 : (Jvm.Cond.code ({ cls := "LazyForge$Named", name := "uses", desc := "([Z)V" } : Jvm.MethodName) prog_14_method_4_code (2 : Nat) (Option.none : Option Jvm.ClassFile.FieldType)) ∈ lw_all := lw_g (lw_at lw_m7 186 rfl) rfl
theorem q1802 : (Jvm.Cond.selects "LazyForge$Named" ({ cls := "LazyForge$Part", name := "uses", desc := "([Z)V" } : Jvm.MethodName) ({ cls := "LazyForge$Named", name := "uses", desc := "([Z)V" } : Jvm.MethodName)) ∈ lw_all := lw_g (lw_at lw_m7 200 rfl) rfl
theorem q1834 : (Jvm.Cond.selects "LazyForge$Named" ({ cls := "LazyForge$Part", name := "bound", desc := "([Z)V" } : Jvm.MethodName) ({ cls := "LazyForge$Part", name := "bound", desc := "([Z)V" } : Jvm.MethodName)) ∈ lw_all := lw_g (lw_at lw_m7 232 rfl) rfl
theorem q1849 : (Jvm.Cond.instanceMethod ({ cls := "LazyForge$Named", name := "prepare", desc := "(LLazyForge$Program;LLazyForge$Function;)V" } : Jvm.MethodName)) ∈ lw_all := lw_g (lw_at lw_m8 7 rfl) rfl
theorem q1850 : (Jvm.Cond.code ({ cls := "LazyForge$Named", name := "prepare", desc := "(LLazyForge$Program;LLazyForge$Function;)V" } : Jvm.MethodName) prog_14_method_8_code (3 : Nat) (Option.none : Option Jvm.ClassFile.FieldType)) ∈ lw_all := lw_g (lw_at lw_m8 8 rfl) rfl
theorem q1889 : (Jvm.Cond.selects "LazyForge$Named" ({ cls := "LazyForge$Part", name := "prepare", desc := "(LLazyForge$Program;LLazyForge$Function;)V" } : Jvm.MethodName) ({ cls := "LazyForge$Named", name := "prepare", desc := "(LLazyForge$Program;LLazyForge$Function;)V" } : Jvm.MethodName)) ∈ lw_all := lw_g (lw_at lw_m8 47 rfl) rfl
theorem q2014 : (Jvm.Cond.instanceMethod ({ cls := "LazyForge$Named", name := "write", desc := "(LLazyForge$Writer;)V" } : Jvm.MethodName)) ∈ lw_all := lw_g (lw_at lw_m8 172 rfl) rfl
theorem q2015 : (Jvm.Cond.code ({ cls := "LazyForge$Named", name := "write", desc := "(LLazyForge$Writer;)V" } : Jvm.MethodName) prog_14_method_7_code (2 : Nat) (Option.none : Option Jvm.ClassFile.FieldType)) ∈ lw_all := lw_g (lw_at lw_m8 173 rfl) rfl
theorem q2016 : (Jvm.Cond.methodLink "LazyForge$Named" (48 : Nat) ({ cls := "LazyForge$Writer", name := "function", desc := "(LLazyForge$Function;)V" } : Jvm.MethodName)) ∈ lw_all := lw_g (lw_at lw_m8 174 rfl) rfl
theorem q2054 : (Jvm.Cond.selects "LazyForge$Named" ({ cls := "LazyForge$Part", name := "write", desc := "(LLazyForge$Writer;)V" } : Jvm.MethodName) ({ cls := "LazyForge$Named", name := "write", desc := "(LLazyForge$Writer;)V" } : Jvm.MethodName)) ∈ lw_all := lw_g (lw_at lw_m8 212 rfl) rfl
theorem q2310 : (Jvm.Cond.instanceMethod ({ cls := "LazyForge$Named", name := "keep", desc := "(LLazyForge$Machine;)J" } : Jvm.MethodName)) ∈ lw_all := lw_g (lw_at lw_m9 228 rfl) rfl
theorem q2311 : (Jvm.Cond.code ({ cls := "LazyForge$Named", name := "keep", desc := "(LLazyForge$Machine;)J" } : Jvm.MethodName) prog_14_method_5_code (2 : Nat) (Option.some Jvm.ClassFile.FieldType.long)) ∈ lw_all := lw_g (lw_at lw_m9 229 rfl) rfl
theorem q2312 : (Jvm.Cond.methodLink "LazyForge$Named" (29 : Nat) ({ cls := "LazyForge$Machine", name := "whole", desc := "(LLazyForge$Function;)J" } : Jvm.MethodName)) ∈ lw_all := lw_g (lw_at lw_m9 230 rfl) rfl
theorem q2316 : (Jvm.Cond.constantLong "LazyForge$Named" (35 : Nat) (8589934592 : Int64)) ∈ lw_all := lw_g (lw_at lw_m9 234 rfl) rfl
theorem q2332 : (Jvm.Cond.selects "LazyForge$Named" ({ cls := "LazyForge$Part", name := "keep", desc := "(LLazyForge$Machine;)J" } : Jvm.MethodName) ({ cls := "LazyForge$Named", name := "keep", desc := "(LLazyForge$Machine;)J" } : Jvm.MethodName)) ∈ lw_all := lw_g (lw_at lw_m10 10 rfl) rfl
theorem q2436 : (Jvm.Cond.selects "LazyForge$Named" ({ cls := "LazyForge$Part", name := "step", desc := "(LLazyForge$Machine;I)V" } : Jvm.MethodName) ({ cls := "LazyForge$Named", name := "step", desc := "(LLazyForge$Machine;I)V" } : Jvm.MethodName)) ∈ lw_all := lw_g (lw_at lw_m10 114 rfl) rfl
theorem q2437 : (Jvm.Cond.instanceMethod ({ cls := "LazyForge$Named", name := "step", desc := "(LLazyForge$Machine;I)V" } : Jvm.MethodName)) ∈ lw_all := lw_g (lw_at lw_m10 115 rfl) rfl
theorem q2438 : (Jvm.Cond.code ({ cls := "LazyForge$Named", name := "step", desc := "(LLazyForge$Machine;I)V" } : Jvm.MethodName) prog_14_method_6_code (3 : Nat) (Option.none : Option Jvm.ClassFile.FieldType)) ∈ lw_all := lw_g (lw_at lw_m10 116 rfl) rfl
theorem q2439 : (Jvm.Cond.methodLink "LazyForge$Named" (41 : Nat) ({ cls := "LazyForge$Machine", name := "enter", desc := "(J)V" } : Jvm.MethodName)) ∈ lw_all := lw_g (lw_at lw_m10 117 rfl) rfl
theorem q2440 : (Jvm.Cond.methodLink "LazyForge$Named" (45 : Nat) ({ cls := "LazyForge$Machine", name := "give", desc := "(J)V" } : Jvm.MethodName)) ∈ lw_all := lw_g (lw_at lw_m10 118 rfl) rfl
theorem q3460 : (Jvm.Cond.selects "LazyForge$Named" ({ cls := "LazyForge$Part", name := "mayWait", desc := "(LLazyForge$Program;LLazyForge$Function;)V" } : Jvm.MethodName) ({ cls := "LazyForge$Part", name := "mayWait", desc := "(LLazyForge$Program;LLazyForge$Function;)V" } : Jvm.MethodName)) ∈ lw_all := lw_g (lw_at lw_m14 178 rfl) rfl
theorem q3470 : (Jvm.Cond.castable "LazyForge$Named" "LazyForge$Named") ∈ lw_tbl := lw_at lw_m14 188 rfl
theorem q3481 : (Jvm.Cond.castable "LazyForge$Named" "LazyForge$Part") ∈ lw_tbl := lw_at lw_m14 199 rfl
theorem q3510 : (Jvm.Cond.castable "LazyForge$Named" "java/lang/Object") ∈ lw_tbl := lw_at lw_m14 228 rfl
theorem in_X19 : ∀ w ∈ wsX190, w ∈ lw_all := lw_in wsX190 [1371, 1372, 1373, 1374, 1375, 1369] (by decide +kernel) (by decide +kernel)

/-! LazyForge$Use -/
set_option maxRecDepth 100000
def RX20 : String := "LazyForge$Use"
def TX20 : u_T := fun k => match k with
  | 0 => ("LazyForge$Part", "parts", "I", false)
  | 1 => ("LazyForge$Part", "high", "I", false)
  | 2 => ("LazyForge$Part", "number", "I", false)
  | 3 => ("LazyForge$Part", "captured", "[I", false)
  | 4 => ("LazyForge$Part", "in", "LLazyForge$Function;", false)
  | 5 => ("LazyForge$Use", "variable", "LLazyForge$Variable;", true)
  | 6 => ("LazyForge$Use", "in", "LLazyForge$Function;", true)
  | _ => ("LazyForge$Use", "number0", "I", false)
def tyX20 : Nat → FieldType := fun k => match k with
  | 0 => .int
  | 1 => .int
  | 2 => .int
  | 3 => .array .int
  | 4 => .object "LazyForge$Function"
  | 5 => .object "LazyForge$Variable"
  | 6 => .object "LazyForge$Function"
  | _ => .int
abbrev wsX200 : List Cond := u_ws RX20 TX20 8
-- two fields of one name: no nmX20
theorem tyX20_ok : ∀ k, k < 8 → parseFieldDescriptor (TX20 k).2.2.1 = some (tyX20 k) := by decide +kernel
abbrev cX20_init : ByteArray := prog_23_method_1_code
def yX20_init : MethodName := ⟨RX20, "<init>", "(LLazyForge$Variable;LLazyForge$Function;)V"⟩
abbrev cX20_settle : ByteArray := prog_23_method_2_code
def yX20_settle : MethodName := ⟨RX20, "settle", "()V"⟩
abbrev cX20_bit : ByteArray := prog_23_method_3_code
def yX20_bit : MethodName := ⟨RX20, "bit", "([Z)Z"⟩
abbrev cX20_uses : ByteArray := prog_23_method_4_code
def yX20_uses : MethodName := ⟨RX20, "uses", "([Z)V"⟩
abbrev cX20_prepare : ByteArray := prog_23_method_8_code
def yX20_prepare : MethodName := ⟨RX20, "prepare", "(LLazyForge$Program;LLazyForge$Function;)V"⟩
abbrev cX20_write : ByteArray := prog_23_method_7_code
def yX20_write : MethodName := ⟨RX20, "write", "(LLazyForge$Writer;)V"⟩
abbrev cX20_keep : ByteArray := prog_23_method_5_code
def yX20_keep : MethodName := ⟨RX20, "keep", "(LLazyForge$Machine;)J"⟩
abbrev cX20_step : ByteArray := prog_23_method_6_code
def yX20_step : MethodName := ⟨RX20, "step", "(LLazyForge$Machine;I)V"⟩
theorem q200 : (Jvm.Cond.initialized "LazyForge$Use") ∈ lw_all := lw_g (lw_at lw_m1 38 rfl) rfl
theorem q1243 : (Jvm.Cond.selects "LazyForge$Use" ({ cls := "java/lang/Object", name := "getClass", desc := "()Ljava/lang/Class;" } : Jvm.MethodName) ({ cls := "java/lang/Object", name := "getClass", desc := "()Ljava/lang/Class;" } : Jvm.MethodName)) ∈ lw_all := lw_g (lw_at lw_m5 121 rfl) rfl
theorem q1421 : (Jvm.Cond.selects "LazyForge$Use" ({ cls := "java/lang/Object", name := "equals", desc := "(Ljava/lang/Object;)Z" } : Jvm.MethodName) ({ cls := "java/lang/Object", name := "equals", desc := "(Ljava/lang/Object;)Z" } : Jvm.MethodName)) ∈ lw_all := lw_g (lw_at lw_m6 59 rfl) rfl
theorem q1439 : (Jvm.Cond.instantiable "LazyForge$Use" (8 : Nat)) ∈ lw_all := lw_g (lw_at lw_m6 77 rfl) rfl
theorem q1441 : (Jvm.Cond.instanceMethod ({ cls := "LazyForge$Use", name := "<init>", desc := "(LLazyForge$Variable;LLazyForge$Function;)V" } : Jvm.MethodName)) ∈ lw_all := lw_g (lw_at lw_m6 79 rfl) rfl
theorem q1442 : (Jvm.Cond.code ({ cls := "LazyForge$Use", name := "<init>", desc := "(LLazyForge$Variable;LLazyForge$Function;)V" } : Jvm.MethodName) prog_23_method_1_code (3 : Nat) (Option.none : Option Jvm.ClassFile.FieldType)) ∈ lw_all := lw_g (lw_at lw_m6 80 rfl) rfl
theorem q1443 : (Jvm.Cond.methodLinkNest "LazyForge$Use" (1 : Nat) ({ cls := "LazyForge$Part", name := "<init>", desc := "()V" } : Jvm.MethodName) "LazyForge") ∈ lw_tbl := lw_at lw_m6 81 rfl
theorem q1444 : (Jvm.Cond.fieldLink "LazyForge$Use" (7 : Nat) "LazyForge$Use" "variable" "LLazyForge$Variable;") ∈ lw_all := lw_g (lw_at lw_m6 82 rfl) rfl
theorem q1445 : (Jvm.Cond.fieldLink "LazyForge$Use" (13 : Nat) "LazyForge$Use" "in" "LLazyForge$Function;") ∈ lw_all := lw_g (lw_at lw_m6 83 rfl) rfl
theorem q1446 : (Jvm.Cond.fieldLink "LazyForge$Use" (23 : Nat) "LazyForge$Use" "number0" "I") ∈ lw_all := lw_g (lw_at lw_m6 84 rfl) rfl
theorem q1447 : (Jvm.Cond.laysFinal "LazyForge$Use" "LazyForge$Use" "variable" "LLazyForge$Variable;") ∈ lw_all := lw_g (lw_at lw_m6 85 rfl) rfl
theorem q1448 : (Jvm.Cond.soleField "LazyForge$Use" "variable") ∈ lw_all := lw_g (lw_at lw_m6 86 rfl) rfl
theorem q1449 : (Jvm.Cond.laysFinal "LazyForge$Use" "LazyForge$Use" "in" "LLazyForge$Function;") ∈ lw_all := lw_g (lw_at lw_m6 87 rfl) rfl
theorem q1450 : (Jvm.Cond.soleField "LazyForge$Use" "in") ∈ lw_all := lw_g (lw_at lw_m6 88 rfl) rfl
theorem q1451 : (Jvm.Cond.lays "LazyForge$Use" "LazyForge$Use" "number0" "I") ∈ lw_all := lw_g (lw_at lw_m6 89 rfl) rfl
theorem q1452 : (Jvm.Cond.soleField "LazyForge$Use" "number0") ∈ lw_all := lw_g (lw_at lw_m6 90 rfl) rfl
theorem q1453 : (Jvm.Cond.lays "LazyForge$Use" "LazyForge$Part" "parts" "I") ∈ lw_all := lw_g (lw_at lw_m6 91 rfl) rfl
theorem q1454 : (Jvm.Cond.lays "LazyForge$Use" "LazyForge$Part" "high" "I") ∈ lw_all := lw_g (lw_at lw_m6 92 rfl) rfl
theorem q1455 : (Jvm.Cond.lays "LazyForge$Use" "LazyForge$Part" "number" "I") ∈ lw_all := lw_g (lw_at lw_m6 93 rfl) rfl
theorem q1456 : (Jvm.Cond.lays "LazyForge$Use" "LazyForge$Part" "captured" "[I") ∈ lw_all := lw_g (lw_at lw_m6 94 rfl) rfl
theorem q1457 : (Jvm.Cond.lays "LazyForge$Use" "LazyForge$Part" "in" "LLazyForge$Function;") ∈ lw_all := lw_g (lw_at lw_m6 95 rfl) rfl
theorem q1458 : (Jvm.Cond.superclass "LazyForge$Use" "LazyForge$Part") ∈ lw_all := lw_g (lw_at lw_m6 96 rfl) rfl
theorem q1620 : (Jvm.Cond.instanceMethod ({ cls := "LazyForge$Use", name := "settle", desc := "()V" } : Jvm.MethodName)) ∈ lw_all := lw_g (lw_at lw_m7 18 rfl) rfl
theorem q1621 : (Jvm.Cond.selects "LazyForge$Use" ({ cls := "LazyForge$Use", name := "settle", desc := "()V" } : Jvm.MethodName) ({ cls := "LazyForge$Use", name := "settle", desc := "()V" } : Jvm.MethodName)) ∈ lw_all := lw_g (lw_at lw_m7 19 rfl) rfl
theorem q1622 : (Jvm.Cond.code ({ cls := "LazyForge$Use", name := "settle", desc := "()V" } : Jvm.MethodName) prog_23_method_2_code (1 : Nat) (Option.none : Option Jvm.ClassFile.FieldType)) ∈ lw_all := lw_g (lw_at lw_m7 20 rfl) rfl
theorem q1623 : (Jvm.Cond.methodLink "LazyForge$Use" (17 : Nat) ({ cls := "LazyForge$Function", name := "numberOf", desc := "(LLazyForge$Variable;)I" } : Jvm.MethodName)) ∈ lw_all := lw_g (lw_at lw_m7 21 rfl) rfl
theorem q1658 : (Jvm.Cond.selects "LazyForge$Use" ({ cls := "LazyForge$Part", name := "least", desc := "([Z)Z" } : Jvm.MethodName) ({ cls := "LazyForge$Part", name := "least", desc := "([Z)Z" } : Jvm.MethodName)) ∈ lw_all := lw_g (lw_at lw_m7 56 rfl) rfl
theorem q1691 : (Jvm.Cond.selects "LazyForge$Use" ({ cls := "LazyForge$Part", name := "clear", desc := "([Z)V" } : Jvm.MethodName) ({ cls := "LazyForge$Part", name := "clear", desc := "([Z)V" } : Jvm.MethodName)) ∈ lw_all := lw_g (lw_at lw_m7 89 rfl) rfl
theorem q1727 : (Jvm.Cond.instanceMethod ({ cls := "LazyForge$Use", name := "bit", desc := "([Z)Z" } : Jvm.MethodName)) ∈ lw_all := lw_g (lw_at lw_m7 125 rfl) rfl
theorem q1728 : (Jvm.Cond.code ({ cls := "LazyForge$Use", name := "bit", desc := "([Z)Z" } : Jvm.MethodName) prog_23_method_3_code (2 : Nat) (Option.some Jvm.ClassFile.FieldType.boolean)) ∈ lw_all := lw_g (lw_at lw_m7 126 rfl) rfl
theorem q1742 : (Jvm.Cond.selects "LazyForge$Use" ({ cls := "LazyForge$Part", name := "bit", desc := "([Z)Z" } : Jvm.MethodName) ({ cls := "LazyForge$Use", name := "bit", desc := "([Z)Z" } : Jvm.MethodName)) ∈ lw_all := lw_g (lw_at lw_m7 140 rfl) rfl
theorem q1792 : (Jvm.Cond.instanceMethod ({ cls := "LazyForge$Use", name := "uses", desc := "([Z)V" } : Jvm.MethodName)) ∈ lw_all := lw_g (lw_at lw_m7 190 rfl) rfl
theorem q1793 : (Jvm.Cond.code ({ cls := "LazyForge$Use", name := "uses", desc := "([Z)V" } : Jvm.MethodName) prog_23_method_4_code (2 : Nat) (Option.none : Option Jvm.ClassFile.FieldType)) ∈ lw_all := lw_g (lw_at lw_m7 191 rfl) rfl
theorem q1805 : (Jvm.Cond.selects "LazyForge$Use" ({ cls := "LazyForge$Part", name := "uses", desc := "([Z)V" } : Jvm.MethodName) ({ cls := "LazyForge$Use", name := "uses", desc := "([Z)V" } : Jvm.MethodName)) ∈ lw_all := lw_g (lw_at lw_m7 203 rfl) rfl
theorem q1837 : (Jvm.Cond.selects "LazyForge$Use" ({ cls := "LazyForge$Part", name := "bound", desc := "([Z)V" } : Jvm.MethodName) ({ cls := "LazyForge$Part", name := "bound", desc := "([Z)V" } : Jvm.MethodName)) ∈ lw_all := lw_g (lw_at lw_m7 235 rfl) rfl
theorem q1854 : (Jvm.Cond.instanceMethod ({ cls := "LazyForge$Use", name := "prepare", desc := "(LLazyForge$Program;LLazyForge$Function;)V" } : Jvm.MethodName)) ∈ lw_all := lw_g (lw_at lw_m8 12 rfl) rfl
theorem q1855 : (Jvm.Cond.code ({ cls := "LazyForge$Use", name := "prepare", desc := "(LLazyForge$Program;LLazyForge$Function;)V" } : Jvm.MethodName) prog_23_method_8_code (3 : Nat) (Option.none : Option Jvm.ClassFile.FieldType)) ∈ lw_all := lw_g (lw_at lw_m8 13 rfl) rfl
theorem q1856 : (Jvm.Cond.methodLink "LazyForge$Use" (42 : Nat) ({ cls := "LazyForge$Use", name := "mayWait", desc := "(LLazyForge$Program;LLazyForge$Function;)V" } : Jvm.MethodName)) ∈ lw_all := lw_g (lw_at lw_m8 14 rfl) rfl
theorem q1857 : (Jvm.Cond.sameMethod "LazyForge$Use" "LazyForge$Part" "mayWait" "(LLazyForge$Program;LLazyForge$Function;)V") ∈ lw_all := lw_g (lw_at lw_m8 15 rfl) rfl
theorem q1858 : (Jvm.Cond.selects "LazyForge$Use" ({ cls := "LazyForge$Use", name := "mayWait", desc := "(LLazyForge$Program;LLazyForge$Function;)V" } : Jvm.MethodName) ({ cls := "LazyForge$Part", name := "mayWait", desc := "(LLazyForge$Program;LLazyForge$Function;)V" } : Jvm.MethodName)) ∈ lw_all := lw_g (lw_at lw_m8 16 rfl) rfl
theorem q1892 : (Jvm.Cond.selects "LazyForge$Use" ({ cls := "LazyForge$Part", name := "prepare", desc := "(LLazyForge$Program;LLazyForge$Function;)V" } : Jvm.MethodName) ({ cls := "LazyForge$Use", name := "prepare", desc := "(LLazyForge$Program;LLazyForge$Function;)V" } : Jvm.MethodName)) ∈ lw_all := lw_g (lw_at lw_m8 50 rfl) rfl
theorem q2021 : (Jvm.Cond.instanceMethod ({ cls := "LazyForge$Use", name := "write", desc := "(LLazyForge$Writer;)V" } : Jvm.MethodName)) ∈ lw_all := lw_g (lw_at lw_m8 179 rfl) rfl
theorem q2022 : (Jvm.Cond.code ({ cls := "LazyForge$Use", name := "write", desc := "(LLazyForge$Writer;)V" } : Jvm.MethodName) prog_23_method_7_code (2 : Nat) (Option.none : Option Jvm.ClassFile.FieldType)) ∈ lw_all := lw_g (lw_at lw_m8 180 rfl) rfl
theorem q2023 : (Jvm.Cond.methodLink "LazyForge$Use" (37 : Nat) ({ cls := "LazyForge$Writer", name := "variable", desc := "(I)V" } : Jvm.MethodName)) ∈ lw_all := lw_g (lw_at lw_m8 181 rfl) rfl
theorem q2057 : (Jvm.Cond.selects "LazyForge$Use" ({ cls := "LazyForge$Part", name := "write", desc := "(LLazyForge$Writer;)V" } : Jvm.MethodName) ({ cls := "LazyForge$Use", name := "write", desc := "(LLazyForge$Writer;)V" } : Jvm.MethodName)) ∈ lw_all := lw_g (lw_at lw_m8 215 rfl) rfl
theorem q2320 : (Jvm.Cond.instanceMethod ({ cls := "LazyForge$Use", name := "keep", desc := "(LLazyForge$Machine;)J" } : Jvm.MethodName)) ∈ lw_all := lw_g (lw_at lw_m9 238 rfl) rfl
theorem q2321 : (Jvm.Cond.code ({ cls := "LazyForge$Use", name := "keep", desc := "(LLazyForge$Machine;)J" } : Jvm.MethodName) prog_23_method_5_code (2 : Nat) (Option.some Jvm.ClassFile.FieldType.long)) ∈ lw_all := lw_g (lw_at lw_m9 239 rfl) rfl
theorem q2322 : (Jvm.Cond.methodLink "LazyForge$Use" (27 : Nat) ({ cls := "LazyForge$Machine", name := "local", desc := "(I)J" } : Jvm.MethodName)) ∈ lw_all := lw_g (lw_at lw_m10 0 rfl) rfl
theorem q2335 : (Jvm.Cond.selects "LazyForge$Use" ({ cls := "LazyForge$Part", name := "keep", desc := "(LLazyForge$Machine;)J" } : Jvm.MethodName) ({ cls := "LazyForge$Use", name := "keep", desc := "(LLazyForge$Machine;)J" } : Jvm.MethodName)) ∈ lw_all := lw_g (lw_at lw_m10 13 rfl) rfl
theorem q2462 : (Jvm.Cond.selects "LazyForge$Use" ({ cls := "LazyForge$Part", name := "step", desc := "(LLazyForge$Machine;I)V" } : Jvm.MethodName) ({ cls := "LazyForge$Use", name := "step", desc := "(LLazyForge$Machine;I)V" } : Jvm.MethodName)) ∈ lw_all := lw_g (lw_at lw_m10 140 rfl) rfl
theorem q2463 : (Jvm.Cond.instanceMethod ({ cls := "LazyForge$Use", name := "step", desc := "(LLazyForge$Machine;I)V" } : Jvm.MethodName)) ∈ lw_all := lw_g (lw_at lw_m10 141 rfl) rfl
theorem q2464 : (Jvm.Cond.code ({ cls := "LazyForge$Use", name := "step", desc := "(LLazyForge$Machine;I)V" } : Jvm.MethodName) prog_23_method_6_code (3 : Nat) (Option.none : Option Jvm.ClassFile.FieldType)) ∈ lw_all := lw_g (lw_at lw_m10 142 rfl) rfl
theorem q2465 : (Jvm.Cond.methodLink "LazyForge$Use" (33 : Nat) ({ cls := "LazyForge$Machine", name := "enter", desc := "(J)V" } : Jvm.MethodName)) ∈ lw_all := lw_g (lw_at lw_m10 143 rfl) rfl
theorem q3463 : (Jvm.Cond.selects "LazyForge$Use" ({ cls := "LazyForge$Part", name := "mayWait", desc := "(LLazyForge$Program;LLazyForge$Function;)V" } : Jvm.MethodName) ({ cls := "LazyForge$Part", name := "mayWait", desc := "(LLazyForge$Program;LLazyForge$Function;)V" } : Jvm.MethodName)) ∈ lw_all := lw_g (lw_at lw_m14 181 rfl) rfl
theorem q3469 : (Jvm.Cond.castable "LazyForge$Use" "LazyForge$Use") ∈ lw_tbl := lw_at lw_m14 187 rfl
theorem q3484 : (Jvm.Cond.castable "LazyForge$Use" "LazyForge$Part") ∈ lw_tbl := lw_at lw_m14 202 rfl
theorem q3511 : (Jvm.Cond.castable "LazyForge$Use" "java/lang/Object") ∈ lw_tbl := lw_at lw_m14 229 rfl
theorem in_X20 : ∀ w ∈ wsX200, w ∈ lw_all := lw_in wsX200 [1453, 1454, 1455, 1456, 1457, 1447, 1449, 1451] (by decide +kernel) (by decide +kernel)

/-! LazyForge$Apply -/
set_option maxRecDepth 100000
def RX21 : String := "LazyForge$Apply"
def TX21 : u_T := fun k => match k with
  | 0 => ("LazyForge$Part", "parts", "I", false)
  | 1 => ("LazyForge$Part", "high", "I", false)
  | 2 => ("LazyForge$Part", "number", "I", false)
  | 3 => ("LazyForge$Part", "captured", "[I", false)
  | 4 => ("LazyForge$Part", "in", "LLazyForge$Function;", false)
  | 5 => ("LazyForge$Apply", "head", "LLazyForge$Part;", true)
  | _ => ("LazyForge$Apply", "arguments", "[LLazyForge$Part;", true)
def tyX21 : Nat → FieldType := fun k => match k with
  | 0 => .int
  | 1 => .int
  | 2 => .int
  | 3 => .array .int
  | 4 => .object "LazyForge$Function"
  | 5 => .object "LazyForge$Part"
  | _ => .array (.object "LazyForge$Part")
abbrev wsX210 : List Cond := u_ws RX21 TX21 7
theorem nmX21 : ∀ a, a < 7 → ∀ b, b < 7 → a ≠ b → (TX21 a).2.1 ≠ (TX21 b).2.1 := by decide +kernel
theorem tyX21_ok : ∀ k, k < 7 → parseFieldDescriptor (TX21 k).2.2.1 = some (tyX21 k) := by decide +kernel
abbrev cX21_init : ByteArray := prog_3_method_1_code
def yX21_init : MethodName := ⟨RX21, "<init>", "(LLazyForge$Part;[LLazyForge$Part;)V"⟩
abbrev cX21_clear : ByteArray := prog_3_method_4_code
def yX21_clear : MethodName := ⟨RX21, "clear", "([Z)V"⟩
abbrev cX21_bit : ByteArray := prog_3_method_5_code
def yX21_bit : MethodName := ⟨RX21, "bit", "([Z)Z"⟩
abbrev cX21_prepare : ByteArray := prog_3_method_13_code
def yX21_prepare : MethodName := ⟨RX21, "prepare", "(LLazyForge$Program;LLazyForge$Function;)V"⟩
abbrev cX21_uses : ByteArray := prog_3_method_6_code
def yX21_uses : MethodName := ⟨RX21, "uses", "([Z)V"⟩
abbrev cX21_bound : ByteArray := prog_3_method_7_code
def yX21_bound : MethodName := ⟨RX21, "bound", "([Z)V"⟩
abbrev cX21_isLess : ByteArray := prog_3_method_3_code
def yX21_isLess : MethodName := ⟨RX21, "isLess", "()Z"⟩
abbrev cX21_function : ByteArray := prog_3_method_2_code
def yX21_function : MethodName := ⟨RX21, "function", "()LLazyForge$Function;"⟩
abbrev cX21_write : ByteArray := prog_3_method_12_code
def yX21_write : MethodName := ⟨RX21, "write", "(LLazyForge$Writer;)V"⟩
abbrev cX21_step : ByteArray := prog_3_method_11_code
def yX21_step : MethodName := ⟨RX21, "step", "(LLazyForge$Machine;I)V"⟩
abbrev cX21_keep : ByteArray := prog_3_method_8_code
def yX21_keep : MethodName := ⟨RX21, "keep", "(LLazyForge$Machine;)J"⟩
abbrev cX21_begin : ByteArray := prog_3_method_9_code
def yX21_begin : MethodName := ⟨RX21, "begin", "(LLazyForge$Machine;)J"⟩
abbrev cX21_fill : ByteArray := prog_3_method_10_code
def yX21_fill : MethodName := ⟨RX21, "fill", "(LLazyForge$Machine;J)Z"⟩
theorem q201 : (Jvm.Cond.initialized "LazyForge$Apply") ∈ lw_all := lw_g (lw_at lw_m1 39 rfl) rfl
theorem q347 : (Jvm.Cond.fieldLinkNest "LazyForge$Apply" (104 : Nat) "LazyForge$Machine" "isEager" "Z" "LazyForge") ∈ lw_tbl := lw_at lw_m1 185 rfl
theorem q372 : (Jvm.Cond.fieldLinkNest "LazyForge$Apply" (111 : Nat) "LazyForge$Machine" "atOnce" "I" "LazyForge") ∈ lw_tbl := lw_at lw_m1 210 rfl
theorem q1225 : (Jvm.Cond.selects "LazyForge$Apply" ({ cls := "java/lang/Object", name := "getClass", desc := "()Ljava/lang/Class;" } : Jvm.MethodName) ({ cls := "java/lang/Object", name := "getClass", desc := "()Ljava/lang/Class;" } : Jvm.MethodName)) ∈ lw_all := lw_g (lw_at lw_m5 103 rfl) rfl
theorem q1368 : (Jvm.Cond.fieldLinkNest "LazyForge$Apply" (29 : Nat) "LazyForge$Named" "function" "LLazyForge$Function;" "LazyForge") ∈ lw_tbl := lw_at lw_m6 6 rfl
theorem q1403 : (Jvm.Cond.selects "LazyForge$Apply" ({ cls := "java/lang/Object", name := "equals", desc := "(Ljava/lang/Object;)Z" } : Jvm.MethodName) ({ cls := "java/lang/Object", name := "equals", desc := "(Ljava/lang/Object;)Z" } : Jvm.MethodName)) ∈ lw_all := lw_g (lw_at lw_m6 41 rfl) rfl
theorem q1460 : (Jvm.Cond.instantiable "LazyForge$Apply" (7 : Nat)) ∈ lw_all := lw_g (lw_at lw_m6 98 rfl) rfl
theorem q1462 : (Jvm.Cond.instanceMethod ({ cls := "LazyForge$Apply", name := "<init>", desc := "(LLazyForge$Part;[LLazyForge$Part;)V" } : Jvm.MethodName)) ∈ lw_all := lw_g (lw_at lw_m6 100 rfl) rfl
theorem q1463 : (Jvm.Cond.code ({ cls := "LazyForge$Apply", name := "<init>", desc := "(LLazyForge$Part;[LLazyForge$Part;)V" } : Jvm.MethodName) prog_3_method_1_code (7 : Nat) (Option.none : Option Jvm.ClassFile.FieldType)) ∈ lw_all := lw_g (lw_at lw_m6 101 rfl) rfl
theorem q1464 : (Jvm.Cond.methodLinkNest "LazyForge$Apply" (3 : Nat) ({ cls := "LazyForge$Part", name := "<init>", desc := "()V" } : Jvm.MethodName) "LazyForge") ∈ lw_tbl := lw_at lw_m6 102 rfl
theorem q1465 : (Jvm.Cond.methodLink "LazyForge$Apply" (19 : Nat) ({ cls := "LazyForge$Apply", name := "has", desc := "(LLazyForge$Part;)V" } : Jvm.MethodName)) ∈ lw_all := lw_g (lw_at lw_m6 103 rfl) rfl
theorem q1466 : (Jvm.Cond.sameMethod "LazyForge$Apply" "LazyForge$Part" "has" "(LLazyForge$Part;)V") ∈ lw_all := lw_g (lw_at lw_m6 104 rfl) rfl
theorem q1467 : (Jvm.Cond.selects "LazyForge$Apply" ({ cls := "LazyForge$Apply", name := "has", desc := "(LLazyForge$Part;)V" } : Jvm.MethodName) ({ cls := "LazyForge$Part", name := "has", desc := "(LLazyForge$Part;)V" } : Jvm.MethodName)) ∈ lw_all := lw_g (lw_at lw_m6 105 rfl) rfl
theorem q1468 : (Jvm.Cond.fieldLink "LazyForge$Apply" (9 : Nat) "LazyForge$Apply" "head" "LLazyForge$Part;") ∈ lw_all := lw_g (lw_at lw_m6 106 rfl) rfl
theorem q1469 : (Jvm.Cond.fieldLink "LazyForge$Apply" (15 : Nat) "LazyForge$Apply" "arguments" "[LLazyForge$Part;") ∈ lw_all := lw_g (lw_at lw_m6 107 rfl) rfl
theorem q1470 : (Jvm.Cond.laysFinal "LazyForge$Apply" "LazyForge$Apply" "head" "LLazyForge$Part;") ∈ lw_all := lw_g (lw_at lw_m6 108 rfl) rfl
theorem q1471 : (Jvm.Cond.soleField "LazyForge$Apply" "head") ∈ lw_all := lw_g (lw_at lw_m6 109 rfl) rfl
theorem q1472 : (Jvm.Cond.laysFinal "LazyForge$Apply" "LazyForge$Apply" "arguments" "[LLazyForge$Part;") ∈ lw_all := lw_g (lw_at lw_m6 110 rfl) rfl
theorem q1473 : (Jvm.Cond.soleField "LazyForge$Apply" "arguments") ∈ lw_all := lw_g (lw_at lw_m6 111 rfl) rfl
theorem q1474 : (Jvm.Cond.lays "LazyForge$Apply" "LazyForge$Part" "parts" "I") ∈ lw_all := lw_g (lw_at lw_m6 112 rfl) rfl
theorem q1475 : (Jvm.Cond.lays "LazyForge$Apply" "LazyForge$Part" "high" "I") ∈ lw_all := lw_g (lw_at lw_m6 113 rfl) rfl
theorem q1476 : (Jvm.Cond.lays "LazyForge$Apply" "LazyForge$Part" "number" "I") ∈ lw_all := lw_g (lw_at lw_m6 114 rfl) rfl
theorem q1477 : (Jvm.Cond.lays "LazyForge$Apply" "LazyForge$Part" "captured" "[I") ∈ lw_all := lw_g (lw_at lw_m6 115 rfl) rfl
theorem q1478 : (Jvm.Cond.lays "LazyForge$Apply" "LazyForge$Part" "in" "LLazyForge$Function;") ∈ lw_all := lw_g (lw_at lw_m6 116 rfl) rfl
theorem q1479 : (Jvm.Cond.superclass "LazyForge$Apply" "LazyForge$Part") ∈ lw_all := lw_g (lw_at lw_m6 117 rfl) rfl
theorem q1646 : (Jvm.Cond.selects "LazyForge$Apply" ({ cls := "LazyForge$Part", name := "least", desc := "([Z)Z" } : Jvm.MethodName) ({ cls := "LazyForge$Part", name := "least", desc := "([Z)Z" } : Jvm.MethodName)) ∈ lw_all := lw_g (lw_at lw_m7 44 rfl) rfl
theorem q1664 : (Jvm.Cond.selects "LazyForge$Apply" ({ cls := "LazyForge$Part", name := "clear", desc := "([Z)V" } : Jvm.MethodName) ({ cls := "LazyForge$Apply", name := "clear", desc := "([Z)V" } : Jvm.MethodName)) ∈ lw_all := lw_g (lw_at lw_m7 62 rfl) rfl
theorem q1665 : (Jvm.Cond.instanceMethod ({ cls := "LazyForge$Apply", name := "clear", desc := "([Z)V" } : Jvm.MethodName)) ∈ lw_all := lw_g (lw_at lw_m7 63 rfl) rfl
theorem q1666 : (Jvm.Cond.code ({ cls := "LazyForge$Apply", name := "clear", desc := "([Z)V" } : Jvm.MethodName) prog_3_method_4_code (6 : Nat) (Option.none : Option Jvm.ClassFile.FieldType)) ∈ lw_all := lw_g (lw_at lw_m7 64 rfl) rfl
theorem q1667 : (Jvm.Cond.methodLink "LazyForge$Apply" (42 : Nat) ({ cls := "LazyForge$Part", name := "clear", desc := "([Z)V" } : Jvm.MethodName)) ∈ lw_all := lw_g (lw_at lw_m7 65 rfl) rfl
theorem q1699 : (Jvm.Cond.selects "LazyForge$Apply" ({ cls := "LazyForge$Part", name := "bit", desc := "([Z)Z" } : Jvm.MethodName) ({ cls := "LazyForge$Apply", name := "bit", desc := "([Z)Z" } : Jvm.MethodName)) ∈ lw_all := lw_g (lw_at lw_m7 97 rfl) rfl
theorem q1700 : (Jvm.Cond.instanceMethod ({ cls := "LazyForge$Apply", name := "bit", desc := "([Z)Z" } : Jvm.MethodName)) ∈ lw_all := lw_g (lw_at lw_m7 98 rfl) rfl
theorem q1701 : (Jvm.Cond.code ({ cls := "LazyForge$Apply", name := "bit", desc := "([Z)Z" } : Jvm.MethodName) prog_3_method_5_code (6 : Nat) (Option.some Jvm.ClassFile.FieldType.boolean)) ∈ lw_all := lw_g (lw_at lw_m7 99 rfl) rfl
theorem q1702 : (Jvm.Cond.classLink "LazyForge$Apply" (23 : Nat) "LazyForge$Named") ∈ lw_all := lw_g (lw_at lw_m7 100 rfl) rfl
theorem q1703 : (Jvm.Cond.methodLink "LazyForge$Apply" (46 : Nat) ({ cls := "LazyForge$Part", name := "bit", desc := "([Z)Z" } : Jvm.MethodName)) ∈ lw_all := lw_g (lw_at lw_m7 101 rfl) rfl
theorem q1729 : (Jvm.Cond.methodLink "LazyForge$Apply" (36 : Nat) ({ cls := "LazyForge$Function", name := "parameters", desc := "()I" } : Jvm.MethodName)) ∈ lw_all := lw_g (lw_at lw_m7 127 rfl) rfl
theorem q1730 : (Jvm.Cond.methodLink "LazyForge$Apply" (50 : Nat) ({ cls := "LazyForge$Function", name := "at", desc := "(I)Z" } : Jvm.MethodName)) ∈ lw_all := lw_g (lw_at lw_m7 128 rfl) rfl
theorem q1749 : (Jvm.Cond.selects "LazyForge$Apply" ({ cls := "LazyForge$Part", name := "prepare", desc := "(LLazyForge$Program;LLazyForge$Function;)V" } : Jvm.MethodName) ({ cls := "LazyForge$Apply", name := "prepare", desc := "(LLazyForge$Program;LLazyForge$Function;)V" } : Jvm.MethodName)) ∈ lw_all := lw_g (lw_at lw_m7 147 rfl) rfl
theorem q1750 : (Jvm.Cond.instanceMethod ({ cls := "LazyForge$Apply", name := "prepare", desc := "(LLazyForge$Program;LLazyForge$Function;)V" } : Jvm.MethodName)) ∈ lw_all := lw_g (lw_at lw_m7 148 rfl) rfl
theorem q1751 : (Jvm.Cond.code ({ cls := "LazyForge$Apply", name := "prepare", desc := "(LLazyForge$Program;LLazyForge$Function;)V" } : Jvm.MethodName) prog_3_method_13_code (7 : Nat) (Option.none : Option Jvm.ClassFile.FieldType)) ∈ lw_all := lw_g (lw_at lw_m7 149 rfl) rfl
theorem q1752 : (Jvm.Cond.methodLink "LazyForge$Apply" (134 : Nat) ({ cls := "LazyForge$Part", name := "prepare", desc := "(LLazyForge$Program;LLazyForge$Function;)V" } : Jvm.MethodName)) ∈ lw_all := lw_g (lw_at lw_m7 150 rfl) rfl
theorem q1770 : (Jvm.Cond.selects "LazyForge$Apply" ({ cls := "LazyForge$Part", name := "uses", desc := "([Z)V" } : Jvm.MethodName) ({ cls := "LazyForge$Apply", name := "uses", desc := "([Z)V" } : Jvm.MethodName)) ∈ lw_all := lw_g (lw_at lw_m7 168 rfl) rfl
theorem q1771 : (Jvm.Cond.instanceMethod ({ cls := "LazyForge$Apply", name := "uses", desc := "([Z)V" } : Jvm.MethodName)) ∈ lw_all := lw_g (lw_at lw_m7 169 rfl) rfl
theorem q1772 : (Jvm.Cond.code ({ cls := "LazyForge$Apply", name := "uses", desc := "([Z)V" } : Jvm.MethodName) prog_3_method_6_code (6 : Nat) (Option.none : Option Jvm.ClassFile.FieldType)) ∈ lw_all := lw_g (lw_at lw_m7 170 rfl) rfl
theorem q1773 : (Jvm.Cond.methodLink "LazyForge$Apply" (54 : Nat) ({ cls := "LazyForge$Part", name := "uses", desc := "([Z)V" } : Jvm.MethodName)) ∈ lw_all := lw_g (lw_at lw_m7 171 rfl) rfl
theorem q1810 : (Jvm.Cond.selects "LazyForge$Apply" ({ cls := "LazyForge$Part", name := "bound", desc := "([Z)V" } : Jvm.MethodName) ({ cls := "LazyForge$Apply", name := "bound", desc := "([Z)V" } : Jvm.MethodName)) ∈ lw_all := lw_g (lw_at lw_m7 208 rfl) rfl
theorem q1811 : (Jvm.Cond.instanceMethod ({ cls := "LazyForge$Apply", name := "bound", desc := "([Z)V" } : Jvm.MethodName)) ∈ lw_all := lw_g (lw_at lw_m7 209 rfl) rfl
theorem q1812 : (Jvm.Cond.code ({ cls := "LazyForge$Apply", name := "bound", desc := "([Z)V" } : Jvm.MethodName) prog_3_method_7_code (6 : Nat) (Option.none : Option Jvm.ClassFile.FieldType)) ∈ lw_all := lw_g (lw_at lw_m7 210 rfl) rfl
theorem q1813 : (Jvm.Cond.methodLink "LazyForge$Apply" (57 : Nat) ({ cls := "LazyForge$Part", name := "bound", desc := "([Z)V" } : Jvm.MethodName)) ∈ lw_all := lw_g (lw_at lw_m7 211 rfl) rfl
theorem q1869 : (Jvm.Cond.methodLink "LazyForge$Apply" (60 : Nat) ({ cls := "LazyForge$Apply", name := "isLess", desc := "()Z" } : Jvm.MethodName)) ∈ lw_all := lw_g (lw_at lw_m8 27 rfl) rfl
theorem q1870 : (Jvm.Cond.instanceMethod ({ cls := "LazyForge$Apply", name := "isLess", desc := "()Z" } : Jvm.MethodName)) ∈ lw_all := lw_g (lw_at lw_m8 28 rfl) rfl
theorem q1871 : (Jvm.Cond.selects "LazyForge$Apply" ({ cls := "LazyForge$Apply", name := "isLess", desc := "()Z" } : Jvm.MethodName) ({ cls := "LazyForge$Apply", name := "isLess", desc := "()Z" } : Jvm.MethodName)) ∈ lw_all := lw_g (lw_at lw_m8 29 rfl) rfl
theorem q1872 : (Jvm.Cond.code ({ cls := "LazyForge$Apply", name := "isLess", desc := "()Z" } : Jvm.MethodName) prog_3_method_3_code (1 : Nat) (Option.some Jvm.ClassFile.FieldType.boolean)) ∈ lw_all := lw_g (lw_at lw_m8 30 rfl) rfl
theorem q1873 : (Jvm.Cond.methodLink "LazyForge$Apply" (33 : Nat) ({ cls := "LazyForge$Apply", name := "function", desc := "()LLazyForge$Function;" } : Jvm.MethodName)) ∈ lw_all := lw_g (lw_at lw_m8 31 rfl) rfl
theorem q1874 : (Jvm.Cond.privateMethod ({ cls := "LazyForge$Apply", name := "function", desc := "()LLazyForge$Function;" } : Jvm.MethodName)) ∈ lw_tbl := lw_at lw_m8 32 rfl
theorem q1875 : (Jvm.Cond.instanceMethod ({ cls := "LazyForge$Apply", name := "function", desc := "()LLazyForge$Function;" } : Jvm.MethodName)) ∈ lw_all := lw_g (lw_at lw_m8 33 rfl) rfl
theorem q1876 : (Jvm.Cond.code ({ cls := "LazyForge$Apply", name := "function", desc := "()LLazyForge$Function;" } : Jvm.MethodName) prog_3_method_2_code (1 : Nat) (Option.some (Jvm.ClassFile.FieldType.object "LazyForge$Function"))) ∈ lw_all := lw_g (lw_at lw_m8 34 rfl) rfl
theorem q1877 : (Jvm.Cond.methodLink "LazyForge$Apply" (25 : Nat) ({ cls := "LazyForge$Named", name := "isWhole", desc := "()Z" } : Jvm.MethodName)) ∈ lw_all := lw_g (lw_at lw_m8 35 rfl) rfl
theorem q1878 : (Jvm.Cond.methodLink "LazyForge$Apply" (138 : Nat) ({ cls := "LazyForge$Apply", name := "mayWait", desc := "(LLazyForge$Program;LLazyForge$Function;)V" } : Jvm.MethodName)) ∈ lw_all := lw_g (lw_at lw_m8 36 rfl) rfl
theorem q1879 : (Jvm.Cond.sameMethod "LazyForge$Apply" "LazyForge$Part" "mayWait" "(LLazyForge$Program;LLazyForge$Function;)V") ∈ lw_all := lw_g (lw_at lw_m8 37 rfl) rfl
theorem q1880 : (Jvm.Cond.selects "LazyForge$Apply" ({ cls := "LazyForge$Apply", name := "mayWait", desc := "(LLazyForge$Program;LLazyForge$Function;)V" } : Jvm.MethodName) ({ cls := "LazyForge$Part", name := "mayWait", desc := "(LLazyForge$Program;LLazyForge$Function;)V" } : Jvm.MethodName)) ∈ lw_all := lw_g (lw_at lw_m8 38 rfl) rfl
theorem q1978 : (Jvm.Cond.selects "LazyForge$Apply" ({ cls := "LazyForge$Part", name := "write", desc := "(LLazyForge$Writer;)V" } : Jvm.MethodName) ({ cls := "LazyForge$Apply", name := "write", desc := "(LLazyForge$Writer;)V" } : Jvm.MethodName)) ∈ lw_all := lw_g (lw_at lw_m8 136 rfl) rfl
theorem q1979 : (Jvm.Cond.instanceMethod ({ cls := "LazyForge$Apply", name := "write", desc := "(LLazyForge$Writer;)V" } : Jvm.MethodName)) ∈ lw_all := lw_g (lw_at lw_m8 137 rfl) rfl
theorem q1980 : (Jvm.Cond.code ({ cls := "LazyForge$Apply", name := "write", desc := "(LLazyForge$Writer;)V" } : Jvm.MethodName) prog_3_method_12_code (6 : Nat) (Option.none : Option Jvm.ClassFile.FieldType)) ∈ lw_all := lw_g (lw_at lw_m8 138 rfl) rfl
theorem q1981 : (Jvm.Cond.methodLink "LazyForge$Apply" (124 : Nat) ({ cls := "LazyForge$Writer", name := "sign", desc := "(C)V" } : Jvm.MethodName)) ∈ lw_all := lw_g (lw_at lw_m8 139 rfl) rfl
theorem q1982 : (Jvm.Cond.methodLink "LazyForge$Apply" (130 : Nat) ({ cls := "LazyForge$Part", name := "write", desc := "(LLazyForge$Writer;)V" } : Jvm.MethodName)) ∈ lw_all := lw_g (lw_at lw_m8 140 rfl) rfl
theorem q2240 : (Jvm.Cond.selects "LazyForge$Apply" ({ cls := "LazyForge$Part", name := "step", desc := "(LLazyForge$Machine;I)V" } : Jvm.MethodName) ({ cls := "LazyForge$Apply", name := "step", desc := "(LLazyForge$Machine;I)V" } : Jvm.MethodName)) ∈ lw_all := lw_g (lw_at lw_m9 158 rfl) rfl
theorem q2241 : (Jvm.Cond.instanceMethod ({ cls := "LazyForge$Apply", name := "step", desc := "(LLazyForge$Machine;I)V" } : Jvm.MethodName)) ∈ lw_all := lw_g (lw_at lw_m9 159 rfl) rfl
theorem q2242 : (Jvm.Cond.code ({ cls := "LazyForge$Apply", name := "step", desc := "(LLazyForge$Machine;I)V" } : Jvm.MethodName) prog_3_method_11_code (8 : Nat) (Option.none : Option Jvm.ClassFile.FieldType)) ∈ lw_all := lw_g (lw_at lw_m9 160 rfl) rfl
theorem q2243 : (Jvm.Cond.methodLink "LazyForge$Apply" (86 : Nat) ({ cls := "LazyForge$Machine", name := "keepAll", desc := "([LLazyForge$Part;I)Z" } : Jvm.MethodName)) ∈ lw_all := lw_g (lw_at lw_m9 161 rfl) rfl
theorem q2254 : (Jvm.Cond.selects "LazyForge$Apply" ({ cls := "LazyForge$Part", name := "keep", desc := "(LLazyForge$Machine;)J" } : Jvm.MethodName) ({ cls := "LazyForge$Apply", name := "keep", desc := "(LLazyForge$Machine;)J" } : Jvm.MethodName)) ∈ lw_all := lw_g (lw_at lw_m9 172 rfl) rfl
theorem q2255 : (Jvm.Cond.instanceMethod ({ cls := "LazyForge$Apply", name := "keep", desc := "(LLazyForge$Machine;)J" } : Jvm.MethodName)) ∈ lw_all := lw_g (lw_at lw_m9 173 rfl) rfl
theorem q2256 : (Jvm.Cond.code ({ cls := "LazyForge$Apply", name := "keep", desc := "(LLazyForge$Machine;)J" } : Jvm.MethodName) prog_3_method_8_code (4 : Nat) (Option.some Jvm.ClassFile.FieldType.long)) ∈ lw_all := lw_g (lw_at lw_m9 174 rfl) rfl
theorem q2257 : (Jvm.Cond.methodLink "LazyForge$Apply" (63 : Nat) ({ cls := "LazyForge$Machine", name := "suspend", desc := "(LLazyForge$Part;)J" } : Jvm.MethodName)) ∈ lw_all := lw_g (lw_at lw_m9 175 rfl) rfl
theorem q2269 : (Jvm.Cond.methodLink "LazyForge$Apply" (69 : Nat) ({ cls := "LazyForge$Apply", name := "begin", desc := "(LLazyForge$Machine;)J" } : Jvm.MethodName)) ∈ lw_all := lw_g (lw_at lw_m9 187 rfl) rfl
theorem q2270 : (Jvm.Cond.instanceMethod ({ cls := "LazyForge$Apply", name := "begin", desc := "(LLazyForge$Machine;)J" } : Jvm.MethodName)) ∈ lw_all := lw_g (lw_at lw_m9 188 rfl) rfl
theorem q2271 : (Jvm.Cond.selects "LazyForge$Apply" ({ cls := "LazyForge$Apply", name := "begin", desc := "(LLazyForge$Machine;)J" } : Jvm.MethodName) ({ cls := "LazyForge$Apply", name := "begin", desc := "(LLazyForge$Machine;)J" } : Jvm.MethodName)) ∈ lw_all := lw_g (lw_at lw_m9 189 rfl) rfl
theorem q2272 : (Jvm.Cond.code ({ cls := "LazyForge$Apply", name := "begin", desc := "(LLazyForge$Machine;)J" } : Jvm.MethodName) prog_3_method_9_code (2 : Nat) (Option.some Jvm.ClassFile.FieldType.long)) ∈ lw_all := lw_g (lw_at lw_m9 190 rfl) rfl
theorem q2273 : (Jvm.Cond.methodLink "LazyForge$Apply" (79 : Nat) ({ cls := "LazyForge$Machine", name := "partOfCall", desc := "(LLazyForge$Function;I)J" } : Jvm.MethodName)) ∈ lw_all := lw_g (lw_at lw_m9 191 rfl) rfl
theorem q2274 : (Jvm.Cond.methodLink "LazyForge$Apply" (73 : Nat) ({ cls := "LazyForge$Apply", name := "fill", desc := "(LLazyForge$Machine;J)Z" } : Jvm.MethodName)) ∈ lw_all := lw_g (lw_at lw_m9 192 rfl) rfl
theorem q2275 : (Jvm.Cond.instanceMethod ({ cls := "LazyForge$Apply", name := "fill", desc := "(LLazyForge$Machine;J)Z" } : Jvm.MethodName)) ∈ lw_all := lw_g (lw_at lw_m9 193 rfl) rfl
theorem q2276 : (Jvm.Cond.selects "LazyForge$Apply" ({ cls := "LazyForge$Apply", name := "fill", desc := "(LLazyForge$Machine;J)Z" } : Jvm.MethodName) ({ cls := "LazyForge$Apply", name := "fill", desc := "(LLazyForge$Machine;J)Z" } : Jvm.MethodName)) ∈ lw_all := lw_g (lw_at lw_m9 194 rfl) rfl
theorem q2277 : (Jvm.Cond.code ({ cls := "LazyForge$Apply", name := "fill", desc := "(LLazyForge$Machine;J)Z" } : Jvm.MethodName) prog_3_method_10_code (4 : Nat) (Option.some Jvm.ClassFile.FieldType.boolean)) ∈ lw_all := lw_g (lw_at lw_m9 195 rfl) rfl
theorem q2278 : (Jvm.Cond.methodLink "LazyForge$Apply" (83 : Nat) ({ cls := "LazyForge$Machine", name := "fill", desc := "(JI[LLazyForge$Part;)Z" } : Jvm.MethodName)) ∈ lw_all := lw_g (lw_at lw_m9 196 rfl) rfl
theorem q2323 : (Jvm.Cond.constantLong "LazyForge$Apply" (77 : Nat) (-1 : Int64)) ∈ lw_all := lw_g (lw_at lw_m10 1 rfl) rfl
theorem q2336 : (Jvm.Cond.methodLink "LazyForge$Apply" (90 : Nat) ({ cls := "LazyForge$Machine", name := "apply", desc := "(I)V" } : Jvm.MethodName)) ∈ lw_all := lw_g (lw_at lw_m10 14 rfl) rfl
theorem q2337 : (Jvm.Cond.methodLink "LazyForge$Apply" (94 : Nat) ({ cls := "LazyForge$Machine", name := "work", desc := "(LLazyForge$Part;)V" } : Jvm.MethodName)) ∈ lw_all := lw_g (lw_at lw_m10 15 rfl) rfl
theorem q2338 : (Jvm.Cond.methodLink "LazyForge$Apply" (97 : Nat) ({ cls := "LazyForge$Apply", name := "keep", desc := "(LLazyForge$Machine;)J" } : Jvm.MethodName)) ∈ lw_all := lw_g (lw_at lw_m10 16 rfl) rfl
theorem q2339 : (Jvm.Cond.methodLink "LazyForge$Apply" (100 : Nat) ({ cls := "LazyForge$Machine", name := "give", desc := "(J)V" } : Jvm.MethodName)) ∈ lw_all := lw_g (lw_at lw_m10 17 rfl) rfl
theorem q2340 : (Jvm.Cond.methodLink "LazyForge$Apply" (108 : Nat) ({ cls := "LazyForge$Function", name := "needs", desc := "(I)Z" } : Jvm.MethodName)) ∈ lw_all := lw_g (lw_at lw_m10 18 rfl) rfl
theorem q2341 : (Jvm.Cond.methodLink "LazyForge$Apply" (115 : Nat) ({ cls := "LazyForge$Machine", name := "again", desc := "(LLazyForge$Part;I)V" } : Jvm.MethodName)) ∈ lw_all := lw_g (lw_at lw_m10 19 rfl) rfl
theorem q2342 : (Jvm.Cond.methodLink "LazyForge$Apply" (119 : Nat) ({ cls := "LazyForge$Part", name := "keep", desc := "(LLazyForge$Machine;)J" } : Jvm.MethodName)) ∈ lw_all := lw_g (lw_at lw_m10 20 rfl) rfl
theorem q2343 : (Jvm.Cond.methodLink "LazyForge$Apply" (120 : Nat) ({ cls := "LazyForge$Machine", name := "call", desc := "(LLazyForge$Function;II)V" } : Jvm.MethodName)) ∈ lw_all := lw_g (lw_at lw_m10 21 rfl) rfl
theorem q3451 : (Jvm.Cond.selects "LazyForge$Apply" ({ cls := "LazyForge$Part", name := "mayWait", desc := "(LLazyForge$Program;LLazyForge$Function;)V" } : Jvm.MethodName) ({ cls := "LazyForge$Part", name := "mayWait", desc := "(LLazyForge$Program;LLazyForge$Function;)V" } : Jvm.MethodName)) ∈ lw_all := lw_g (lw_at lw_m14 169 rfl) rfl
theorem q3464 : (Jvm.Cond.selects "LazyForge$Apply" ({ cls := "LazyForge$Apply", name := "keep", desc := "(LLazyForge$Machine;)J" } : Jvm.MethodName) ({ cls := "LazyForge$Apply", name := "keep", desc := "(LLazyForge$Machine;)J" } : Jvm.MethodName)) ∈ lw_all := lw_g (lw_at lw_m14 182 rfl) rfl
theorem q3472 : (Jvm.Cond.castable "LazyForge$Apply" "LazyForge$Part") ∈ lw_tbl := lw_at lw_m14 190 rfl
theorem q3487 : (Jvm.Cond.castable "LazyForge$Apply" "LazyForge$Apply") ∈ lw_tbl := lw_at lw_m14 205 rfl
theorem q3512 : (Jvm.Cond.castable "LazyForge$Apply" "java/lang/Object") ∈ lw_tbl := lw_at lw_m14 230 rfl
theorem in_X21 : ∀ w ∈ wsX210, w ∈ lw_all := lw_in wsX210 [1474, 1475, 1476, 1477, 1478, 1470, 1472] (by decide +kernel) (by decide +kernel)

/-! LazyForge$Case -/
set_option maxRecDepth 100000
def RX22 : String := "LazyForge$Case"
def TX22 : u_T := fun k => match k with
  | 0 => ("LazyForge$Part", "parts", "I", false)
  | 1 => ("LazyForge$Part", "high", "I", false)
  | 2 => ("LazyForge$Part", "number", "I", false)
  | 3 => ("LazyForge$Part", "captured", "[I", false)
  | 4 => ("LazyForge$Part", "in", "LLazyForge$Function;", false)
  | 5 => ("LazyForge$Case", "of", "LLazyForge$Part;", true)
  | 6 => ("LazyForge$Case", "patterns", "[I", true)
  | 7 => ("LazyForge$Case", "numbers", "[I", true)
  | 8 => ("LazyForge$Case", "bound", "[[LLazyForge$Variable;", true)
  | _ => ("LazyForge$Case", "parts0", "[LLazyForge$Part;", true)
def tyX22 : Nat → FieldType := fun k => match k with
  | 0 => .int
  | 1 => .int
  | 2 => .int
  | 3 => .array .int
  | 4 => .object "LazyForge$Function"
  | 5 => .object "LazyForge$Part"
  | 6 => .array .int
  | 7 => .array .int
  | 8 => .array (.array (.object "LazyForge$Variable"))
  | _ => .array (.object "LazyForge$Part")
abbrev wsX220 : List Cond := u_ws RX22 TX22 10
theorem nmX22 : ∀ a, a < 10 → ∀ b, b < 10 → a ≠ b → (TX22 a).2.1 ≠ (TX22 b).2.1 := by decide +kernel
theorem tyX22_ok : ∀ k, k < 10 → parseFieldDescriptor (TX22 k).2.2.1 = some (tyX22 k) := by decide +kernel
abbrev cX22_init : ByteArray := prog_4_method_1_code
def yX22_init : MethodName := ⟨RX22, "<init>", "(LLazyForge$Part;[I[I[[LLazyForge$Variable;[LLazyForge$Part;)V"⟩
abbrev cX22_clear : ByteArray := prog_4_method_2_code
def yX22_clear : MethodName := ⟨RX22, "clear", "([Z)V"⟩
abbrev cX22_bit : ByteArray := prog_4_method_3_code
def yX22_bit : MethodName := ⟨RX22, "bit", "([Z)Z"⟩
abbrev cX22_prepare : ByteArray := prog_4_method_10_code
def yX22_prepare : MethodName := ⟨RX22, "prepare", "(LLazyForge$Program;LLazyForge$Function;)V"⟩
abbrev cX22_uses : ByteArray := prog_4_method_4_code
def yX22_uses : MethodName := ⟨RX22, "uses", "([Z)V"⟩
abbrev cX22_bound : ByteArray := prog_4_method_5_code
def yX22_bound : MethodName := ⟨RX22, "bound", "([Z)V"⟩
abbrev cX22_write : ByteArray := prog_4_method_9_code
def yX22_write : MethodName := ⟨RX22, "write", "(LLazyForge$Writer;)V"⟩
abbrev cX22_keep : ByteArray := prog_4_method_6_code
def yX22_keep : MethodName := ⟨RX22, "keep", "(LLazyForge$Machine;)J"⟩
abbrev cX22_step : ByteArray := prog_4_method_8_code
def yX22_step : MethodName := ⟨RX22, "step", "(LLazyForge$Machine;I)V"⟩
abbrev cX22_fits : ByteArray := prog_4_method_7_code
def yX22_fits : MethodName := ⟨RX22, "fits", "(LLazyForge$Machine;IJ)Z"⟩
theorem q202 : (Jvm.Cond.initialized "LazyForge$Case") ∈ lw_all := lw_g (lw_at lw_m1 40 rfl) rfl
theorem q1226 : (Jvm.Cond.selects "LazyForge$Case" ({ cls := "java/lang/Object", name := "getClass", desc := "()Ljava/lang/Class;" } : Jvm.MethodName) ({ cls := "java/lang/Object", name := "getClass", desc := "()Ljava/lang/Class;" } : Jvm.MethodName)) ∈ lw_all := lw_g (lw_at lw_m5 104 rfl) rfl
theorem q1291 : (Jvm.Cond.fieldLinkNest "LazyForge$Case" (42 : Nat) "LazyForge$Variable" "number" "I" "LazyForge") ∈ lw_tbl := lw_at lw_m5 169 rfl
theorem q1404 : (Jvm.Cond.selects "LazyForge$Case" ({ cls := "java/lang/Object", name := "equals", desc := "(Ljava/lang/Object;)Z" } : Jvm.MethodName) ({ cls := "java/lang/Object", name := "equals", desc := "(Ljava/lang/Object;)Z" } : Jvm.MethodName)) ∈ lw_all := lw_g (lw_at lw_m6 42 rfl) rfl
theorem q1487 : (Jvm.Cond.instantiable "LazyForge$Case" (10 : Nat)) ∈ lw_all := lw_g (lw_at lw_m6 125 rfl) rfl
theorem q1489 : (Jvm.Cond.instanceMethod ({ cls := "LazyForge$Case", name := "<init>", desc := "(LLazyForge$Part;[I[I[[LLazyForge$Variable;[LLazyForge$Part;)V" } : Jvm.MethodName)) ∈ lw_all := lw_g (lw_at lw_m6 127 rfl) rfl
theorem q1490 : (Jvm.Cond.code ({ cls := "LazyForge$Case", name := "<init>", desc := "(LLazyForge$Part;[I[I[[LLazyForge$Variable;[LLazyForge$Part;)V" } : Jvm.MethodName) prog_4_method_1_code (10 : Nat) (Option.none : Option Jvm.ClassFile.FieldType)) ∈ lw_all := lw_g (lw_at lw_m6 128 rfl) rfl
theorem q1491 : (Jvm.Cond.methodLinkNest "LazyForge$Case" (3 : Nat) ({ cls := "LazyForge$Part", name := "<init>", desc := "()V" } : Jvm.MethodName) "LazyForge") ∈ lw_tbl := lw_at lw_m6 129 rfl
theorem q1492 : (Jvm.Cond.methodLink "LazyForge$Case" (30 : Nat) ({ cls := "LazyForge$Case", name := "has", desc := "(LLazyForge$Part;)V" } : Jvm.MethodName)) ∈ lw_all := lw_g (lw_at lw_m6 130 rfl) rfl
theorem q1493 : (Jvm.Cond.sameMethod "LazyForge$Case" "LazyForge$Part" "has" "(LLazyForge$Part;)V") ∈ lw_all := lw_g (lw_at lw_m6 131 rfl) rfl
theorem q1494 : (Jvm.Cond.selects "LazyForge$Case" ({ cls := "LazyForge$Case", name := "has", desc := "(LLazyForge$Part;)V" } : Jvm.MethodName) ({ cls := "LazyForge$Part", name := "has", desc := "(LLazyForge$Part;)V" } : Jvm.MethodName)) ∈ lw_all := lw_g (lw_at lw_m6 132 rfl) rfl
theorem q1495 : (Jvm.Cond.fieldLink "LazyForge$Case" (9 : Nat) "LazyForge$Case" "of" "LLazyForge$Part;") ∈ lw_all := lw_g (lw_at lw_m6 133 rfl) rfl
theorem q1496 : (Jvm.Cond.fieldLink "LazyForge$Case" (15 : Nat) "LazyForge$Case" "patterns" "[I") ∈ lw_all := lw_g (lw_at lw_m6 134 rfl) rfl
theorem q1497 : (Jvm.Cond.fieldLink "LazyForge$Case" (19 : Nat) "LazyForge$Case" "numbers" "[I") ∈ lw_all := lw_g (lw_at lw_m6 135 rfl) rfl
theorem q1498 : (Jvm.Cond.fieldLink "LazyForge$Case" (22 : Nat) "LazyForge$Case" "bound" "[[LLazyForge$Variable;") ∈ lw_all := lw_g (lw_at lw_m6 136 rfl) rfl
theorem q1499 : (Jvm.Cond.fieldLink "LazyForge$Case" (26 : Nat) "LazyForge$Case" "parts0" "[LLazyForge$Part;") ∈ lw_all := lw_g (lw_at lw_m6 137 rfl) rfl
theorem q1500 : (Jvm.Cond.laysFinal "LazyForge$Case" "LazyForge$Case" "of" "LLazyForge$Part;") ∈ lw_all := lw_g (lw_at lw_m6 138 rfl) rfl
theorem q1501 : (Jvm.Cond.soleField "LazyForge$Case" "of") ∈ lw_all := lw_g (lw_at lw_m6 139 rfl) rfl
theorem q1502 : (Jvm.Cond.laysFinal "LazyForge$Case" "LazyForge$Case" "patterns" "[I") ∈ lw_all := lw_g (lw_at lw_m6 140 rfl) rfl
theorem q1503 : (Jvm.Cond.soleField "LazyForge$Case" "patterns") ∈ lw_all := lw_g (lw_at lw_m6 141 rfl) rfl
theorem q1504 : (Jvm.Cond.laysFinal "LazyForge$Case" "LazyForge$Case" "numbers" "[I") ∈ lw_all := lw_g (lw_at lw_m6 142 rfl) rfl
theorem q1505 : (Jvm.Cond.soleField "LazyForge$Case" "numbers") ∈ lw_all := lw_g (lw_at lw_m6 143 rfl) rfl
theorem q1506 : (Jvm.Cond.laysFinal "LazyForge$Case" "LazyForge$Case" "bound" "[[LLazyForge$Variable;") ∈ lw_all := lw_g (lw_at lw_m6 144 rfl) rfl
theorem q1507 : (Jvm.Cond.soleField "LazyForge$Case" "bound") ∈ lw_all := lw_g (lw_at lw_m6 145 rfl) rfl
theorem q1508 : (Jvm.Cond.laysFinal "LazyForge$Case" "LazyForge$Case" "parts0" "[LLazyForge$Part;") ∈ lw_all := lw_g (lw_at lw_m6 146 rfl) rfl
theorem q1509 : (Jvm.Cond.soleField "LazyForge$Case" "parts0") ∈ lw_all := lw_g (lw_at lw_m6 147 rfl) rfl
theorem q1510 : (Jvm.Cond.lays "LazyForge$Case" "LazyForge$Part" "parts" "I") ∈ lw_all := lw_g (lw_at lw_m6 148 rfl) rfl
theorem q1511 : (Jvm.Cond.lays "LazyForge$Case" "LazyForge$Part" "high" "I") ∈ lw_all := lw_g (lw_at lw_m6 149 rfl) rfl
theorem q1512 : (Jvm.Cond.lays "LazyForge$Case" "LazyForge$Part" "number" "I") ∈ lw_all := lw_g (lw_at lw_m6 150 rfl) rfl
theorem q1513 : (Jvm.Cond.lays "LazyForge$Case" "LazyForge$Part" "captured" "[I") ∈ lw_all := lw_g (lw_at lw_m6 151 rfl) rfl
theorem q1514 : (Jvm.Cond.lays "LazyForge$Case" "LazyForge$Part" "in" "LLazyForge$Function;") ∈ lw_all := lw_g (lw_at lw_m6 152 rfl) rfl
theorem q1515 : (Jvm.Cond.superclass "LazyForge$Case" "LazyForge$Part") ∈ lw_all := lw_g (lw_at lw_m6 153 rfl) rfl
theorem q1647 : (Jvm.Cond.selects "LazyForge$Case" ({ cls := "LazyForge$Part", name := "least", desc := "([Z)Z" } : Jvm.MethodName) ({ cls := "LazyForge$Part", name := "least", desc := "([Z)Z" } : Jvm.MethodName)) ∈ lw_all := lw_g (lw_at lw_m7 45 rfl) rfl
theorem q1668 : (Jvm.Cond.instanceMethod ({ cls := "LazyForge$Case", name := "clear", desc := "([Z)V" } : Jvm.MethodName)) ∈ lw_all := lw_g (lw_at lw_m7 66 rfl) rfl
theorem q1669 : (Jvm.Cond.code ({ cls := "LazyForge$Case", name := "clear", desc := "([Z)V" } : Jvm.MethodName) prog_4_method_2_code (6 : Nat) (Option.none : Option Jvm.ClassFile.FieldType)) ∈ lw_all := lw_g (lw_at lw_m7 67 rfl) rfl
theorem q1670 : (Jvm.Cond.methodLink "LazyForge$Case" (34 : Nat) ({ cls := "LazyForge$Part", name := "clear", desc := "([Z)V" } : Jvm.MethodName)) ∈ lw_all := lw_g (lw_at lw_m7 68 rfl) rfl
theorem q1680 : (Jvm.Cond.selects "LazyForge$Case" ({ cls := "LazyForge$Part", name := "clear", desc := "([Z)V" } : Jvm.MethodName) ({ cls := "LazyForge$Case", name := "clear", desc := "([Z)V" } : Jvm.MethodName)) ∈ lw_all := lw_g (lw_at lw_m7 78 rfl) rfl
theorem q1704 : (Jvm.Cond.instanceMethod ({ cls := "LazyForge$Case", name := "bit", desc := "([Z)Z" } : Jvm.MethodName)) ∈ lw_all := lw_g (lw_at lw_m7 102 rfl) rfl
theorem q1705 : (Jvm.Cond.code ({ cls := "LazyForge$Case", name := "bit", desc := "([Z)Z" } : Jvm.MethodName) prog_4_method_3_code (8 : Nat) (Option.some Jvm.ClassFile.FieldType.boolean)) ∈ lw_all := lw_g (lw_at lw_m7 103 rfl) rfl
theorem q1706 : (Jvm.Cond.methodLink "LazyForge$Case" (38 : Nat) ({ cls := "LazyForge$Part", name := "bit", desc := "([Z)Z" } : Jvm.MethodName)) ∈ lw_all := lw_g (lw_at lw_m7 104 rfl) rfl
theorem q1731 : (Jvm.Cond.selects "LazyForge$Case" ({ cls := "LazyForge$Part", name := "bit", desc := "([Z)Z" } : Jvm.MethodName) ({ cls := "LazyForge$Case", name := "bit", desc := "([Z)Z" } : Jvm.MethodName)) ∈ lw_all := lw_g (lw_at lw_m7 129 rfl) rfl
theorem q1753 : (Jvm.Cond.instanceMethod ({ cls := "LazyForge$Case", name := "prepare", desc := "(LLazyForge$Program;LLazyForge$Function;)V" } : Jvm.MethodName)) ∈ lw_all := lw_g (lw_at lw_m7 151 rfl) rfl
theorem q1754 : (Jvm.Cond.code ({ cls := "LazyForge$Case", name := "prepare", desc := "(LLazyForge$Program;LLazyForge$Function;)V" } : Jvm.MethodName) prog_4_method_10_code (7 : Nat) (Option.none : Option Jvm.ClassFile.FieldType)) ∈ lw_all := lw_g (lw_at lw_m7 152 rfl) rfl
theorem q1755 : (Jvm.Cond.methodLink "LazyForge$Case" (134 : Nat) ({ cls := "LazyForge$Part", name := "prepare", desc := "(LLazyForge$Program;LLazyForge$Function;)V" } : Jvm.MethodName)) ∈ lw_all := lw_g (lw_at lw_m7 153 rfl) rfl
theorem q1774 : (Jvm.Cond.instanceMethod ({ cls := "LazyForge$Case", name := "uses", desc := "([Z)V" } : Jvm.MethodName)) ∈ lw_all := lw_g (lw_at lw_m7 172 rfl) rfl
theorem q1775 : (Jvm.Cond.code ({ cls := "LazyForge$Case", name := "uses", desc := "([Z)V" } : Jvm.MethodName) prog_4_method_4_code (6 : Nat) (Option.none : Option Jvm.ClassFile.FieldType)) ∈ lw_all := lw_g (lw_at lw_m7 173 rfl) rfl
theorem q1776 : (Jvm.Cond.methodLink "LazyForge$Case" (48 : Nat) ({ cls := "LazyForge$Part", name := "uses", desc := "([Z)V" } : Jvm.MethodName)) ∈ lw_all := lw_g (lw_at lw_m7 174 rfl) rfl
theorem q1794 : (Jvm.Cond.selects "LazyForge$Case" ({ cls := "LazyForge$Part", name := "uses", desc := "([Z)V" } : Jvm.MethodName) ({ cls := "LazyForge$Case", name := "uses", desc := "([Z)V" } : Jvm.MethodName)) ∈ lw_all := lw_g (lw_at lw_m7 192 rfl) rfl
theorem q1814 : (Jvm.Cond.instanceMethod ({ cls := "LazyForge$Case", name := "bound", desc := "([Z)V" } : Jvm.MethodName)) ∈ lw_all := lw_g (lw_at lw_m7 212 rfl) rfl
theorem q1815 : (Jvm.Cond.code ({ cls := "LazyForge$Case", name := "bound", desc := "([Z)V" } : Jvm.MethodName) prog_4_method_5_code (7 : Nat) (Option.none : Option Jvm.ClassFile.FieldType)) ∈ lw_all := lw_g (lw_at lw_m7 213 rfl) rfl
theorem q1816 : (Jvm.Cond.methodLink "LazyForge$Case" (51 : Nat) ({ cls := "LazyForge$Part", name := "bound", desc := "([Z)V" } : Jvm.MethodName)) ∈ lw_all := lw_g (lw_at lw_m7 214 rfl) rfl
theorem q1826 : (Jvm.Cond.selects "LazyForge$Case" ({ cls := "LazyForge$Part", name := "bound", desc := "([Z)V" } : Jvm.MethodName) ({ cls := "LazyForge$Case", name := "bound", desc := "([Z)V" } : Jvm.MethodName)) ∈ lw_all := lw_g (lw_at lw_m7 224 rfl) rfl
theorem q1866 : (Jvm.Cond.methodLink "LazyForge$Case" (138 : Nat) ({ cls := "LazyForge$Case", name := "mayWait", desc := "(LLazyForge$Program;LLazyForge$Function;)V" } : Jvm.MethodName)) ∈ lw_all := lw_g (lw_at lw_m8 24 rfl) rfl
theorem q1867 : (Jvm.Cond.sameMethod "LazyForge$Case" "LazyForge$Part" "mayWait" "(LLazyForge$Program;LLazyForge$Function;)V") ∈ lw_all := lw_g (lw_at lw_m8 25 rfl) rfl
theorem q1868 : (Jvm.Cond.selects "LazyForge$Case" ({ cls := "LazyForge$Case", name := "mayWait", desc := "(LLazyForge$Program;LLazyForge$Function;)V" } : Jvm.MethodName) ({ cls := "LazyForge$Part", name := "mayWait", desc := "(LLazyForge$Program;LLazyForge$Function;)V" } : Jvm.MethodName)) ∈ lw_all := lw_g (lw_at lw_m8 26 rfl) rfl
theorem q1881 : (Jvm.Cond.selects "LazyForge$Case" ({ cls := "LazyForge$Part", name := "prepare", desc := "(LLazyForge$Program;LLazyForge$Function;)V" } : Jvm.MethodName) ({ cls := "LazyForge$Case", name := "prepare", desc := "(LLazyForge$Program;LLazyForge$Function;)V" } : Jvm.MethodName)) ∈ lw_all := lw_g (lw_at lw_m8 39 rfl) rfl
theorem q1983 : (Jvm.Cond.instanceMethod ({ cls := "LazyForge$Case", name := "write", desc := "(LLazyForge$Writer;)V" } : Jvm.MethodName)) ∈ lw_all := lw_g (lw_at lw_m8 141 rfl) rfl
theorem q1984 : (Jvm.Cond.code ({ cls := "LazyForge$Case", name := "write", desc := "(LLazyForge$Writer;)V" } : Jvm.MethodName) prog_4_method_9_code (7 : Nat) (Option.none : Option Jvm.ClassFile.FieldType)) ∈ lw_all := lw_g (lw_at lw_m8 142 rfl) rfl
theorem q1985 : (Jvm.Cond.stringRef "LazyForge$Case" (102 : Nat) "(case ") ∈ lw_tbl := lw_at lw_m8 143 rfl
theorem q1986 : (Jvm.Cond.methodLink "LazyForge$Case" (104 : Nat) ({ cls := "LazyForge$Writer", name := "text", desc := "(Ljava/lang/String;)V" } : Jvm.MethodName)) ∈ lw_all := lw_g (lw_at lw_m8 144 rfl) rfl
theorem q1987 : (Jvm.Cond.methodLink "LazyForge$Case" (110 : Nat) ({ cls := "LazyForge$Part", name := "write", desc := "(LLazyForge$Writer;)V" } : Jvm.MethodName)) ∈ lw_all := lw_g (lw_at lw_m8 145 rfl) rfl
theorem q2038 : (Jvm.Cond.stringRef "LazyForge$Case" (114 : Nat) " of {") ∈ lw_tbl := lw_at lw_m8 196 rfl
theorem q2039 : (Jvm.Cond.stringRef "LazyForge$Case" (116 : Nat) "; ") ∈ lw_tbl := lw_at lw_m8 197 rfl
theorem q2040 : (Jvm.Cond.methodLink "LazyForge$Case" (118 : Nat) ({ cls := "LazyForge$Writer", name := "sign", desc := "(C)V" } : Jvm.MethodName)) ∈ lw_all := lw_g (lw_at lw_m8 198 rfl) rfl
theorem q2041 : (Jvm.Cond.methodLink "LazyForge$Case" (122 : Nat) ({ cls := "LazyForge$Writer", name := "number", desc := "(I)V" } : Jvm.MethodName)) ∈ lw_all := lw_g (lw_at lw_m8 199 rfl) rfl
theorem q2042 : (Jvm.Cond.methodLink "LazyForge$Case" (124 : Nat) ({ cls := "LazyForge$Writer", name := "constructor", desc := "(I)V" } : Jvm.MethodName)) ∈ lw_all := lw_g (lw_at lw_m8 200 rfl) rfl
theorem q2043 : (Jvm.Cond.methodLink "LazyForge$Case" (127 : Nat) ({ cls := "LazyForge$Writer", name := "variable", desc := "(I)V" } : Jvm.MethodName)) ∈ lw_all := lw_g (lw_at lw_m8 201 rfl) rfl
theorem q2044 : (Jvm.Cond.stringRef "LazyForge$Case" (130 : Nat) " -> ") ∈ lw_tbl := lw_at lw_m8 202 rfl
theorem q2045 : (Jvm.Cond.stringRef "LazyForge$Case" (132 : Nat) "})") ∈ lw_tbl := lw_at lw_m8 203 rfl
theorem q2046 : (Jvm.Cond.selects "LazyForge$Case" ({ cls := "LazyForge$Part", name := "write", desc := "(LLazyForge$Writer;)V" } : Jvm.MethodName) ({ cls := "LazyForge$Case", name := "write", desc := "(LLazyForge$Writer;)V" } : Jvm.MethodName)) ∈ lw_all := lw_g (lw_at lw_m8 204 rfl) rfl
theorem q2282 : (Jvm.Cond.instanceMethod ({ cls := "LazyForge$Case", name := "keep", desc := "(LLazyForge$Machine;)J" } : Jvm.MethodName)) ∈ lw_all := lw_g (lw_at lw_m9 200 rfl) rfl
theorem q2283 : (Jvm.Cond.code ({ cls := "LazyForge$Case", name := "keep", desc := "(LLazyForge$Machine;)J" } : Jvm.MethodName) prog_4_method_6_code (2 : Nat) (Option.some Jvm.ClassFile.FieldType.long)) ∈ lw_all := lw_g (lw_at lw_m9 201 rfl) rfl
theorem q2284 : (Jvm.Cond.methodLink "LazyForge$Case" (53 : Nat) ({ cls := "LazyForge$Machine", name := "suspend", desc := "(LLazyForge$Part;)J" } : Jvm.MethodName)) ∈ lw_all := lw_g (lw_at lw_m9 202 rfl) rfl
theorem q2324 : (Jvm.Cond.selects "LazyForge$Case" ({ cls := "LazyForge$Part", name := "keep", desc := "(LLazyForge$Machine;)J" } : Jvm.MethodName) ({ cls := "LazyForge$Case", name := "keep", desc := "(LLazyForge$Machine;)J" } : Jvm.MethodName)) ∈ lw_all := lw_g (lw_at lw_m10 2 rfl) rfl
theorem q2344 : (Jvm.Cond.selects "LazyForge$Case" ({ cls := "LazyForge$Part", name := "step", desc := "(LLazyForge$Machine;I)V" } : Jvm.MethodName) ({ cls := "LazyForge$Case", name := "step", desc := "(LLazyForge$Machine;I)V" } : Jvm.MethodName)) ∈ lw_all := lw_g (lw_at lw_m10 22 rfl) rfl
theorem q2345 : (Jvm.Cond.instanceMethod ({ cls := "LazyForge$Case", name := "step", desc := "(LLazyForge$Machine;I)V" } : Jvm.MethodName)) ∈ lw_all := lw_g (lw_at lw_m10 23 rfl) rfl
theorem q2346 : (Jvm.Cond.code ({ cls := "LazyForge$Case", name := "step", desc := "(LLazyForge$Machine;I)V" } : Jvm.MethodName) prog_4_method_8_code (7 : Nat) (Option.none : Option Jvm.ClassFile.FieldType)) ∈ lw_all := lw_g (lw_at lw_m10 24 rfl) rfl
theorem q2347 : (Jvm.Cond.methodLink "LazyForge$Case" (75 : Nat) ({ cls := "LazyForge$Machine", name := "again", desc := "(LLazyForge$Part;I)V" } : Jvm.MethodName)) ∈ lw_all := lw_g (lw_at lw_m10 25 rfl) rfl
theorem q2348 : (Jvm.Cond.methodLink "LazyForge$Case" (79 : Nat) ({ cls := "LazyForge$Machine", name := "work", desc := "(LLazyForge$Part;)V" } : Jvm.MethodName)) ∈ lw_all := lw_g (lw_at lw_m10 26 rfl) rfl
theorem q2349 : (Jvm.Cond.methodLink "LazyForge$Case" (82 : Nat) ({ cls := "LazyForge$Machine", name := "taken", desc := "()J" } : Jvm.MethodName)) ∈ lw_all := lw_g (lw_at lw_m10 27 rfl) rfl
theorem q2350 : (Jvm.Cond.methodLink "LazyForge$Case" (86 : Nat) ({ cls := "LazyForge$Case", name := "fits", desc := "(LLazyForge$Machine;IJ)Z" } : Jvm.MethodName)) ∈ lw_all := lw_g (lw_at lw_m10 28 rfl) rfl
theorem q2351 : (Jvm.Cond.privateMethod ({ cls := "LazyForge$Case", name := "fits", desc := "(LLazyForge$Machine;IJ)Z" } : Jvm.MethodName)) ∈ lw_tbl := lw_at lw_m10 29 rfl
theorem q2352 : (Jvm.Cond.instanceMethod ({ cls := "LazyForge$Case", name := "fits", desc := "(LLazyForge$Machine;IJ)Z" } : Jvm.MethodName)) ∈ lw_all := lw_g (lw_at lw_m10 30 rfl) rfl
theorem q2353 : (Jvm.Cond.code ({ cls := "LazyForge$Case", name := "fits", desc := "(LLazyForge$Machine;IJ)Z" } : Jvm.MethodName) prog_4_method_7_code (6 : Nat) (Option.some Jvm.ClassFile.FieldType.boolean)) ∈ lw_all := lw_g (lw_at lw_m10 31 rfl) rfl
theorem q2354 : (Jvm.Cond.methodLinkNest "LazyForge$Case" (59 : Nat) ({ cls := "LazyForge", name := "isInt", desc := "(J)Z" } : Jvm.MethodName) "LazyForge") ∈ lw_tbl := lw_at lw_m10 32 rfl
theorem q2355 : (Jvm.Cond.constantLong "LazyForge$Case" (63 : Nat) (4294967296 : Int64)) ∈ lw_all := lw_g (lw_at lw_m10 33 rfl) rfl
theorem q2356 : (Jvm.Cond.methodLinkNest "LazyForge$Case" (65 : Nat) ({ cls := "LazyForge", name := "isSort", desc := "(JJ)Z" } : Jvm.MethodName) "LazyForge") ∈ lw_tbl := lw_at lw_m10 34 rfl
theorem q2357 : (Jvm.Cond.constantLong "LazyForge$Case" (69 : Nat) (12884901888 : Int64)) ∈ lw_all := lw_g (lw_at lw_m10 35 rfl) rfl
theorem q2358 : (Jvm.Cond.methodLink "LazyForge$Case" (71 : Nat) ({ cls := "LazyForge$Machine", name := "constructorOf", desc := "(J)I" } : Jvm.MethodName)) ∈ lw_all := lw_g (lw_at lw_m10 36 rfl) rfl
theorem q2362 : (Jvm.Cond.methodLink "LazyForge$Case" (90 : Nat) ({ cls := "LazyForge$Machine", name := "fault", desc := "(I)V" } : Jvm.MethodName)) ∈ lw_all := lw_g (lw_at lw_m10 40 rfl) rfl
theorem q2363 : (Jvm.Cond.methodLink "LazyForge$Case" (94 : Nat) ({ cls := "LazyForge$Machine", name := "fieldOf", desc := "(JI)J" } : Jvm.MethodName)) ∈ lw_all := lw_g (lw_at lw_m10 41 rfl) rfl
theorem q2367 : (Jvm.Cond.methodLink "LazyForge$Case" (98 : Nat) ({ cls := "LazyForge$Machine", name := "set", desc := "(IJ)V" } : Jvm.MethodName)) ∈ lw_all := lw_g (lw_at lw_m10 45 rfl) rfl
theorem q3452 : (Jvm.Cond.selects "LazyForge$Case" ({ cls := "LazyForge$Part", name := "mayWait", desc := "(LLazyForge$Program;LLazyForge$Function;)V" } : Jvm.MethodName) ({ cls := "LazyForge$Part", name := "mayWait", desc := "(LLazyForge$Program;LLazyForge$Function;)V" } : Jvm.MethodName)) ∈ lw_all := lw_g (lw_at lw_m14 170 rfl) rfl
theorem q3473 : (Jvm.Cond.castable "LazyForge$Case" "LazyForge$Part") ∈ lw_tbl := lw_at lw_m14 191 rfl
theorem q3513 : (Jvm.Cond.castable "LazyForge$Case" "java/lang/Object") ∈ lw_tbl := lw_at lw_m14 231 rfl
theorem in_X22 : ∀ w ∈ wsX220, w ∈ lw_all := lw_in wsX220 [1510, 1511, 1512, 1513, 1514, 1500, 1502, 1504, 1506, 1508] (by decide +kernel) (by decide +kernel)

/-! LazyForge$Sign -/
set_option maxRecDepth 100000
def RX23 : String := "LazyForge$Sign"
def TX23 : u_T := fun k => match k with
  | 0 => ("LazyForge$Part", "parts", "I", false)
  | 1 => ("LazyForge$Part", "high", "I", false)
  | 2 => ("LazyForge$Part", "number", "I", false)
  | 3 => ("LazyForge$Part", "captured", "[I", false)
  | 4 => ("LazyForge$Part", "in", "LLazyForge$Function;", false)
  | 5 => ("LazyForge$Sign", "op", "I", true)
  | 6 => ("LazyForge$Sign", "one", "LLazyForge$Part;", true)
  | _ => ("LazyForge$Sign", "two", "LLazyForge$Part;", true)
def tyX23 : Nat → FieldType := fun k => match k with
  | 0 => .int
  | 1 => .int
  | 2 => .int
  | 3 => .array .int
  | 4 => .object "LazyForge$Function"
  | 5 => .int
  | 6 => .object "LazyForge$Part"
  | _ => .object "LazyForge$Part"
abbrev wsX230 : List Cond := u_ws RX23 TX23 8
theorem nmX23 : ∀ a, a < 8 → ∀ b, b < 8 → a ≠ b → (TX23 a).2.1 ≠ (TX23 b).2.1 := by decide +kernel
theorem tyX23_ok : ∀ k, k < 8 → parseFieldDescriptor (TX23 k).2.2.1 = some (tyX23 k) := by decide +kernel
abbrev cX23_init : ByteArray := prog_20_method_1_code
def yX23_init : MethodName := ⟨RX23, "<init>", "(ILLazyForge$Part;LLazyForge$Part;)V"⟩
abbrev cX23_clear : ByteArray := prog_20_method_3_code
def yX23_clear : MethodName := ⟨RX23, "clear", "([Z)V"⟩
abbrev cX23_bit : ByteArray := prog_20_method_2_code
def yX23_bit : MethodName := ⟨RX23, "bit", "([Z)Z"⟩
abbrev cX23_uses : ByteArray := prog_20_method_4_code
def yX23_uses : MethodName := ⟨RX23, "uses", "([Z)V"⟩
abbrev cX23_bound : ByteArray := prog_20_method_5_code
def yX23_bound : MethodName := ⟨RX23, "bound", "([Z)V"⟩
abbrev cX23_prepare : ByteArray := prog_20_method_9_code
def yX23_prepare : MethodName := ⟨RX23, "prepare", "(LLazyForge$Program;LLazyForge$Function;)V"⟩
abbrev cX23_write : ByteArray := prog_20_method_8_code
def yX23_write : MethodName := ⟨RX23, "write", "(LLazyForge$Writer;)V"⟩
abbrev cX23_keep : ByteArray := prog_20_method_6_code
def yX23_keep : MethodName := ⟨RX23, "keep", "(LLazyForge$Machine;)J"⟩
abbrev cX23_step : ByteArray := prog_20_method_7_code
def yX23_step : MethodName := ⟨RX23, "step", "(LLazyForge$Machine;I)V"⟩
theorem q203 : (Jvm.Cond.initialized "LazyForge$Sign") ∈ lw_all := lw_g (lw_at lw_m1 41 rfl) rfl
theorem q1241 : (Jvm.Cond.selects "LazyForge$Sign" ({ cls := "java/lang/Object", name := "getClass", desc := "()Ljava/lang/Class;" } : Jvm.MethodName) ({ cls := "java/lang/Object", name := "getClass", desc := "()Ljava/lang/Class;" } : Jvm.MethodName)) ∈ lw_all := lw_g (lw_at lw_m5 119 rfl) rfl
theorem q1419 : (Jvm.Cond.selects "LazyForge$Sign" ({ cls := "java/lang/Object", name := "equals", desc := "(Ljava/lang/Object;)Z" } : Jvm.MethodName) ({ cls := "java/lang/Object", name := "equals", desc := "(Ljava/lang/Object;)Z" } : Jvm.MethodName)) ∈ lw_all := lw_g (lw_at lw_m6 57 rfl) rfl
theorem q1517 : (Jvm.Cond.instantiable "LazyForge$Sign" (8 : Nat)) ∈ lw_all := lw_g (lw_at lw_m6 155 rfl) rfl
theorem q1519 : (Jvm.Cond.instanceMethod ({ cls := "LazyForge$Sign", name := "<init>", desc := "(ILLazyForge$Part;LLazyForge$Part;)V" } : Jvm.MethodName)) ∈ lw_all := lw_g (lw_at lw_m6 157 rfl) rfl
theorem q1520 : (Jvm.Cond.code ({ cls := "LazyForge$Sign", name := "<init>", desc := "(ILLazyForge$Part;LLazyForge$Part;)V" } : Jvm.MethodName) prog_20_method_1_code (4 : Nat) (Option.none : Option Jvm.ClassFile.FieldType)) ∈ lw_all := lw_g (lw_at lw_m6 158 rfl) rfl
theorem q1521 : (Jvm.Cond.methodLinkNest "LazyForge$Sign" (1 : Nat) ({ cls := "LazyForge$Part", name := "<init>", desc := "()V" } : Jvm.MethodName) "LazyForge") ∈ lw_tbl := lw_at lw_m6 159 rfl
theorem q1522 : (Jvm.Cond.methodLink "LazyForge$Sign" (20 : Nat) ({ cls := "LazyForge$Sign", name := "has", desc := "(LLazyForge$Part;)V" } : Jvm.MethodName)) ∈ lw_all := lw_g (lw_at lw_m6 160 rfl) rfl
theorem q1523 : (Jvm.Cond.sameMethod "LazyForge$Sign" "LazyForge$Part" "has" "(LLazyForge$Part;)V") ∈ lw_all := lw_g (lw_at lw_m6 161 rfl) rfl
theorem q1524 : (Jvm.Cond.selects "LazyForge$Sign" ({ cls := "LazyForge$Sign", name := "has", desc := "(LLazyForge$Part;)V" } : Jvm.MethodName) ({ cls := "LazyForge$Part", name := "has", desc := "(LLazyForge$Part;)V" } : Jvm.MethodName)) ∈ lw_all := lw_g (lw_at lw_m6 162 rfl) rfl
theorem q1525 : (Jvm.Cond.fieldLink "LazyForge$Sign" (7 : Nat) "LazyForge$Sign" "op" "I") ∈ lw_all := lw_g (lw_at lw_m6 163 rfl) rfl
theorem q1526 : (Jvm.Cond.fieldLink "LazyForge$Sign" (13 : Nat) "LazyForge$Sign" "one" "LLazyForge$Part;") ∈ lw_all := lw_g (lw_at lw_m6 164 rfl) rfl
theorem q1527 : (Jvm.Cond.fieldLink "LazyForge$Sign" (17 : Nat) "LazyForge$Sign" "two" "LLazyForge$Part;") ∈ lw_all := lw_g (lw_at lw_m6 165 rfl) rfl
theorem q1528 : (Jvm.Cond.laysFinal "LazyForge$Sign" "LazyForge$Sign" "op" "I") ∈ lw_all := lw_g (lw_at lw_m6 166 rfl) rfl
theorem q1529 : (Jvm.Cond.soleField "LazyForge$Sign" "op") ∈ lw_all := lw_g (lw_at lw_m6 167 rfl) rfl
theorem q1530 : (Jvm.Cond.laysFinal "LazyForge$Sign" "LazyForge$Sign" "one" "LLazyForge$Part;") ∈ lw_all := lw_g (lw_at lw_m6 168 rfl) rfl
theorem q1531 : (Jvm.Cond.soleField "LazyForge$Sign" "one") ∈ lw_all := lw_g (lw_at lw_m6 169 rfl) rfl
theorem q1532 : (Jvm.Cond.laysFinal "LazyForge$Sign" "LazyForge$Sign" "two" "LLazyForge$Part;") ∈ lw_all := lw_g (lw_at lw_m6 170 rfl) rfl
theorem q1533 : (Jvm.Cond.soleField "LazyForge$Sign" "two") ∈ lw_all := lw_g (lw_at lw_m6 171 rfl) rfl
theorem q1534 : (Jvm.Cond.lays "LazyForge$Sign" "LazyForge$Part" "parts" "I") ∈ lw_all := lw_g (lw_at lw_m6 172 rfl) rfl
theorem q1535 : (Jvm.Cond.lays "LazyForge$Sign" "LazyForge$Part" "high" "I") ∈ lw_all := lw_g (lw_at lw_m6 173 rfl) rfl
theorem q1536 : (Jvm.Cond.lays "LazyForge$Sign" "LazyForge$Part" "number" "I") ∈ lw_all := lw_g (lw_at lw_m6 174 rfl) rfl
theorem q1537 : (Jvm.Cond.lays "LazyForge$Sign" "LazyForge$Part" "captured" "[I") ∈ lw_all := lw_g (lw_at lw_m6 175 rfl) rfl
theorem q1538 : (Jvm.Cond.lays "LazyForge$Sign" "LazyForge$Part" "in" "LLazyForge$Function;") ∈ lw_all := lw_g (lw_at lw_m6 176 rfl) rfl
theorem q1539 : (Jvm.Cond.superclass "LazyForge$Sign" "LazyForge$Part") ∈ lw_all := lw_g (lw_at lw_m6 177 rfl) rfl
theorem q1656 : (Jvm.Cond.selects "LazyForge$Sign" ({ cls := "LazyForge$Part", name := "least", desc := "([Z)Z" } : Jvm.MethodName) ({ cls := "LazyForge$Part", name := "least", desc := "([Z)Z" } : Jvm.MethodName)) ∈ lw_all := lw_g (lw_at lw_m7 54 rfl) rfl
theorem q1677 : (Jvm.Cond.instanceMethod ({ cls := "LazyForge$Sign", name := "clear", desc := "([Z)V" } : Jvm.MethodName)) ∈ lw_all := lw_g (lw_at lw_m7 75 rfl) rfl
theorem q1678 : (Jvm.Cond.code ({ cls := "LazyForge$Sign", name := "clear", desc := "([Z)V" } : Jvm.MethodName) prog_20_method_3_code (2 : Nat) (Option.none : Option Jvm.ClassFile.FieldType)) ∈ lw_all := lw_g (lw_at lw_m7 76 rfl) rfl
theorem q1679 : (Jvm.Cond.methodLink "LazyForge$Sign" (28 : Nat) ({ cls := "LazyForge$Part", name := "clear", desc := "([Z)V" } : Jvm.MethodName)) ∈ lw_all := lw_g (lw_at lw_m7 77 rfl) rfl
theorem q1689 : (Jvm.Cond.selects "LazyForge$Sign" ({ cls := "LazyForge$Part", name := "clear", desc := "([Z)V" } : Jvm.MethodName) ({ cls := "LazyForge$Sign", name := "clear", desc := "([Z)V" } : Jvm.MethodName)) ∈ lw_all := lw_g (lw_at lw_m7 87 rfl) rfl
theorem q1724 : (Jvm.Cond.instanceMethod ({ cls := "LazyForge$Sign", name := "bit", desc := "([Z)Z" } : Jvm.MethodName)) ∈ lw_all := lw_g (lw_at lw_m7 122 rfl) rfl
theorem q1725 : (Jvm.Cond.code ({ cls := "LazyForge$Sign", name := "bit", desc := "([Z)Z" } : Jvm.MethodName) prog_20_method_2_code (2 : Nat) (Option.some Jvm.ClassFile.FieldType.boolean)) ∈ lw_all := lw_g (lw_at lw_m7 123 rfl) rfl
theorem q1726 : (Jvm.Cond.methodLink "LazyForge$Sign" (24 : Nat) ({ cls := "LazyForge$Part", name := "bit", desc := "([Z)Z" } : Jvm.MethodName)) ∈ lw_all := lw_g (lw_at lw_m7 124 rfl) rfl
theorem q1740 : (Jvm.Cond.selects "LazyForge$Sign" ({ cls := "LazyForge$Part", name := "bit", desc := "([Z)Z" } : Jvm.MethodName) ({ cls := "LazyForge$Sign", name := "bit", desc := "([Z)Z" } : Jvm.MethodName)) ∈ lw_all := lw_g (lw_at lw_m7 138 rfl) rfl
theorem q1789 : (Jvm.Cond.instanceMethod ({ cls := "LazyForge$Sign", name := "uses", desc := "([Z)V" } : Jvm.MethodName)) ∈ lw_all := lw_g (lw_at lw_m7 187 rfl) rfl
theorem q1790 : (Jvm.Cond.code ({ cls := "LazyForge$Sign", name := "uses", desc := "([Z)V" } : Jvm.MethodName) prog_20_method_4_code (2 : Nat) (Option.none : Option Jvm.ClassFile.FieldType)) ∈ lw_all := lw_g (lw_at lw_m7 188 rfl) rfl
theorem q1791 : (Jvm.Cond.methodLink "LazyForge$Sign" (32 : Nat) ({ cls := "LazyForge$Part", name := "uses", desc := "([Z)V" } : Jvm.MethodName)) ∈ lw_all := lw_g (lw_at lw_m7 189 rfl) rfl
theorem q1803 : (Jvm.Cond.selects "LazyForge$Sign" ({ cls := "LazyForge$Part", name := "uses", desc := "([Z)V" } : Jvm.MethodName) ({ cls := "LazyForge$Sign", name := "uses", desc := "([Z)V" } : Jvm.MethodName)) ∈ lw_all := lw_g (lw_at lw_m7 201 rfl) rfl
theorem q1823 : (Jvm.Cond.instanceMethod ({ cls := "LazyForge$Sign", name := "bound", desc := "([Z)V" } : Jvm.MethodName)) ∈ lw_all := lw_g (lw_at lw_m7 221 rfl) rfl
theorem q1824 : (Jvm.Cond.code ({ cls := "LazyForge$Sign", name := "bound", desc := "([Z)V" } : Jvm.MethodName) prog_20_method_5_code (2 : Nat) (Option.none : Option Jvm.ClassFile.FieldType)) ∈ lw_all := lw_g (lw_at lw_m7 222 rfl) rfl
theorem q1825 : (Jvm.Cond.methodLink "LazyForge$Sign" (35 : Nat) ({ cls := "LazyForge$Part", name := "bound", desc := "([Z)V" } : Jvm.MethodName)) ∈ lw_all := lw_g (lw_at lw_m7 223 rfl) rfl
theorem q1835 : (Jvm.Cond.selects "LazyForge$Sign" ({ cls := "LazyForge$Part", name := "bound", desc := "([Z)V" } : Jvm.MethodName) ({ cls := "LazyForge$Sign", name := "bound", desc := "([Z)V" } : Jvm.MethodName)) ∈ lw_all := lw_g (lw_at lw_m7 233 rfl) rfl
theorem q1851 : (Jvm.Cond.instanceMethod ({ cls := "LazyForge$Sign", name := "prepare", desc := "(LLazyForge$Program;LLazyForge$Function;)V" } : Jvm.MethodName)) ∈ lw_all := lw_g (lw_at lw_m8 9 rfl) rfl
theorem q1852 : (Jvm.Cond.code ({ cls := "LazyForge$Sign", name := "prepare", desc := "(LLazyForge$Program;LLazyForge$Function;)V" } : Jvm.MethodName) prog_20_method_9_code (3 : Nat) (Option.none : Option Jvm.ClassFile.FieldType)) ∈ lw_all := lw_g (lw_at lw_m8 10 rfl) rfl
theorem q1853 : (Jvm.Cond.methodLink "LazyForge$Sign" (75 : Nat) ({ cls := "LazyForge$Part", name := "prepare", desc := "(LLazyForge$Program;LLazyForge$Function;)V" } : Jvm.MethodName)) ∈ lw_all := lw_g (lw_at lw_m8 11 rfl) rfl
theorem q1859 : (Jvm.Cond.methodLink "LazyForge$Sign" (79 : Nat) ({ cls := "LazyForge$Sign", name := "mayWait", desc := "(LLazyForge$Program;LLazyForge$Function;)V" } : Jvm.MethodName)) ∈ lw_all := lw_g (lw_at lw_m8 17 rfl) rfl
theorem q1860 : (Jvm.Cond.sameMethod "LazyForge$Sign" "LazyForge$Part" "mayWait" "(LLazyForge$Program;LLazyForge$Function;)V") ∈ lw_all := lw_g (lw_at lw_m8 18 rfl) rfl
theorem q1861 : (Jvm.Cond.selects "LazyForge$Sign" ({ cls := "LazyForge$Sign", name := "mayWait", desc := "(LLazyForge$Program;LLazyForge$Function;)V" } : Jvm.MethodName) ({ cls := "LazyForge$Part", name := "mayWait", desc := "(LLazyForge$Program;LLazyForge$Function;)V" } : Jvm.MethodName)) ∈ lw_all := lw_g (lw_at lw_m8 19 rfl) rfl
theorem q1890 : (Jvm.Cond.selects "LazyForge$Sign" ({ cls := "LazyForge$Part", name := "prepare", desc := "(LLazyForge$Program;LLazyForge$Function;)V" } : Jvm.MethodName) ({ cls := "LazyForge$Sign", name := "prepare", desc := "(LLazyForge$Program;LLazyForge$Function;)V" } : Jvm.MethodName)) ∈ lw_all := lw_g (lw_at lw_m8 48 rfl) rfl
theorem q2017 : (Jvm.Cond.instanceMethod ({ cls := "LazyForge$Sign", name := "write", desc := "(LLazyForge$Writer;)V" } : Jvm.MethodName)) ∈ lw_all := lw_g (lw_at lw_m8 175 rfl) rfl
theorem q2018 : (Jvm.Cond.code ({ cls := "LazyForge$Sign", name := "write", desc := "(LLazyForge$Writer;)V" } : Jvm.MethodName) prog_20_method_8_code (2 : Nat) (Option.none : Option Jvm.ClassFile.FieldType)) ∈ lw_all := lw_g (lw_at lw_m8 176 rfl) rfl
theorem q2019 : (Jvm.Cond.methodLink "LazyForge$Sign" (55 : Nat) ({ cls := "LazyForge$Writer", name := "sign", desc := "(C)V" } : Jvm.MethodName)) ∈ lw_all := lw_g (lw_at lw_m8 177 rfl) rfl
theorem q2020 : (Jvm.Cond.methodLink "LazyForge$Sign" (61 : Nat) ({ cls := "LazyForge$Part", name := "write", desc := "(LLazyForge$Writer;)V" } : Jvm.MethodName)) ∈ lw_all := lw_g (lw_at lw_m8 178 rfl) rfl
theorem q2024 : (Jvm.Cond.methodLinkNest "LazyForge$Sign" (65 : Nat) ({ cls := "LazyForge", name := "signOf", desc := "(I)Ljava/lang/String;" } : Jvm.MethodName) "LazyForge") ∈ lw_tbl := lw_at lw_m8 182 rfl
theorem q2035 : (Jvm.Cond.methodLink "LazyForge$Sign" (71 : Nat) ({ cls := "LazyForge$Writer", name := "text", desc := "(Ljava/lang/String;)V" } : Jvm.MethodName)) ∈ lw_all := lw_g (lw_at lw_m8 193 rfl) rfl
theorem q2055 : (Jvm.Cond.selects "LazyForge$Sign" ({ cls := "LazyForge$Part", name := "write", desc := "(LLazyForge$Writer;)V" } : Jvm.MethodName) ({ cls := "LazyForge$Sign", name := "write", desc := "(LLazyForge$Writer;)V" } : Jvm.MethodName)) ∈ lw_all := lw_g (lw_at lw_m8 213 rfl) rfl
theorem q2317 : (Jvm.Cond.instanceMethod ({ cls := "LazyForge$Sign", name := "keep", desc := "(LLazyForge$Machine;)J" } : Jvm.MethodName)) ∈ lw_all := lw_g (lw_at lw_m9 235 rfl) rfl
theorem q2318 : (Jvm.Cond.code ({ cls := "LazyForge$Sign", name := "keep", desc := "(LLazyForge$Machine;)J" } : Jvm.MethodName) prog_20_method_6_code (2 : Nat) (Option.some Jvm.ClassFile.FieldType.long)) ∈ lw_all := lw_g (lw_at lw_m9 236 rfl) rfl
theorem q2319 : (Jvm.Cond.methodLink "LazyForge$Sign" (38 : Nat) ({ cls := "LazyForge$Machine", name := "suspend", desc := "(LLazyForge$Part;)J" } : Jvm.MethodName)) ∈ lw_all := lw_g (lw_at lw_m9 237 rfl) rfl
theorem q2333 : (Jvm.Cond.selects "LazyForge$Sign" ({ cls := "LazyForge$Part", name := "keep", desc := "(LLazyForge$Machine;)J" } : Jvm.MethodName) ({ cls := "LazyForge$Sign", name := "keep", desc := "(LLazyForge$Machine;)J" } : Jvm.MethodName)) ∈ lw_all := lw_g (lw_at lw_m10 11 rfl) rfl
theorem q2441 : (Jvm.Cond.selects "LazyForge$Sign" ({ cls := "LazyForge$Part", name := "step", desc := "(LLazyForge$Machine;I)V" } : Jvm.MethodName) ({ cls := "LazyForge$Sign", name := "step", desc := "(LLazyForge$Machine;I)V" } : Jvm.MethodName)) ∈ lw_all := lw_g (lw_at lw_m10 119 rfl) rfl
theorem q2442 : (Jvm.Cond.instanceMethod ({ cls := "LazyForge$Sign", name := "step", desc := "(LLazyForge$Machine;I)V" } : Jvm.MethodName)) ∈ lw_all := lw_g (lw_at lw_m10 120 rfl) rfl
theorem q2443 : (Jvm.Cond.code ({ cls := "LazyForge$Sign", name := "step", desc := "(LLazyForge$Machine;I)V" } : Jvm.MethodName) prog_20_method_7_code (3 : Nat) (Option.none : Option Jvm.ClassFile.FieldType)) ∈ lw_all := lw_g (lw_at lw_m10 121 rfl) rfl
theorem q2444 : (Jvm.Cond.methodLink "LazyForge$Sign" (44 : Nat) ({ cls := "LazyForge$Machine", name := "reckon", desc := "(I)V" } : Jvm.MethodName)) ∈ lw_all := lw_g (lw_at lw_m10 122 rfl) rfl
theorem q2453 : (Jvm.Cond.methodLink "LazyForge$Sign" (48 : Nat) ({ cls := "LazyForge$Machine", name := "again", desc := "(LLazyForge$Part;I)V" } : Jvm.MethodName)) ∈ lw_all := lw_g (lw_at lw_m10 131 rfl) rfl
theorem q2454 : (Jvm.Cond.methodLink "LazyForge$Sign" (52 : Nat) ({ cls := "LazyForge$Machine", name := "work", desc := "(LLazyForge$Part;)V" } : Jvm.MethodName)) ∈ lw_all := lw_g (lw_at lw_m10 132 rfl) rfl
theorem q3461 : (Jvm.Cond.selects "LazyForge$Sign" ({ cls := "LazyForge$Part", name := "mayWait", desc := "(LLazyForge$Program;LLazyForge$Function;)V" } : Jvm.MethodName) ({ cls := "LazyForge$Part", name := "mayWait", desc := "(LLazyForge$Program;LLazyForge$Function;)V" } : Jvm.MethodName)) ∈ lw_all := lw_g (lw_at lw_m14 179 rfl) rfl
theorem q3482 : (Jvm.Cond.castable "LazyForge$Sign" "LazyForge$Part") ∈ lw_tbl := lw_at lw_m14 200 rfl
theorem q3514 : (Jvm.Cond.castable "LazyForge$Sign" "java/lang/Object") ∈ lw_tbl := lw_at lw_m14 232 rfl
theorem in_X23 : ∀ w ∈ wsX230, w ∈ lw_all := lw_in wsX230 [1534, 1535, 1536, 1537, 1538, 1528, 1530, 1532] (by decide +kernel) (by decide +kernel)

/-! LazyForge$Literal -/
set_option maxRecDepth 100000
def RX24 : String := "LazyForge$Literal"
def TX24 : u_T := fun k => match k with
  | 0 => ("LazyForge$Part", "parts", "I", false)
  | 1 => ("LazyForge$Part", "high", "I", false)
  | 2 => ("LazyForge$Part", "number", "I", false)
  | 3 => ("LazyForge$Part", "captured", "[I", false)
  | 4 => ("LazyForge$Part", "in", "LLazyForge$Function;", false)
  | _ => ("LazyForge$Literal", "value", "J", true)
def tyX24 : Nat → FieldType := fun k => match k with
  | 0 => .int
  | 1 => .int
  | 2 => .int
  | 3 => .array .int
  | 4 => .object "LazyForge$Function"
  | _ => .long
abbrev wsX240 : List Cond := u_ws RX24 TX24 6
theorem nmX24 : ∀ a, a < 6 → ∀ b, b < 6 → a ≠ b → (TX24 a).2.1 ≠ (TX24 b).2.1 := by decide +kernel
theorem tyX24_ok : ∀ k, k < 6 → parseFieldDescriptor (TX24 k).2.2.1 = some (tyX24 k) := by decide +kernel
abbrev cX24_init : ByteArray := prog_11_method_1_code
def yX24_init : MethodName := ⟨RX24, "<init>", "(J)V"⟩
abbrev cX24_bit : ByteArray := prog_11_method_2_code
def yX24_bit : MethodName := ⟨RX24, "bit", "([Z)Z"⟩
abbrev cX24_uses : ByteArray := prog_11_method_3_code
def yX24_uses : MethodName := ⟨RX24, "uses", "([Z)V"⟩
abbrev cX24_prepare : ByteArray := prog_11_method_7_code
def yX24_prepare : MethodName := ⟨RX24, "prepare", "(LLazyForge$Program;LLazyForge$Function;)V"⟩
abbrev cX24_write : ByteArray := prog_11_method_6_code
def yX24_write : MethodName := ⟨RX24, "write", "(LLazyForge$Writer;)V"⟩
abbrev cX24_keep : ByteArray := prog_11_method_4_code
def yX24_keep : MethodName := ⟨RX24, "keep", "(LLazyForge$Machine;)J"⟩
abbrev cX24_step : ByteArray := prog_11_method_5_code
def yX24_step : MethodName := ⟨RX24, "step", "(LLazyForge$Machine;I)V"⟩
theorem q204 : (Jvm.Cond.initialized "LazyForge$Literal") ∈ lw_all := lw_g (lw_at lw_m1 42 rfl) rfl
theorem q1233 : (Jvm.Cond.selects "LazyForge$Literal" ({ cls := "java/lang/Object", name := "getClass", desc := "()Ljava/lang/Class;" } : Jvm.MethodName) ({ cls := "java/lang/Object", name := "getClass", desc := "()Ljava/lang/Class;" } : Jvm.MethodName)) ∈ lw_all := lw_g (lw_at lw_m5 111 rfl) rfl
theorem q1411 : (Jvm.Cond.selects "LazyForge$Literal" ({ cls := "java/lang/Object", name := "equals", desc := "(Ljava/lang/Object;)Z" } : Jvm.MethodName) ({ cls := "java/lang/Object", name := "equals", desc := "(Ljava/lang/Object;)Z" } : Jvm.MethodName)) ∈ lw_all := lw_g (lw_at lw_m6 49 rfl) rfl
theorem q1541 : (Jvm.Cond.instantiable "LazyForge$Literal" (6 : Nat)) ∈ lw_all := lw_g (lw_at lw_m6 179 rfl) rfl
theorem q1547 : (Jvm.Cond.instanceMethod ({ cls := "LazyForge$Literal", name := "<init>", desc := "(J)V" } : Jvm.MethodName)) ∈ lw_all := lw_g (lw_at lw_m6 185 rfl) rfl
theorem q1548 : (Jvm.Cond.code ({ cls := "LazyForge$Literal", name := "<init>", desc := "(J)V" } : Jvm.MethodName) prog_11_method_1_code (3 : Nat) (Option.none : Option Jvm.ClassFile.FieldType)) ∈ lw_all := lw_g (lw_at lw_m6 186 rfl) rfl
theorem q1549 : (Jvm.Cond.methodLinkNest "LazyForge$Literal" (1 : Nat) ({ cls := "LazyForge$Part", name := "<init>", desc := "()V" } : Jvm.MethodName) "LazyForge") ∈ lw_tbl := lw_at lw_m6 187 rfl
theorem q1550 : (Jvm.Cond.fieldLink "LazyForge$Literal" (7 : Nat) "LazyForge$Literal" "value" "J") ∈ lw_all := lw_g (lw_at lw_m6 188 rfl) rfl
theorem q1551 : (Jvm.Cond.laysFinal "LazyForge$Literal" "LazyForge$Literal" "value" "J") ∈ lw_all := lw_g (lw_at lw_m6 189 rfl) rfl
theorem q1552 : (Jvm.Cond.soleField "LazyForge$Literal" "value") ∈ lw_all := lw_g (lw_at lw_m6 190 rfl) rfl
theorem q1553 : (Jvm.Cond.lays "LazyForge$Literal" "LazyForge$Part" "parts" "I") ∈ lw_all := lw_g (lw_at lw_m6 191 rfl) rfl
theorem q1554 : (Jvm.Cond.lays "LazyForge$Literal" "LazyForge$Part" "high" "I") ∈ lw_all := lw_g (lw_at lw_m6 192 rfl) rfl
theorem q1555 : (Jvm.Cond.lays "LazyForge$Literal" "LazyForge$Part" "number" "I") ∈ lw_all := lw_g (lw_at lw_m6 193 rfl) rfl
theorem q1556 : (Jvm.Cond.lays "LazyForge$Literal" "LazyForge$Part" "captured" "[I") ∈ lw_all := lw_g (lw_at lw_m6 194 rfl) rfl
theorem q1557 : (Jvm.Cond.lays "LazyForge$Literal" "LazyForge$Part" "in" "LLazyForge$Function;") ∈ lw_all := lw_g (lw_at lw_m6 195 rfl) rfl
theorem q1558 : (Jvm.Cond.superclass "LazyForge$Literal" "LazyForge$Part") ∈ lw_all := lw_g (lw_at lw_m6 196 rfl) rfl
theorem q1653 : (Jvm.Cond.selects "LazyForge$Literal" ({ cls := "LazyForge$Part", name := "least", desc := "([Z)Z" } : Jvm.MethodName) ({ cls := "LazyForge$Part", name := "least", desc := "([Z)Z" } : Jvm.MethodName)) ∈ lw_all := lw_g (lw_at lw_m7 51 rfl) rfl
theorem q1686 : (Jvm.Cond.selects "LazyForge$Literal" ({ cls := "LazyForge$Part", name := "clear", desc := "([Z)V" } : Jvm.MethodName) ({ cls := "LazyForge$Part", name := "clear", desc := "([Z)V" } : Jvm.MethodName)) ∈ lw_all := lw_g (lw_at lw_m7 84 rfl) rfl
theorem q1712 : (Jvm.Cond.instanceMethod ({ cls := "LazyForge$Literal", name := "bit", desc := "([Z)Z" } : Jvm.MethodName)) ∈ lw_all := lw_g (lw_at lw_m7 110 rfl) rfl
theorem q1713 : (Jvm.Cond.code ({ cls := "LazyForge$Literal", name := "bit", desc := "([Z)Z" } : Jvm.MethodName) prog_11_method_2_code (2 : Nat) (Option.some Jvm.ClassFile.FieldType.boolean)) ∈ lw_all := lw_g (lw_at lw_m7 111 rfl) rfl
theorem q1737 : (Jvm.Cond.selects "LazyForge$Literal" ({ cls := "LazyForge$Part", name := "bit", desc := "([Z)Z" } : Jvm.MethodName) ({ cls := "LazyForge$Literal", name := "bit", desc := "([Z)Z" } : Jvm.MethodName)) ∈ lw_all := lw_g (lw_at lw_m7 135 rfl) rfl
theorem q1782 : (Jvm.Cond.instanceMethod ({ cls := "LazyForge$Literal", name := "uses", desc := "([Z)V" } : Jvm.MethodName)) ∈ lw_all := lw_g (lw_at lw_m7 180 rfl) rfl
theorem q1783 : (Jvm.Cond.code ({ cls := "LazyForge$Literal", name := "uses", desc := "([Z)V" } : Jvm.MethodName) prog_11_method_3_code (2 : Nat) (Option.none : Option Jvm.ClassFile.FieldType)) ∈ lw_all := lw_g (lw_at lw_m7 181 rfl) rfl
theorem q1800 : (Jvm.Cond.selects "LazyForge$Literal" ({ cls := "LazyForge$Part", name := "uses", desc := "([Z)V" } : Jvm.MethodName) ({ cls := "LazyForge$Literal", name := "uses", desc := "([Z)V" } : Jvm.MethodName)) ∈ lw_all := lw_g (lw_at lw_m7 198 rfl) rfl
theorem q1832 : (Jvm.Cond.selects "LazyForge$Literal" ({ cls := "LazyForge$Part", name := "bound", desc := "([Z)V" } : Jvm.MethodName) ({ cls := "LazyForge$Part", name := "bound", desc := "([Z)V" } : Jvm.MethodName)) ∈ lw_all := lw_g (lw_at lw_m7 230 rfl) rfl
theorem q1844 : (Jvm.Cond.instanceMethod ({ cls := "LazyForge$Literal", name := "prepare", desc := "(LLazyForge$Program;LLazyForge$Function;)V" } : Jvm.MethodName)) ∈ lw_all := lw_g (lw_at lw_m8 2 rfl) rfl
theorem q1845 : (Jvm.Cond.code ({ cls := "LazyForge$Literal", name := "prepare", desc := "(LLazyForge$Program;LLazyForge$Function;)V" } : Jvm.MethodName) prog_11_method_7_code (3 : Nat) (Option.none : Option Jvm.ClassFile.FieldType)) ∈ lw_all := lw_g (lw_at lw_m8 3 rfl) rfl
theorem q1887 : (Jvm.Cond.selects "LazyForge$Literal" ({ cls := "LazyForge$Part", name := "prepare", desc := "(LLazyForge$Program;LLazyForge$Function;)V" } : Jvm.MethodName) ({ cls := "LazyForge$Literal", name := "prepare", desc := "(LLazyForge$Program;LLazyForge$Function;)V" } : Jvm.MethodName)) ∈ lw_all := lw_g (lw_at lw_m8 45 rfl) rfl
theorem q2000 : (Jvm.Cond.instanceMethod ({ cls := "LazyForge$Literal", name := "write", desc := "(LLazyForge$Writer;)V" } : Jvm.MethodName)) ∈ lw_all := lw_g (lw_at lw_m8 158 rfl) rfl
theorem q2001 : (Jvm.Cond.code ({ cls := "LazyForge$Literal", name := "write", desc := "(LLazyForge$Writer;)V" } : Jvm.MethodName) prog_11_method_6_code (2 : Nat) (Option.none : Option Jvm.ClassFile.FieldType)) ∈ lw_all := lw_g (lw_at lw_m8 159 rfl) rfl
theorem q2002 : (Jvm.Cond.methodLink "LazyForge$Literal" (19 : Nat) ({ cls := "LazyForge$Writer", name := "literal", desc := "(J)V" } : Jvm.MethodName)) ∈ lw_all := lw_g (lw_at lw_m8 160 rfl) rfl
theorem q2052 : (Jvm.Cond.selects "LazyForge$Literal" ({ cls := "LazyForge$Part", name := "write", desc := "(LLazyForge$Writer;)V" } : Jvm.MethodName) ({ cls := "LazyForge$Literal", name := "write", desc := "(LLazyForge$Writer;)V" } : Jvm.MethodName)) ∈ lw_all := lw_g (lw_at lw_m8 210 rfl) rfl
theorem q2291 : (Jvm.Cond.instanceMethod ({ cls := "LazyForge$Literal", name := "keep", desc := "(LLazyForge$Machine;)J" } : Jvm.MethodName)) ∈ lw_all := lw_g (lw_at lw_m9 209 rfl) rfl
theorem q2292 : (Jvm.Cond.code ({ cls := "LazyForge$Literal", name := "keep", desc := "(LLazyForge$Machine;)J" } : Jvm.MethodName) prog_11_method_4_code (2 : Nat) (Option.some Jvm.ClassFile.FieldType.long)) ∈ lw_all := lw_g (lw_at lw_m9 210 rfl) rfl
theorem q2330 : (Jvm.Cond.selects "LazyForge$Literal" ({ cls := "LazyForge$Part", name := "keep", desc := "(LLazyForge$Machine;)J" } : Jvm.MethodName) ({ cls := "LazyForge$Literal", name := "keep", desc := "(LLazyForge$Machine;)J" } : Jvm.MethodName)) ∈ lw_all := lw_g (lw_at lw_m10 8 rfl) rfl
theorem q2427 : (Jvm.Cond.selects "LazyForge$Literal" ({ cls := "LazyForge$Part", name := "step", desc := "(LLazyForge$Machine;I)V" } : Jvm.MethodName) ({ cls := "LazyForge$Literal", name := "step", desc := "(LLazyForge$Machine;I)V" } : Jvm.MethodName)) ∈ lw_all := lw_g (lw_at lw_m10 105 rfl) rfl
theorem q2428 : (Jvm.Cond.instanceMethod ({ cls := "LazyForge$Literal", name := "step", desc := "(LLazyForge$Machine;I)V" } : Jvm.MethodName)) ∈ lw_all := lw_g (lw_at lw_m10 106 rfl) rfl
theorem q2429 : (Jvm.Cond.code ({ cls := "LazyForge$Literal", name := "step", desc := "(LLazyForge$Machine;I)V" } : Jvm.MethodName) prog_11_method_5_code (3 : Nat) (Option.none : Option Jvm.ClassFile.FieldType)) ∈ lw_all := lw_g (lw_at lw_m10 107 rfl) rfl
theorem q2430 : (Jvm.Cond.methodLink "LazyForge$Literal" (13 : Nat) ({ cls := "LazyForge$Machine", name := "give", desc := "(J)V" } : Jvm.MethodName)) ∈ lw_all := lw_g (lw_at lw_m10 108 rfl) rfl
theorem q3458 : (Jvm.Cond.selects "LazyForge$Literal" ({ cls := "LazyForge$Part", name := "mayWait", desc := "(LLazyForge$Program;LLazyForge$Function;)V" } : Jvm.MethodName) ({ cls := "LazyForge$Part", name := "mayWait", desc := "(LLazyForge$Program;LLazyForge$Function;)V" } : Jvm.MethodName)) ∈ lw_all := lw_g (lw_at lw_m14 176 rfl) rfl
theorem q3479 : (Jvm.Cond.castable "LazyForge$Literal" "LazyForge$Part") ∈ lw_tbl := lw_at lw_m14 197 rfl
theorem q3485 : (Jvm.Cond.castable "LazyForge$Literal" "LazyForge$Literal") ∈ lw_tbl := lw_at lw_m14 203 rfl
theorem q3515 : (Jvm.Cond.castable "LazyForge$Literal" "java/lang/Object") ∈ lw_tbl := lw_at lw_m14 233 rfl
theorem in_X24 : ∀ w ∈ wsX240, w ∈ lw_all := lw_in wsX240 [1553, 1554, 1555, 1556, 1557, 1551] (by decide +kernel) (by decide +kernel)

/-! LazyForge$Made -/
set_option maxRecDepth 100000
def RX25 : String := "LazyForge$Made"
def TX25 : u_T := fun k => match k with
  | 0 => ("LazyForge$Part", "parts", "I", false)
  | 1 => ("LazyForge$Part", "high", "I", false)
  | 2 => ("LazyForge$Part", "number", "I", false)
  | 3 => ("LazyForge$Part", "captured", "[I", false)
  | 4 => ("LazyForge$Part", "in", "LLazyForge$Function;", false)
  | 5 => ("LazyForge$Made", "constructor", "I", true)
  | _ => ("LazyForge$Made", "fields", "[LLazyForge$Part;", true)
def tyX25 : Nat → FieldType := fun k => match k with
  | 0 => .int
  | 1 => .int
  | 2 => .int
  | 3 => .array .int
  | 4 => .object "LazyForge$Function"
  | 5 => .int
  | _ => .array (.object "LazyForge$Part")
abbrev wsX250 : List Cond := u_ws RX25 TX25 7
theorem nmX25 : ∀ a, a < 7 → ∀ b, b < 7 → a ≠ b → (TX25 a).2.1 ≠ (TX25 b).2.1 := by decide +kernel
theorem tyX25_ok : ∀ k, k < 7 → parseFieldDescriptor (TX25 k).2.2.1 = some (tyX25 k) := by decide +kernel
abbrev cX25_init : ByteArray := prog_13_method_1_code
def yX25_init : MethodName := ⟨RX25, "<init>", "(I[LLazyForge$Part;)V"⟩
abbrev cX25_clear : ByteArray := prog_13_method_3_code
def yX25_clear : MethodName := ⟨RX25, "clear", "([Z)V"⟩
abbrev cX25_bit : ByteArray := prog_13_method_2_code
def yX25_bit : MethodName := ⟨RX25, "bit", "([Z)Z"⟩
abbrev cX25_uses : ByteArray := prog_13_method_4_code
def yX25_uses : MethodName := ⟨RX25, "uses", "([Z)V"⟩
abbrev cX25_bound : ByteArray := prog_13_method_5_code
def yX25_bound : MethodName := ⟨RX25, "bound", "([Z)V"⟩
abbrev cX25_prepare : ByteArray := prog_13_method_11_code
def yX25_prepare : MethodName := ⟨RX25, "prepare", "(LLazyForge$Program;LLazyForge$Function;)V"⟩
abbrev cX25_write : ByteArray := prog_13_method_10_code
def yX25_write : MethodName := ⟨RX25, "write", "(LLazyForge$Writer;)V"⟩
abbrev cX25_keep : ByteArray := prog_13_method_6_code
def yX25_keep : MethodName := ⟨RX25, "keep", "(LLazyForge$Machine;)J"⟩
abbrev cX25_begin : ByteArray := prog_13_method_7_code
def yX25_begin : MethodName := ⟨RX25, "begin", "(LLazyForge$Machine;)J"⟩
abbrev cX25_fill : ByteArray := prog_13_method_8_code
def yX25_fill : MethodName := ⟨RX25, "fill", "(LLazyForge$Machine;J)Z"⟩
abbrev cX25_step : ByteArray := prog_13_method_9_code
def yX25_step : MethodName := ⟨RX25, "step", "(LLazyForge$Machine;I)V"⟩
theorem q205 : (Jvm.Cond.initialized "LazyForge$Made") ∈ lw_all := lw_g (lw_at lw_m1 43 rfl) rfl
theorem q1235 : (Jvm.Cond.selects "LazyForge$Made" ({ cls := "java/lang/Object", name := "getClass", desc := "()Ljava/lang/Class;" } : Jvm.MethodName) ({ cls := "java/lang/Object", name := "getClass", desc := "()Ljava/lang/Class;" } : Jvm.MethodName)) ∈ lw_all := lw_g (lw_at lw_m5 113 rfl) rfl
theorem q1413 : (Jvm.Cond.selects "LazyForge$Made" ({ cls := "java/lang/Object", name := "equals", desc := "(Ljava/lang/Object;)Z" } : Jvm.MethodName) ({ cls := "java/lang/Object", name := "equals", desc := "(Ljava/lang/Object;)Z" } : Jvm.MethodName)) ∈ lw_all := lw_g (lw_at lw_m6 51 rfl) rfl
theorem q1560 : (Jvm.Cond.instantiable "LazyForge$Made" (7 : Nat)) ∈ lw_all := lw_g (lw_at lw_m6 198 rfl) rfl
theorem q1562 : (Jvm.Cond.instanceMethod ({ cls := "LazyForge$Made", name := "<init>", desc := "(I[LLazyForge$Part;)V" } : Jvm.MethodName)) ∈ lw_all := lw_g (lw_at lw_m6 200 rfl) rfl
theorem q1563 : (Jvm.Cond.code ({ cls := "LazyForge$Made", name := "<init>", desc := "(I[LLazyForge$Part;)V" } : Jvm.MethodName) prog_13_method_1_code (7 : Nat) (Option.none : Option Jvm.ClassFile.FieldType)) ∈ lw_all := lw_g (lw_at lw_m6 201 rfl) rfl
theorem q1564 : (Jvm.Cond.methodLinkNest "LazyForge$Made" (3 : Nat) ({ cls := "LazyForge$Part", name := "<init>", desc := "()V" } : Jvm.MethodName) "LazyForge") ∈ lw_tbl := lw_at lw_m6 202 rfl
theorem q1565 : (Jvm.Cond.methodLink "LazyForge$Made" (19 : Nat) ({ cls := "LazyForge$Made", name := "has", desc := "(LLazyForge$Part;)V" } : Jvm.MethodName)) ∈ lw_all := lw_g (lw_at lw_m6 203 rfl) rfl
theorem q1566 : (Jvm.Cond.sameMethod "LazyForge$Made" "LazyForge$Part" "has" "(LLazyForge$Part;)V") ∈ lw_all := lw_g (lw_at lw_m6 204 rfl) rfl
theorem q1567 : (Jvm.Cond.selects "LazyForge$Made" ({ cls := "LazyForge$Made", name := "has", desc := "(LLazyForge$Part;)V" } : Jvm.MethodName) ({ cls := "LazyForge$Part", name := "has", desc := "(LLazyForge$Part;)V" } : Jvm.MethodName)) ∈ lw_all := lw_g (lw_at lw_m6 205 rfl) rfl
theorem q1568 : (Jvm.Cond.fieldLink "LazyForge$Made" (9 : Nat) "LazyForge$Made" "constructor" "I") ∈ lw_all := lw_g (lw_at lw_m6 206 rfl) rfl
theorem q1569 : (Jvm.Cond.fieldLink "LazyForge$Made" (15 : Nat) "LazyForge$Made" "fields" "[LLazyForge$Part;") ∈ lw_all := lw_g (lw_at lw_m6 207 rfl) rfl
theorem q1570 : (Jvm.Cond.laysFinal "LazyForge$Made" "LazyForge$Made" "constructor" "I") ∈ lw_all := lw_g (lw_at lw_m6 208 rfl) rfl
theorem q1571 : (Jvm.Cond.soleField "LazyForge$Made" "constructor") ∈ lw_all := lw_g (lw_at lw_m6 209 rfl) rfl
theorem q1572 : (Jvm.Cond.laysFinal "LazyForge$Made" "LazyForge$Made" "fields" "[LLazyForge$Part;") ∈ lw_all := lw_g (lw_at lw_m6 210 rfl) rfl
theorem q1573 : (Jvm.Cond.soleField "LazyForge$Made" "fields") ∈ lw_all := lw_g (lw_at lw_m6 211 rfl) rfl
theorem q1574 : (Jvm.Cond.lays "LazyForge$Made" "LazyForge$Part" "parts" "I") ∈ lw_all := lw_g (lw_at lw_m6 212 rfl) rfl
theorem q1575 : (Jvm.Cond.lays "LazyForge$Made" "LazyForge$Part" "high" "I") ∈ lw_all := lw_g (lw_at lw_m6 213 rfl) rfl
theorem q1576 : (Jvm.Cond.lays "LazyForge$Made" "LazyForge$Part" "number" "I") ∈ lw_all := lw_g (lw_at lw_m6 214 rfl) rfl
theorem q1577 : (Jvm.Cond.lays "LazyForge$Made" "LazyForge$Part" "captured" "[I") ∈ lw_all := lw_g (lw_at lw_m6 215 rfl) rfl
theorem q1578 : (Jvm.Cond.lays "LazyForge$Made" "LazyForge$Part" "in" "LLazyForge$Function;") ∈ lw_all := lw_g (lw_at lw_m6 216 rfl) rfl
theorem q1579 : (Jvm.Cond.superclass "LazyForge$Made" "LazyForge$Part") ∈ lw_all := lw_g (lw_at lw_m6 217 rfl) rfl
theorem q1654 : (Jvm.Cond.selects "LazyForge$Made" ({ cls := "LazyForge$Part", name := "least", desc := "([Z)Z" } : Jvm.MethodName) ({ cls := "LazyForge$Part", name := "least", desc := "([Z)Z" } : Jvm.MethodName)) ∈ lw_all := lw_g (lw_at lw_m7 52 rfl) rfl
theorem q1674 : (Jvm.Cond.instanceMethod ({ cls := "LazyForge$Made", name := "clear", desc := "([Z)V" } : Jvm.MethodName)) ∈ lw_all := lw_g (lw_at lw_m7 72 rfl) rfl
theorem q1675 : (Jvm.Cond.code ({ cls := "LazyForge$Made", name := "clear", desc := "([Z)V" } : Jvm.MethodName) prog_13_method_3_code (6 : Nat) (Option.none : Option Jvm.ClassFile.FieldType)) ∈ lw_all := lw_g (lw_at lw_m7 73 rfl) rfl
theorem q1676 : (Jvm.Cond.methodLink "LazyForge$Made" (23 : Nat) ({ cls := "LazyForge$Part", name := "clear", desc := "([Z)V" } : Jvm.MethodName)) ∈ lw_all := lw_g (lw_at lw_m7 74 rfl) rfl
theorem q1687 : (Jvm.Cond.selects "LazyForge$Made" ({ cls := "LazyForge$Part", name := "clear", desc := "([Z)V" } : Jvm.MethodName) ({ cls := "LazyForge$Made", name := "clear", desc := "([Z)V" } : Jvm.MethodName)) ∈ lw_all := lw_g (lw_at lw_m7 85 rfl) rfl
theorem q1714 : (Jvm.Cond.instanceMethod ({ cls := "LazyForge$Made", name := "bit", desc := "([Z)Z" } : Jvm.MethodName)) ∈ lw_all := lw_g (lw_at lw_m7 112 rfl) rfl
theorem q1715 : (Jvm.Cond.code ({ cls := "LazyForge$Made", name := "bit", desc := "([Z)Z" } : Jvm.MethodName) prog_13_method_2_code (2 : Nat) (Option.some Jvm.ClassFile.FieldType.boolean)) ∈ lw_all := lw_g (lw_at lw_m7 113 rfl) rfl
theorem q1738 : (Jvm.Cond.selects "LazyForge$Made" ({ cls := "LazyForge$Part", name := "bit", desc := "([Z)Z" } : Jvm.MethodName) ({ cls := "LazyForge$Made", name := "bit", desc := "([Z)Z" } : Jvm.MethodName)) ∈ lw_all := lw_g (lw_at lw_m7 136 rfl) rfl
theorem q1784 : (Jvm.Cond.instanceMethod ({ cls := "LazyForge$Made", name := "uses", desc := "([Z)V" } : Jvm.MethodName)) ∈ lw_all := lw_g (lw_at lw_m7 182 rfl) rfl
theorem q1785 : (Jvm.Cond.code ({ cls := "LazyForge$Made", name := "uses", desc := "([Z)V" } : Jvm.MethodName) prog_13_method_4_code (6 : Nat) (Option.none : Option Jvm.ClassFile.FieldType)) ∈ lw_all := lw_g (lw_at lw_m7 183 rfl) rfl
theorem q1786 : (Jvm.Cond.methodLink "LazyForge$Made" (27 : Nat) ({ cls := "LazyForge$Part", name := "uses", desc := "([Z)V" } : Jvm.MethodName)) ∈ lw_all := lw_g (lw_at lw_m7 184 rfl) rfl
theorem q1801 : (Jvm.Cond.selects "LazyForge$Made" ({ cls := "LazyForge$Part", name := "uses", desc := "([Z)V" } : Jvm.MethodName) ({ cls := "LazyForge$Made", name := "uses", desc := "([Z)V" } : Jvm.MethodName)) ∈ lw_all := lw_g (lw_at lw_m7 199 rfl) rfl
theorem q1820 : (Jvm.Cond.instanceMethod ({ cls := "LazyForge$Made", name := "bound", desc := "([Z)V" } : Jvm.MethodName)) ∈ lw_all := lw_g (lw_at lw_m7 218 rfl) rfl
theorem q1821 : (Jvm.Cond.code ({ cls := "LazyForge$Made", name := "bound", desc := "([Z)V" } : Jvm.MethodName) prog_13_method_5_code (6 : Nat) (Option.none : Option Jvm.ClassFile.FieldType)) ∈ lw_all := lw_g (lw_at lw_m7 219 rfl) rfl
theorem q1822 : (Jvm.Cond.methodLink "LazyForge$Made" (30 : Nat) ({ cls := "LazyForge$Part", name := "bound", desc := "([Z)V" } : Jvm.MethodName)) ∈ lw_all := lw_g (lw_at lw_m7 220 rfl) rfl
theorem q1833 : (Jvm.Cond.selects "LazyForge$Made" ({ cls := "LazyForge$Part", name := "bound", desc := "([Z)V" } : Jvm.MethodName) ({ cls := "LazyForge$Made", name := "bound", desc := "([Z)V" } : Jvm.MethodName)) ∈ lw_all := lw_g (lw_at lw_m7 231 rfl) rfl
theorem q1846 : (Jvm.Cond.instanceMethod ({ cls := "LazyForge$Made", name := "prepare", desc := "(LLazyForge$Program;LLazyForge$Function;)V" } : Jvm.MethodName)) ∈ lw_all := lw_g (lw_at lw_m8 4 rfl) rfl
theorem q1847 : (Jvm.Cond.code ({ cls := "LazyForge$Made", name := "prepare", desc := "(LLazyForge$Program;LLazyForge$Function;)V" } : Jvm.MethodName) prog_13_method_11_code (7 : Nat) (Option.none : Option Jvm.ClassFile.FieldType)) ∈ lw_all := lw_g (lw_at lw_m8 5 rfl) rfl
theorem q1848 : (Jvm.Cond.methodLink "LazyForge$Made" (72 : Nat) ({ cls := "LazyForge$Part", name := "prepare", desc := "(LLazyForge$Program;LLazyForge$Function;)V" } : Jvm.MethodName)) ∈ lw_all := lw_g (lw_at lw_m8 6 rfl) rfl
theorem q1888 : (Jvm.Cond.selects "LazyForge$Made" ({ cls := "LazyForge$Part", name := "prepare", desc := "(LLazyForge$Program;LLazyForge$Function;)V" } : Jvm.MethodName) ({ cls := "LazyForge$Made", name := "prepare", desc := "(LLazyForge$Program;LLazyForge$Function;)V" } : Jvm.MethodName)) ∈ lw_all := lw_g (lw_at lw_m8 46 rfl) rfl
theorem q2009 : (Jvm.Cond.instanceMethod ({ cls := "LazyForge$Made", name := "write", desc := "(LLazyForge$Writer;)V" } : Jvm.MethodName)) ∈ lw_all := lw_g (lw_at lw_m8 167 rfl) rfl
theorem q2010 : (Jvm.Cond.code ({ cls := "LazyForge$Made", name := "write", desc := "(LLazyForge$Writer;)V" } : Jvm.MethodName) prog_13_method_10_code (6 : Nat) (Option.none : Option Jvm.ClassFile.FieldType)) ∈ lw_all := lw_g (lw_at lw_m8 168 rfl) rfl
theorem q2011 : (Jvm.Cond.methodLink "LazyForge$Made" (59 : Nat) ({ cls := "LazyForge$Writer", name := "sign", desc := "(C)V" } : Jvm.MethodName)) ∈ lw_all := lw_g (lw_at lw_m8 169 rfl) rfl
theorem q2012 : (Jvm.Cond.methodLink "LazyForge$Made" (65 : Nat) ({ cls := "LazyForge$Writer", name := "constructor", desc := "(I)V" } : Jvm.MethodName)) ∈ lw_all := lw_g (lw_at lw_m8 170 rfl) rfl
theorem q2013 : (Jvm.Cond.methodLink "LazyForge$Made" (68 : Nat) ({ cls := "LazyForge$Part", name := "write", desc := "(LLazyForge$Writer;)V" } : Jvm.MethodName)) ∈ lw_all := lw_g (lw_at lw_m8 171 rfl) rfl
theorem q2053 : (Jvm.Cond.selects "LazyForge$Made" ({ cls := "LazyForge$Part", name := "write", desc := "(LLazyForge$Writer;)V" } : Jvm.MethodName) ({ cls := "LazyForge$Made", name := "write", desc := "(LLazyForge$Writer;)V" } : Jvm.MethodName)) ∈ lw_all := lw_g (lw_at lw_m8 211 rfl) rfl
theorem q2293 : (Jvm.Cond.instanceMethod ({ cls := "LazyForge$Made", name := "keep", desc := "(LLazyForge$Machine;)J" } : Jvm.MethodName)) ∈ lw_all := lw_g (lw_at lw_m9 211 rfl) rfl
theorem q2294 : (Jvm.Cond.code ({ cls := "LazyForge$Made", name := "keep", desc := "(LLazyForge$Machine;)J" } : Jvm.MethodName) prog_13_method_6_code (4 : Nat) (Option.some Jvm.ClassFile.FieldType.long)) ∈ lw_all := lw_g (lw_at lw_m9 212 rfl) rfl
theorem q2295 : (Jvm.Cond.methodLink "LazyForge$Made" (33 : Nat) ({ cls := "LazyForge$Made", name := "begin", desc := "(LLazyForge$Machine;)J" } : Jvm.MethodName)) ∈ lw_all := lw_g (lw_at lw_m9 213 rfl) rfl
theorem q2296 : (Jvm.Cond.instanceMethod ({ cls := "LazyForge$Made", name := "begin", desc := "(LLazyForge$Machine;)J" } : Jvm.MethodName)) ∈ lw_all := lw_g (lw_at lw_m9 214 rfl) rfl
theorem q2297 : (Jvm.Cond.selects "LazyForge$Made" ({ cls := "LazyForge$Made", name := "begin", desc := "(LLazyForge$Machine;)J" } : Jvm.MethodName) ({ cls := "LazyForge$Made", name := "begin", desc := "(LLazyForge$Machine;)J" } : Jvm.MethodName)) ∈ lw_all := lw_g (lw_at lw_m9 215 rfl) rfl
theorem q2298 : (Jvm.Cond.code ({ cls := "LazyForge$Made", name := "begin", desc := "(LLazyForge$Machine;)J" } : Jvm.MethodName) prog_13_method_7_code (2 : Nat) (Option.some Jvm.ClassFile.FieldType.long)) ∈ lw_all := lw_g (lw_at lw_m9 216 rfl) rfl
theorem q2299 : (Jvm.Cond.methodLink "LazyForge$Made" (43 : Nat) ({ cls := "LazyForge$Machine", name := "object", desc := "(II)J" } : Jvm.MethodName)) ∈ lw_all := lw_g (lw_at lw_m9 217 rfl) rfl
theorem q2304 : (Jvm.Cond.methodLink "LazyForge$Made" (37 : Nat) ({ cls := "LazyForge$Made", name := "fill", desc := "(LLazyForge$Machine;J)Z" } : Jvm.MethodName)) ∈ lw_all := lw_g (lw_at lw_m9 222 rfl) rfl
theorem q2305 : (Jvm.Cond.instanceMethod ({ cls := "LazyForge$Made", name := "fill", desc := "(LLazyForge$Machine;J)Z" } : Jvm.MethodName)) ∈ lw_all := lw_g (lw_at lw_m9 223 rfl) rfl
theorem q2306 : (Jvm.Cond.selects "LazyForge$Made" ({ cls := "LazyForge$Made", name := "fill", desc := "(LLazyForge$Machine;J)Z" } : Jvm.MethodName) ({ cls := "LazyForge$Made", name := "fill", desc := "(LLazyForge$Machine;J)Z" } : Jvm.MethodName)) ∈ lw_all := lw_g (lw_at lw_m9 224 rfl) rfl
theorem q2307 : (Jvm.Cond.code ({ cls := "LazyForge$Made", name := "fill", desc := "(LLazyForge$Machine;J)Z" } : Jvm.MethodName) prog_13_method_8_code (4 : Nat) (Option.some Jvm.ClassFile.FieldType.boolean)) ∈ lw_all := lw_g (lw_at lw_m9 225 rfl) rfl
theorem q2308 : (Jvm.Cond.methodLink "LazyForge$Made" (49 : Nat) ({ cls := "LazyForge$Machine", name := "fill", desc := "(JI[LLazyForge$Part;)Z" } : Jvm.MethodName)) ∈ lw_all := lw_g (lw_at lw_m9 226 rfl) rfl
theorem q2309 : (Jvm.Cond.constantLong "LazyForge$Made" (41 : Nat) (-1 : Int64)) ∈ lw_all := lw_g (lw_at lw_m9 227 rfl) rfl
theorem q2331 : (Jvm.Cond.selects "LazyForge$Made" ({ cls := "LazyForge$Part", name := "keep", desc := "(LLazyForge$Machine;)J" } : Jvm.MethodName) ({ cls := "LazyForge$Made", name := "keep", desc := "(LLazyForge$Machine;)J" } : Jvm.MethodName)) ∈ lw_all := lw_g (lw_at lw_m10 9 rfl) rfl
theorem q2431 : (Jvm.Cond.selects "LazyForge$Made" ({ cls := "LazyForge$Part", name := "step", desc := "(LLazyForge$Machine;I)V" } : Jvm.MethodName) ({ cls := "LazyForge$Made", name := "step", desc := "(LLazyForge$Machine;I)V" } : Jvm.MethodName)) ∈ lw_all := lw_g (lw_at lw_m10 109 rfl) rfl
theorem q2432 : (Jvm.Cond.instanceMethod ({ cls := "LazyForge$Made", name := "step", desc := "(LLazyForge$Machine;I)V" } : Jvm.MethodName)) ∈ lw_all := lw_g (lw_at lw_m10 110 rfl) rfl
theorem q2433 : (Jvm.Cond.code ({ cls := "LazyForge$Made", name := "step", desc := "(LLazyForge$Machine;I)V" } : Jvm.MethodName) prog_13_method_9_code (5 : Nat) (Option.none : Option Jvm.ClassFile.FieldType)) ∈ lw_all := lw_g (lw_at lw_m10 111 rfl) rfl
theorem q2434 : (Jvm.Cond.methodLink "LazyForge$Made" (52 : Nat) ({ cls := "LazyForge$Made", name := "keep", desc := "(LLazyForge$Machine;)J" } : Jvm.MethodName)) ∈ lw_all := lw_g (lw_at lw_m10 112 rfl) rfl
theorem q2435 : (Jvm.Cond.methodLink "LazyForge$Made" (55 : Nat) ({ cls := "LazyForge$Machine", name := "give", desc := "(J)V" } : Jvm.MethodName)) ∈ lw_all := lw_g (lw_at lw_m10 113 rfl) rfl
theorem q3459 : (Jvm.Cond.selects "LazyForge$Made" ({ cls := "LazyForge$Part", name := "mayWait", desc := "(LLazyForge$Program;LLazyForge$Function;)V" } : Jvm.MethodName) ({ cls := "LazyForge$Part", name := "mayWait", desc := "(LLazyForge$Program;LLazyForge$Function;)V" } : Jvm.MethodName)) ∈ lw_all := lw_g (lw_at lw_m14 177 rfl) rfl
theorem q3465 : (Jvm.Cond.selects "LazyForge$Made" ({ cls := "LazyForge$Made", name := "keep", desc := "(LLazyForge$Machine;)J" } : Jvm.MethodName) ({ cls := "LazyForge$Made", name := "keep", desc := "(LLazyForge$Machine;)J" } : Jvm.MethodName)) ∈ lw_all := lw_g (lw_at lw_m14 183 rfl) rfl
theorem q3480 : (Jvm.Cond.castable "LazyForge$Made" "LazyForge$Part") ∈ lw_tbl := lw_at lw_m14 198 rfl
theorem q3486 : (Jvm.Cond.castable "LazyForge$Made" "LazyForge$Made") ∈ lw_tbl := lw_at lw_m14 204 rfl
theorem q3516 : (Jvm.Cond.castable "LazyForge$Made" "java/lang/Object") ∈ lw_tbl := lw_at lw_m14 234 rfl
theorem in_X25 : ∀ w ∈ wsX250, w ∈ lw_all := lw_in wsX250 [1574, 1575, 1576, 1577, 1578, 1570, 1572] (by decide +kernel) (by decide +kernel)

/-! LazyForge$Fail -/
set_option maxRecDepth 100000
def RX26 : String := "LazyForge$Fail"
def TX26 : u_T := fun k => match k with
  | 0 => ("LazyForge$Part", "parts", "I", false)
  | 1 => ("LazyForge$Part", "high", "I", false)
  | 2 => ("LazyForge$Part", "number", "I", false)
  | 3 => ("LazyForge$Part", "captured", "[I", false)
  | _ => ("LazyForge$Part", "in", "LLazyForge$Function;", false)
def tyX26 : Nat → FieldType := fun k => match k with
  | 0 => .int
  | 1 => .int
  | 2 => .int
  | 3 => .array .int
  | _ => .object "LazyForge$Function"
abbrev wsX260 : List Cond := u_ws RX26 TX26 5
theorem nmX26 : ∀ a, a < 5 → ∀ b, b < 5 → a ≠ b → (TX26 a).2.1 ≠ (TX26 b).2.1 := by decide +kernel
theorem tyX26_ok : ∀ k, k < 5 → parseFieldDescriptor (TX26 k).2.2.1 = some (tyX26 k) := by decide +kernel
abbrev cX26_init : ByteArray := prog_6_method_1_code
def yX26_init : MethodName := ⟨RX26, "<init>", "()V"⟩
abbrev cX26_bit : ByteArray := prog_6_method_2_code
def yX26_bit : MethodName := ⟨RX26, "bit", "([Z)Z"⟩
abbrev cX26_prepare : ByteArray := prog_6_method_7_code
def yX26_prepare : MethodName := ⟨RX26, "prepare", "(LLazyForge$Program;LLazyForge$Function;)V"⟩
abbrev cX26_uses : ByteArray := prog_6_method_3_code
def yX26_uses : MethodName := ⟨RX26, "uses", "([Z)V"⟩
abbrev cX26_write : ByteArray := prog_6_method_6_code
def yX26_write : MethodName := ⟨RX26, "write", "(LLazyForge$Writer;)V"⟩
abbrev cX26_keep : ByteArray := prog_6_method_4_code
def yX26_keep : MethodName := ⟨RX26, "keep", "(LLazyForge$Machine;)J"⟩
abbrev cX26_step : ByteArray := prog_6_method_5_code
def yX26_step : MethodName := ⟨RX26, "step", "(LLazyForge$Machine;I)V"⟩
theorem q206 : (Jvm.Cond.initialized "LazyForge$Fail") ∈ lw_all := lw_g (lw_at lw_m1 44 rfl) rfl
theorem q1228 : (Jvm.Cond.selects "LazyForge$Fail" ({ cls := "java/lang/Object", name := "getClass", desc := "()Ljava/lang/Class;" } : Jvm.MethodName) ({ cls := "java/lang/Object", name := "getClass", desc := "()Ljava/lang/Class;" } : Jvm.MethodName)) ∈ lw_all := lw_g (lw_at lw_m5 106 rfl) rfl
theorem q1406 : (Jvm.Cond.selects "LazyForge$Fail" ({ cls := "java/lang/Object", name := "equals", desc := "(Ljava/lang/Object;)Z" } : Jvm.MethodName) ({ cls := "java/lang/Object", name := "equals", desc := "(Ljava/lang/Object;)Z" } : Jvm.MethodName)) ∈ lw_all := lw_g (lw_at lw_m6 44 rfl) rfl
theorem q1593 : (Jvm.Cond.instantiable "LazyForge$Fail" (5 : Nat)) ∈ lw_all := lw_g (lw_at lw_m6 231 rfl) rfl
theorem q1595 : (Jvm.Cond.instanceMethod ({ cls := "LazyForge$Fail", name := "<init>", desc := "()V" } : Jvm.MethodName)) ∈ lw_all := lw_g (lw_at lw_m6 233 rfl) rfl
theorem q1596 : (Jvm.Cond.code ({ cls := "LazyForge$Fail", name := "<init>", desc := "()V" } : Jvm.MethodName) prog_6_method_1_code (1 : Nat) (Option.none : Option Jvm.ClassFile.FieldType)) ∈ lw_all := lw_g (lw_at lw_m6 234 rfl) rfl
theorem q1597 : (Jvm.Cond.methodLinkNest "LazyForge$Fail" (3 : Nat) ({ cls := "LazyForge$Part", name := "<init>", desc := "()V" } : Jvm.MethodName) "LazyForge") ∈ lw_tbl := lw_at lw_m6 235 rfl
theorem q1598 : (Jvm.Cond.lays "LazyForge$Fail" "LazyForge$Part" "parts" "I") ∈ lw_all := lw_g (lw_at lw_m6 236 rfl) rfl
theorem q1599 : (Jvm.Cond.lays "LazyForge$Fail" "LazyForge$Part" "high" "I") ∈ lw_all := lw_g (lw_at lw_m6 237 rfl) rfl
theorem q1600 : (Jvm.Cond.lays "LazyForge$Fail" "LazyForge$Part" "number" "I") ∈ lw_all := lw_g (lw_at lw_m6 238 rfl) rfl
theorem q1601 : (Jvm.Cond.lays "LazyForge$Fail" "LazyForge$Part" "captured" "[I") ∈ lw_all := lw_g (lw_at lw_m6 239 rfl) rfl
theorem q1602 : (Jvm.Cond.lays "LazyForge$Fail" "LazyForge$Part" "in" "LLazyForge$Function;") ∈ lw_all := lw_g (lw_at lw_m7 0 rfl) rfl
theorem q1603 : (Jvm.Cond.superclass "LazyForge$Fail" "LazyForge$Part") ∈ lw_all := lw_g (lw_at lw_m7 1 rfl) rfl
theorem q1649 : (Jvm.Cond.selects "LazyForge$Fail" ({ cls := "LazyForge$Part", name := "least", desc := "([Z)Z" } : Jvm.MethodName) ({ cls := "LazyForge$Part", name := "least", desc := "([Z)Z" } : Jvm.MethodName)) ∈ lw_all := lw_g (lw_at lw_m7 47 rfl) rfl
theorem q1682 : (Jvm.Cond.selects "LazyForge$Fail" ({ cls := "LazyForge$Part", name := "clear", desc := "([Z)V" } : Jvm.MethodName) ({ cls := "LazyForge$Part", name := "clear", desc := "([Z)V" } : Jvm.MethodName)) ∈ lw_all := lw_g (lw_at lw_m7 80 rfl) rfl
theorem q1707 : (Jvm.Cond.instanceMethod ({ cls := "LazyForge$Fail", name := "bit", desc := "([Z)Z" } : Jvm.MethodName)) ∈ lw_all := lw_g (lw_at lw_m7 105 rfl) rfl
theorem q1708 : (Jvm.Cond.code ({ cls := "LazyForge$Fail", name := "bit", desc := "([Z)Z" } : Jvm.MethodName) prog_6_method_2_code (2 : Nat) (Option.some Jvm.ClassFile.FieldType.boolean)) ∈ lw_all := lw_g (lw_at lw_m7 106 rfl) rfl
theorem q1733 : (Jvm.Cond.selects "LazyForge$Fail" ({ cls := "LazyForge$Part", name := "bit", desc := "([Z)Z" } : Jvm.MethodName) ({ cls := "LazyForge$Fail", name := "bit", desc := "([Z)Z" } : Jvm.MethodName)) ∈ lw_all := lw_g (lw_at lw_m7 131 rfl) rfl
theorem q1756 : (Jvm.Cond.instanceMethod ({ cls := "LazyForge$Fail", name := "prepare", desc := "(LLazyForge$Program;LLazyForge$Function;)V" } : Jvm.MethodName)) ∈ lw_all := lw_g (lw_at lw_m7 154 rfl) rfl
theorem q1757 : (Jvm.Cond.code ({ cls := "LazyForge$Fail", name := "prepare", desc := "(LLazyForge$Program;LLazyForge$Function;)V" } : Jvm.MethodName) prog_6_method_7_code (3 : Nat) (Option.none : Option Jvm.ClassFile.FieldType)) ∈ lw_all := lw_g (lw_at lw_m7 155 rfl) rfl
theorem q1758 : (Jvm.Cond.methodLink "LazyForge$Fail" (27 : Nat) ({ cls := "LazyForge$Fail", name := "mayWait", desc := "(LLazyForge$Program;LLazyForge$Function;)V" } : Jvm.MethodName)) ∈ lw_all := lw_g (lw_at lw_m7 156 rfl) rfl
theorem q1759 : (Jvm.Cond.sameMethod "LazyForge$Fail" "LazyForge$Part" "mayWait" "(LLazyForge$Program;LLazyForge$Function;)V") ∈ lw_all := lw_g (lw_at lw_m7 157 rfl) rfl
theorem q1761 : (Jvm.Cond.selects "LazyForge$Fail" ({ cls := "LazyForge$Fail", name := "mayWait", desc := "(LLazyForge$Program;LLazyForge$Function;)V" } : Jvm.MethodName) ({ cls := "LazyForge$Part", name := "mayWait", desc := "(LLazyForge$Program;LLazyForge$Function;)V" } : Jvm.MethodName)) ∈ lw_all := lw_g (lw_at lw_m7 159 rfl) rfl
theorem q1777 : (Jvm.Cond.instanceMethod ({ cls := "LazyForge$Fail", name := "uses", desc := "([Z)V" } : Jvm.MethodName)) ∈ lw_all := lw_g (lw_at lw_m7 175 rfl) rfl
theorem q1778 : (Jvm.Cond.code ({ cls := "LazyForge$Fail", name := "uses", desc := "([Z)V" } : Jvm.MethodName) prog_6_method_3_code (2 : Nat) (Option.none : Option Jvm.ClassFile.FieldType)) ∈ lw_all := lw_g (lw_at lw_m7 176 rfl) rfl
theorem q1796 : (Jvm.Cond.selects "LazyForge$Fail" ({ cls := "LazyForge$Part", name := "uses", desc := "([Z)V" } : Jvm.MethodName) ({ cls := "LazyForge$Fail", name := "uses", desc := "([Z)V" } : Jvm.MethodName)) ∈ lw_all := lw_g (lw_at lw_m7 194 rfl) rfl
theorem q1828 : (Jvm.Cond.selects "LazyForge$Fail" ({ cls := "LazyForge$Part", name := "bound", desc := "([Z)V" } : Jvm.MethodName) ({ cls := "LazyForge$Part", name := "bound", desc := "([Z)V" } : Jvm.MethodName)) ∈ lw_all := lw_g (lw_at lw_m7 226 rfl) rfl
theorem q1883 : (Jvm.Cond.selects "LazyForge$Fail" ({ cls := "LazyForge$Part", name := "prepare", desc := "(LLazyForge$Program;LLazyForge$Function;)V" } : Jvm.MethodName) ({ cls := "LazyForge$Fail", name := "prepare", desc := "(LLazyForge$Program;LLazyForge$Function;)V" } : Jvm.MethodName)) ∈ lw_all := lw_g (lw_at lw_m8 41 rfl) rfl
theorem q1988 : (Jvm.Cond.instanceMethod ({ cls := "LazyForge$Fail", name := "write", desc := "(LLazyForge$Writer;)V" } : Jvm.MethodName)) ∈ lw_all := lw_g (lw_at lw_m8 146 rfl) rfl
theorem q1989 : (Jvm.Cond.code ({ cls := "LazyForge$Fail", name := "write", desc := "(LLazyForge$Writer;)V" } : Jvm.MethodName) prog_6_method_6_code (2 : Nat) (Option.none : Option Jvm.ClassFile.FieldType)) ∈ lw_all := lw_g (lw_at lw_m8 147 rfl) rfl
theorem q1990 : (Jvm.Cond.stringRef "LazyForge$Fail" (19 : Nat) "fail") ∈ lw_tbl := lw_at lw_m8 148 rfl
theorem q1991 : (Jvm.Cond.methodLink "LazyForge$Fail" (21 : Nat) ({ cls := "LazyForge$Writer", name := "text", desc := "(Ljava/lang/String;)V" } : Jvm.MethodName)) ∈ lw_all := lw_g (lw_at lw_m8 149 rfl) rfl
theorem q2048 : (Jvm.Cond.selects "LazyForge$Fail" ({ cls := "LazyForge$Part", name := "write", desc := "(LLazyForge$Writer;)V" } : Jvm.MethodName) ({ cls := "LazyForge$Fail", name := "write", desc := "(LLazyForge$Writer;)V" } : Jvm.MethodName)) ∈ lw_all := lw_g (lw_at lw_m8 206 rfl) rfl
theorem q2285 : (Jvm.Cond.instanceMethod ({ cls := "LazyForge$Fail", name := "keep", desc := "(LLazyForge$Machine;)J" } : Jvm.MethodName)) ∈ lw_all := lw_g (lw_at lw_m9 203 rfl) rfl
theorem q2286 : (Jvm.Cond.code ({ cls := "LazyForge$Fail", name := "keep", desc := "(LLazyForge$Machine;)J" } : Jvm.MethodName) prog_6_method_4_code (2 : Nat) (Option.some Jvm.ClassFile.FieldType.long)) ∈ lw_all := lw_g (lw_at lw_m9 204 rfl) rfl
theorem q2287 : (Jvm.Cond.methodLink "LazyForge$Fail" (9 : Nat) ({ cls := "LazyForge$Machine", name := "suspend", desc := "(LLazyForge$Part;)J" } : Jvm.MethodName)) ∈ lw_all := lw_g (lw_at lw_m9 205 rfl) rfl
theorem q2326 : (Jvm.Cond.selects "LazyForge$Fail" ({ cls := "LazyForge$Part", name := "keep", desc := "(LLazyForge$Machine;)J" } : Jvm.MethodName) ({ cls := "LazyForge$Fail", name := "keep", desc := "(LLazyForge$Machine;)J" } : Jvm.MethodName)) ∈ lw_all := lw_g (lw_at lw_m10 4 rfl) rfl
theorem q2372 : (Jvm.Cond.selects "LazyForge$Fail" ({ cls := "LazyForge$Part", name := "step", desc := "(LLazyForge$Machine;I)V" } : Jvm.MethodName) ({ cls := "LazyForge$Fail", name := "step", desc := "(LLazyForge$Machine;I)V" } : Jvm.MethodName)) ∈ lw_all := lw_g (lw_at lw_m10 50 rfl) rfl
theorem q2373 : (Jvm.Cond.instanceMethod ({ cls := "LazyForge$Fail", name := "step", desc := "(LLazyForge$Machine;I)V" } : Jvm.MethodName)) ∈ lw_all := lw_g (lw_at lw_m10 51 rfl) rfl
theorem q2374 : (Jvm.Cond.code ({ cls := "LazyForge$Fail", name := "step", desc := "(LLazyForge$Machine;I)V" } : Jvm.MethodName) prog_6_method_5_code (3 : Nat) (Option.none : Option Jvm.ClassFile.FieldType)) ∈ lw_all := lw_g (lw_at lw_m10 52 rfl) rfl
theorem q2375 : (Jvm.Cond.methodLink "LazyForge$Fail" (15 : Nat) ({ cls := "LazyForge$Machine", name := "fault", desc := "(I)V" } : Jvm.MethodName)) ∈ lw_all := lw_g (lw_at lw_m10 53 rfl) rfl
theorem q3454 : (Jvm.Cond.selects "LazyForge$Fail" ({ cls := "LazyForge$Part", name := "mayWait", desc := "(LLazyForge$Program;LLazyForge$Function;)V" } : Jvm.MethodName) ({ cls := "LazyForge$Part", name := "mayWait", desc := "(LLazyForge$Program;LLazyForge$Function;)V" } : Jvm.MethodName)) ∈ lw_all := lw_g (lw_at lw_m14 172 rfl) rfl
theorem q3475 : (Jvm.Cond.castable "LazyForge$Fail" "LazyForge$Part") ∈ lw_tbl := lw_at lw_m14 193 rfl
theorem q3517 : (Jvm.Cond.castable "LazyForge$Fail" "java/lang/Object") ∈ lw_tbl := lw_at lw_m14 235 rfl
theorem in_X26 : ∀ w ∈ wsX260, w ∈ lw_all := lw_in wsX260 [1598, 1599, 1600, 1601, 1602] (by decide +kernel) (by decide +kernel)

/-! java/lang/Throwable -/
set_option maxRecDepth 100000
def RJ0 : String := "java/lang/Throwable"
def TJ0 : u_T := fun k => match k with
  | 0 => ("java/lang/Throwable", "cause", "Ljava/lang/Throwable;", false)
  | 1 => ("java/lang/Throwable", "stackTrace", "[Ljava/lang/StackTraceElement;", false)
  | 2 => ("java/lang/Throwable", "suppressedExceptions", "Ljava/util/List;", false)
  | 3 => ("java/lang/Throwable", "detailMessage", "Ljava/lang/String;", false)
  | _ => ("java/lang/Throwable", "backtrace", "Ljava/lang/Object;", false)
def tyJ0 : Nat → FieldType := fun k => match k with
  | 0 => .object "java/lang/Throwable"
  | 1 => .array (.object "java/lang/StackTraceElement")
  | 2 => .object "java/util/List"
  | 3 => .object "java/lang/String"
  | _ => .object "java/lang/Object"
abbrev wsJ00 : List Cond := u_ws RJ0 TJ0 5
theorem nmJ0 : ∀ a, a < 5 → ∀ b, b < 5 → a ≠ b → (TJ0 a).2.1 ≠ (TJ0 b).2.1 := by decide +kernel
theorem tyJ0_ok : ∀ k, k < 5 → parseFieldDescriptor (TJ0 k).2.2.1 = some (tyJ0 k) := by decide +kernel
abbrev cJ0_init : ByteArray := prog_45_method_1_code
def yJ0_init : MethodName := ⟨RJ0, "<init>", "()V"⟩
abbrev cJ0_init_2 : ByteArray := prog_45_method_2_code
def yJ0_init_2 : MethodName := ⟨RJ0, "<init>", "(Ljava/lang/String;)V"⟩
theorem q174 : (Jvm.Cond.initialized "java/lang/Throwable") ∈ lw_all := lw_g (lw_at lw_m1 12 rfl) rfl
theorem q498 : (Jvm.Cond.declares ({ cls := "java/lang/Throwable", name := "<init>", desc := "()V" } : Jvm.MethodName)) ∈ lw_tbl := lw_at lw_m2 96 rfl
theorem q499 : (Jvm.Cond.declares ({ cls := "java/lang/Throwable", name := "<init>", desc := "(Ljava/lang/String;)V" } : Jvm.MethodName)) ∈ lw_tbl := lw_at lw_m2 97 rfl
theorem q503 : (Jvm.Cond.lays "java/lang/Throwable" "java/lang/Throwable" "cause" "Ljava/lang/Throwable;") ∈ lw_all := lw_g (lw_at lw_m2 101 rfl) rfl
theorem q505 : (Jvm.Cond.lays "java/lang/Throwable" "java/lang/Throwable" "stackTrace" "[Ljava/lang/StackTraceElement;") ∈ lw_all := lw_g (lw_at lw_m2 103 rfl) rfl
theorem q507 : (Jvm.Cond.lays "java/lang/Throwable" "java/lang/Throwable" "suppressedExceptions" "Ljava/util/List;") ∈ lw_all := lw_g (lw_at lw_m2 105 rfl) rfl
theorem q509 : (Jvm.Cond.lays "java/lang/Throwable" "java/lang/Throwable" "detailMessage" "Ljava/lang/String;") ∈ lw_all := lw_g (lw_at lw_m2 107 rfl) rfl
theorem q511 : (Jvm.Cond.lays "java/lang/Throwable" "java/lang/Throwable" "backtrace" "Ljava/lang/Object;") ∈ lw_all := lw_g (lw_at lw_m2 109 rfl) rfl
theorem q512 : (Jvm.Cond.fieldLink "java/lang/Throwable" (198 : Nat) "java/lang/Throwable" "backtrace" "Ljava/lang/Object;") ∈ lw_all := lw_g (lw_at lw_m2 110 rfl) rfl
theorem q513 : (Jvm.Cond.superclass "java/lang/Throwable" "java/lang/Object") ∈ lw_all := lw_g (lw_at lw_m2 111 rfl) rfl
theorem q514 : (Jvm.Cond.instanceMethod ({ cls := "java/lang/Throwable", name := "<init>", desc := "()V" } : Jvm.MethodName)) ∈ lw_all := lw_g (lw_at lw_m2 112 rfl) rfl
theorem q515 : (Jvm.Cond.code ({ cls := "java/lang/Throwable", name := "<init>", desc := "()V" } : Jvm.MethodName) prog_45_method_1_code (1 : Nat) (Option.none : Option Jvm.ClassFile.FieldType)) ∈ lw_all := lw_g (lw_at lw_m2 113 rfl) rfl
theorem q516 : (Jvm.Cond.methodLink "java/lang/Throwable" (1 : Nat) ({ cls := "java/lang/Object", name := "<init>", desc := "()V" } : Jvm.MethodName)) ∈ lw_all := lw_g (lw_at lw_m2 114 rfl) rfl
theorem q517 : (Jvm.Cond.fieldLink "java/lang/Throwable" (13 : Nat) "java/lang/Throwable" "UNASSIGNED_STACK" "[Ljava/lang/StackTraceElement;") ∈ lw_all := lw_g (lw_at lw_m2 115 rfl) rfl
theorem q518 : (Jvm.Cond.laysStatic "java/lang/Throwable" "UNASSIGNED_STACK" "[Ljava/lang/StackTraceElement;") ∈ lw_tbl := lw_at lw_m2 116 rfl
theorem q519 : (Jvm.Cond.fieldLink "java/lang/Throwable" (20 : Nat) "java/lang/Throwable" "SUPPRESSED_SENTINEL" "Ljava/util/List;") ∈ lw_all := lw_g (lw_at lw_m2 117 rfl) rfl
theorem q520 : (Jvm.Cond.laysStatic "java/lang/Throwable" "SUPPRESSED_SENTINEL" "Ljava/util/List;") ∈ lw_tbl := lw_at lw_m2 118 rfl
theorem q521 : (Jvm.Cond.methodLink "java/lang/Throwable" (27 : Nat) ({ cls := "java/lang/Throwable", name := "fillInStackTrace", desc := "()Ljava/lang/Throwable;" } : Jvm.MethodName)) ∈ lw_all := lw_g (lw_at lw_m2 119 rfl) rfl
theorem q522 : (Jvm.Cond.instanceMethod ({ cls := "java/lang/Throwable", name := "fillInStackTrace", desc := "()Ljava/lang/Throwable;" } : Jvm.MethodName)) ∈ lw_all := lw_g (lw_at lw_m2 120 rfl) rfl
theorem q523 : (Jvm.Cond.sameMethod "java/lang/Throwable" "java/lang/Throwable" "fillInStackTrace" "()Ljava/lang/Throwable;") ∈ lw_all := lw_g (lw_at lw_m2 121 rfl) rfl
theorem q528 : (Jvm.Cond.codeSync ({ cls := "java/lang/Throwable", name := "fillInStackTrace", desc := "()Ljava/lang/Throwable;" } : Jvm.MethodName) prog_45_method_18_code (1 : Nat) (Option.some (Jvm.ClassFile.FieldType.object "java/lang/Throwable"))) ∈ lw_all := lw_g (lw_at lw_m2 126 rfl) rfl
theorem q529 : (Jvm.Cond.methodLink "java/lang/Throwable" (202 : Nat) ({ cls := "java/lang/Throwable", name := "fillInStackTrace", desc := "(I)Ljava/lang/Throwable;" } : Jvm.MethodName)) ∈ lw_all := lw_g (lw_at lw_m2 127 rfl) rfl
theorem q530 : (Jvm.Cond.privateMethod ({ cls := "java/lang/Throwable", name := "fillInStackTrace", desc := "(I)Ljava/lang/Throwable;" } : Jvm.MethodName)) ∈ lw_tbl := lw_at lw_m2 128 rfl
theorem q531 : (Jvm.Cond.instanceMethod ({ cls := "java/lang/Throwable", name := "fillInStackTrace", desc := "(I)Ljava/lang/Throwable;" } : Jvm.MethodName)) ∈ lw_all := lw_g (lw_at lw_m2 129 rfl) rfl
theorem q532 : (Jvm.Cond.instantiable "java/lang/Throwable" (6 : Nat)) ∈ lw_all := lw_g (lw_at lw_m2 130 rfl) rfl
theorem q533 : (Jvm.Cond.native ({ cls := "java/lang/Throwable", name := "fillInStackTrace", desc := "(I)Ljava/lang/Throwable;" } : Jvm.MethodName)) ∈ lw_all := lw_g (lw_at lw_m2 131 rfl) rfl
theorem q544 : (Jvm.Cond.fieldLink "java/lang/Throwable" (198 : Nat) "java/lang/Throwable" "backtrace" "Ljava/lang/Object;") ∈ lw_all := lw_g (lw_at lw_m2 142 rfl) rfl
theorem q545 : (Jvm.Cond.fieldLink "java/lang/Throwable" (31 : Nat) "java/lang/Throwable" "detailMessage" "Ljava/lang/String;") ∈ lw_all := lw_g (lw_at lw_m2 143 rfl) rfl
theorem q546 : (Jvm.Cond.fieldLink "java/lang/Throwable" (7 : Nat) "java/lang/Throwable" "cause" "Ljava/lang/Throwable;") ∈ lw_all := lw_g (lw_at lw_m2 144 rfl) rfl
theorem q547 : (Jvm.Cond.fieldLink "java/lang/Throwable" (17 : Nat) "java/lang/Throwable" "stackTrace" "[Ljava/lang/StackTraceElement;") ∈ lw_all := lw_g (lw_at lw_m2 145 rfl) rfl
theorem q548 : (Jvm.Cond.fieldLink "java/lang/Throwable" (24 : Nat) "java/lang/Throwable" "suppressedExceptions" "Ljava/util/List;") ∈ lw_all := lw_g (lw_at lw_m2 146 rfl) rfl
theorem q549 : (Jvm.Cond.soleField "java/lang/Throwable" "backtrace") ∈ lw_all := lw_g (lw_at lw_m2 147 rfl) rfl
theorem q550 : (Jvm.Cond.soleField "java/lang/Throwable" "detailMessage") ∈ lw_all := lw_g (lw_at lw_m2 148 rfl) rfl
theorem q551 : (Jvm.Cond.soleField "java/lang/Throwable" "cause") ∈ lw_all := lw_g (lw_at lw_m2 149 rfl) rfl
theorem q552 : (Jvm.Cond.soleField "java/lang/Throwable" "stackTrace") ∈ lw_all := lw_g (lw_at lw_m2 150 rfl) rfl
theorem q554 : (Jvm.Cond.soleField "java/lang/Throwable" "depth") ∈ lw_all := lw_g (lw_at lw_m2 152 rfl) rfl
theorem q555 : (Jvm.Cond.soleField "java/lang/Throwable" "suppressedExceptions") ∈ lw_all := lw_g (lw_at lw_m2 153 rfl) rfl
theorem q2075 : (Jvm.Cond.instanceMethod ({ cls := "java/lang/Throwable", name := "<init>", desc := "(Ljava/lang/String;)V" } : Jvm.MethodName)) ∈ lw_all := lw_g (lw_at lw_m8 233 rfl) rfl
theorem q2076 : (Jvm.Cond.code ({ cls := "java/lang/Throwable", name := "<init>", desc := "(Ljava/lang/String;)V" } : Jvm.MethodName) prog_45_method_2_code (2 : Nat) (Option.none : Option Jvm.ClassFile.FieldType)) ∈ lw_all := lw_g (lw_at lw_m8 234 rfl) rfl
theorem q3448 : (Jvm.Cond.sameMethod "java/lang/Throwable" "java/lang/Throwable" "fillInStackTrace" "(I)Ljava/lang/Throwable;") ∈ lw_all := lw_g (lw_at lw_m14 166 rfl) rfl
theorem q3521 : (Jvm.Cond.castable "java/lang/Throwable" "java/lang/Object") ∈ lw_tbl := lw_at lw_m14 239 rfl
theorem in_J0 : ∀ w ∈ wsJ00, w ∈ lw_all := lw_in wsJ00 [503, 505, 507, 509, 511] (by decide +kernel) (by decide +kernel)

/-! java/lang/Exception -/
set_option maxRecDepth 100000
def RJ1 : String := "java/lang/Exception"
abbrev cJ1_init : ByteArray := prog_34_method_1_code
def yJ1_init : MethodName := ⟨RJ1, "<init>", "()V"⟩
abbrev cJ1_init_2 : ByteArray := prog_34_method_2_code
def yJ1_init_2 : MethodName := ⟨RJ1, "<init>", "(Ljava/lang/String;)V"⟩
theorem q175 : (Jvm.Cond.initialized "java/lang/Exception") ∈ lw_all := lw_g (lw_at lw_m1 13 rfl) rfl
theorem q496 : (Jvm.Cond.declares ({ cls := "java/lang/Exception", name := "<init>", desc := "()V" } : Jvm.MethodName)) ∈ lw_tbl := lw_at lw_m2 94 rfl
theorem q497 : (Jvm.Cond.declares ({ cls := "java/lang/Exception", name := "<init>", desc := "(Ljava/lang/String;)V" } : Jvm.MethodName)) ∈ lw_tbl := lw_at lw_m2 95 rfl
theorem q541 : (Jvm.Cond.instanceMethod ({ cls := "java/lang/Exception", name := "<init>", desc := "()V" } : Jvm.MethodName)) ∈ lw_all := lw_g (lw_at lw_m2 139 rfl) rfl
theorem q542 : (Jvm.Cond.code ({ cls := "java/lang/Exception", name := "<init>", desc := "()V" } : Jvm.MethodName) prog_34_method_1_code (1 : Nat) (Option.none : Option Jvm.ClassFile.FieldType)) ∈ lw_all := lw_g (lw_at lw_m2 140 rfl) rfl
theorem q543 : (Jvm.Cond.methodLink "java/lang/Exception" (1 : Nat) ({ cls := "java/lang/Throwable", name := "<init>", desc := "()V" } : Jvm.MethodName)) ∈ lw_all := lw_g (lw_at lw_m2 141 rfl) rfl
theorem q2072 : (Jvm.Cond.instanceMethod ({ cls := "java/lang/Exception", name := "<init>", desc := "(Ljava/lang/String;)V" } : Jvm.MethodName)) ∈ lw_all := lw_g (lw_at lw_m8 230 rfl) rfl
theorem q2073 : (Jvm.Cond.code ({ cls := "java/lang/Exception", name := "<init>", desc := "(Ljava/lang/String;)V" } : Jvm.MethodName) prog_34_method_2_code (2 : Nat) (Option.none : Option Jvm.ClassFile.FieldType)) ∈ lw_all := lw_g (lw_at lw_m8 231 rfl) rfl
theorem q2074 : (Jvm.Cond.methodLink "java/lang/Exception" (7 : Nat) ({ cls := "java/lang/Throwable", name := "<init>", desc := "(Ljava/lang/String;)V" } : Jvm.MethodName)) ∈ lw_all := lw_g (lw_at lw_m8 232 rfl) rfl

/-! java/lang/RuntimeException -/
set_option maxRecDepth 100000
def RJ2 : String := "java/lang/RuntimeException"
abbrev cJ2_init : ByteArray := prog_40_method_1_code
def yJ2_init : MethodName := ⟨RJ2, "<init>", "()V"⟩
abbrev cJ2_init_2 : ByteArray := prog_40_method_2_code
def yJ2_init_2 : MethodName := ⟨RJ2, "<init>", "(Ljava/lang/String;)V"⟩
theorem q176 : (Jvm.Cond.initialized "java/lang/RuntimeException") ∈ lw_all := lw_g (lw_at lw_m1 14 rfl) rfl
theorem q494 : (Jvm.Cond.declares ({ cls := "java/lang/RuntimeException", name := "<init>", desc := "()V" } : Jvm.MethodName)) ∈ lw_tbl := lw_at lw_m2 92 rfl
theorem q495 : (Jvm.Cond.declares ({ cls := "java/lang/RuntimeException", name := "<init>", desc := "(Ljava/lang/String;)V" } : Jvm.MethodName)) ∈ lw_tbl := lw_at lw_m2 93 rfl
theorem q538 : (Jvm.Cond.instanceMethod ({ cls := "java/lang/RuntimeException", name := "<init>", desc := "()V" } : Jvm.MethodName)) ∈ lw_all := lw_g (lw_at lw_m2 136 rfl) rfl
theorem q539 : (Jvm.Cond.code ({ cls := "java/lang/RuntimeException", name := "<init>", desc := "()V" } : Jvm.MethodName) prog_40_method_1_code (1 : Nat) (Option.none : Option Jvm.ClassFile.FieldType)) ∈ lw_all := lw_g (lw_at lw_m2 137 rfl) rfl
theorem q540 : (Jvm.Cond.methodLink "java/lang/RuntimeException" (1 : Nat) ({ cls := "java/lang/Exception", name := "<init>", desc := "()V" } : Jvm.MethodName)) ∈ lw_all := lw_g (lw_at lw_m2 138 rfl) rfl
theorem q2069 : (Jvm.Cond.instanceMethod ({ cls := "java/lang/RuntimeException", name := "<init>", desc := "(Ljava/lang/String;)V" } : Jvm.MethodName)) ∈ lw_all := lw_g (lw_at lw_m8 227 rfl) rfl
theorem q2070 : (Jvm.Cond.code ({ cls := "java/lang/RuntimeException", name := "<init>", desc := "(Ljava/lang/String;)V" } : Jvm.MethodName) prog_40_method_2_code (2 : Nat) (Option.none : Option Jvm.ClassFile.FieldType)) ∈ lw_all := lw_g (lw_at lw_m8 228 rfl) rfl
theorem q2071 : (Jvm.Cond.methodLink "java/lang/RuntimeException" (7 : Nat) ({ cls := "java/lang/Exception", name := "<init>", desc := "(Ljava/lang/String;)V" } : Jvm.MethodName)) ∈ lw_all := lw_g (lw_at lw_m8 229 rfl) rfl

/-! java/lang/IllegalArgumentException -/
set_option maxRecDepth 100000
def RJ3 : String := "java/lang/IllegalArgumentException"
def TJ3 : u_T := fun k => match k with
  | 0 => ("java/lang/Throwable", "cause", "Ljava/lang/Throwable;", false)
  | 1 => ("java/lang/Throwable", "stackTrace", "[Ljava/lang/StackTraceElement;", false)
  | 2 => ("java/lang/Throwable", "suppressedExceptions", "Ljava/util/List;", false)
  | 3 => ("java/lang/Throwable", "detailMessage", "Ljava/lang/String;", false)
  | 4 => ("java/lang/Throwable", "backtrace", "Ljava/lang/Object;", false)
  | _ => ("java/lang/Throwable", "depth", "I", false)
def tyJ3 : Nat → FieldType := fun k => match k with
  | 0 => .object "java/lang/Throwable"
  | 1 => .array (.object "java/lang/StackTraceElement")
  | 2 => .object "java/util/List"
  | 3 => .object "java/lang/String"
  | 4 => .object "java/lang/Object"
  | _ => .int
abbrev wsJ30 : List Cond := u_ws RJ3 TJ3 6
theorem nmJ3 : ∀ a, a < 6 → ∀ b, b < 6 → a ≠ b → (TJ3 a).2.1 ≠ (TJ3 b).2.1 := by decide +kernel
theorem tyJ3_ok : ∀ k, k < 6 → parseFieldDescriptor (TJ3 k).2.2.1 = some (tyJ3 k) := by decide +kernel
abbrev cJ3_init : ByteArray := prog_35_method_1_code
def yJ3_init : MethodName := ⟨RJ3, "<init>", "()V"⟩
theorem q177 : (Jvm.Cond.initialized "java/lang/IllegalArgumentException") ∈ lw_all := lw_g (lw_at lw_m1 15 rfl) rfl
theorem q492 : (Jvm.Cond.instantiable "java/lang/IllegalArgumentException" (6 : Nat)) ∈ lw_all := lw_g (lw_at lw_m2 90 rfl) rfl
theorem q493 : (Jvm.Cond.castable "java/lang/IllegalArgumentException" "java/lang/IllegalArgumentException") ∈ lw_tbl := lw_at lw_m2 91 rfl
theorem q500 : (Jvm.Cond.selects "java/lang/IllegalArgumentException" ({ cls := "java/lang/Throwable", name := "fillInStackTrace", desc := "(I)Ljava/lang/Throwable;" } : Jvm.MethodName) ({ cls := "java/lang/Throwable", name := "fillInStackTrace", desc := "(I)Ljava/lang/Throwable;" } : Jvm.MethodName)) ∈ lw_all := lw_g (lw_at lw_m2 98 rfl) rfl
theorem q501 : (Jvm.Cond.selects "java/lang/IllegalArgumentException" ({ cls := "java/lang/Throwable", name := "fillInStackTrace", desc := "()Ljava/lang/Throwable;" } : Jvm.MethodName) ({ cls := "java/lang/Throwable", name := "fillInStackTrace", desc := "()Ljava/lang/Throwable;" } : Jvm.MethodName)) ∈ lw_all := lw_g (lw_at lw_m2 99 rfl) rfl
theorem q502 : (Jvm.Cond.lays "java/lang/IllegalArgumentException" "java/lang/Throwable" "cause" "Ljava/lang/Throwable;") ∈ lw_all := lw_g (lw_at lw_m2 100 rfl) rfl
theorem q504 : (Jvm.Cond.lays "java/lang/IllegalArgumentException" "java/lang/Throwable" "stackTrace" "[Ljava/lang/StackTraceElement;") ∈ lw_all := lw_g (lw_at lw_m2 102 rfl) rfl
theorem q506 : (Jvm.Cond.lays "java/lang/IllegalArgumentException" "java/lang/Throwable" "suppressedExceptions" "Ljava/util/List;") ∈ lw_all := lw_g (lw_at lw_m2 104 rfl) rfl
theorem q508 : (Jvm.Cond.lays "java/lang/IllegalArgumentException" "java/lang/Throwable" "detailMessage" "Ljava/lang/String;") ∈ lw_all := lw_g (lw_at lw_m2 106 rfl) rfl
theorem q510 : (Jvm.Cond.lays "java/lang/IllegalArgumentException" "java/lang/Throwable" "backtrace" "Ljava/lang/Object;") ∈ lw_all := lw_g (lw_at lw_m2 108 rfl) rfl
theorem q535 : (Jvm.Cond.instanceMethod ({ cls := "java/lang/IllegalArgumentException", name := "<init>", desc := "()V" } : Jvm.MethodName)) ∈ lw_all := lw_g (lw_at lw_m2 133 rfl) rfl
theorem q536 : (Jvm.Cond.code ({ cls := "java/lang/IllegalArgumentException", name := "<init>", desc := "()V" } : Jvm.MethodName) prog_35_method_1_code (1 : Nat) (Option.none : Option Jvm.ClassFile.FieldType)) ∈ lw_all := lw_g (lw_at lw_m2 134 rfl) rfl
theorem q537 : (Jvm.Cond.methodLink "java/lang/IllegalArgumentException" (1 : Nat) ({ cls := "java/lang/RuntimeException", name := "<init>", desc := "()V" } : Jvm.MethodName)) ∈ lw_all := lw_g (lw_at lw_m2 135 rfl) rfl
theorem q553 : (Jvm.Cond.lays "java/lang/IllegalArgumentException" "java/lang/Throwable" "depth" "I") ∈ lw_all := lw_g (lw_at lw_m2 151 rfl) rfl
theorem q556 : (Jvm.Cond.superclass "java/lang/IllegalArgumentException" "java/lang/RuntimeException") ∈ lw_all := lw_g (lw_at lw_m2 154 rfl) rfl
theorem q1248 : (Jvm.Cond.selects "java/lang/IllegalArgumentException" ({ cls := "java/lang/Object", name := "getClass", desc := "()Ljava/lang/Class;" } : Jvm.MethodName) ({ cls := "java/lang/Object", name := "getClass", desc := "()Ljava/lang/Class;" } : Jvm.MethodName)) ∈ lw_all := lw_g (lw_at lw_m5 126 rfl) rfl
theorem q1426 : (Jvm.Cond.selects "java/lang/IllegalArgumentException" ({ cls := "java/lang/Object", name := "equals", desc := "(Ljava/lang/Object;)Z" } : Jvm.MethodName) ({ cls := "java/lang/Object", name := "equals", desc := "(Ljava/lang/Object;)Z" } : Jvm.MethodName)) ∈ lw_all := lw_g (lw_at lw_m6 64 rfl) rfl
theorem q3500 : (Jvm.Cond.castable "java/lang/IllegalArgumentException" "java/lang/Object") ∈ lw_tbl := lw_at lw_m14 218 rfl
theorem in_J3 : ∀ w ∈ wsJ30, w ∈ lw_all := lw_in wsJ30 [502, 504, 506, 508, 510, 553] (by decide +kernel) (by decide +kernel)

/-! java/lang/UnsupportedOperationException -/
set_option maxRecDepth 100000
def RJ4 : String := "java/lang/UnsupportedOperationException"
def TJ4 : u_T := fun k => match k with
  | 0 => ("java/lang/Throwable", "cause", "Ljava/lang/Throwable;", false)
  | 1 => ("java/lang/Throwable", "stackTrace", "[Ljava/lang/StackTraceElement;", false)
  | 2 => ("java/lang/Throwable", "suppressedExceptions", "Ljava/util/List;", false)
  | 3 => ("java/lang/Throwable", "detailMessage", "Ljava/lang/String;", false)
  | 4 => ("java/lang/Throwable", "backtrace", "Ljava/lang/Object;", false)
  | _ => ("java/lang/Throwable", "depth", "I", false)
def tyJ4 : Nat → FieldType := fun k => match k with
  | 0 => .object "java/lang/Throwable"
  | 1 => .array (.object "java/lang/StackTraceElement")
  | 2 => .object "java/util/List"
  | 3 => .object "java/lang/String"
  | 4 => .object "java/lang/Object"
  | _ => .int
abbrev wsJ40 : List Cond := u_ws RJ4 TJ4 6
theorem nmJ4 : ∀ a, a < 6 → ∀ b, b < 6 → a ≠ b → (TJ4 a).2.1 ≠ (TJ4 b).2.1 := by decide +kernel
theorem tyJ4_ok : ∀ k, k < 6 → parseFieldDescriptor (TJ4 k).2.2.1 = some (tyJ4 k) := by decide +kernel
abbrev cJ4_init : ByteArray := prog_46_method_1_code
def yJ4_init : MethodName := ⟨RJ4, "<init>", "()V"⟩
theorem q178 : (Jvm.Cond.initialized "java/lang/UnsupportedOperationException") ∈ lw_all := lw_g (lw_at lw_m1 16 rfl) rfl
theorem q527 : (Jvm.Cond.selects "java/lang/UnsupportedOperationException" ({ cls := "java/lang/Throwable", name := "fillInStackTrace", desc := "()Ljava/lang/Throwable;" } : Jvm.MethodName) ({ cls := "java/lang/Throwable", name := "fillInStackTrace", desc := "()Ljava/lang/Throwable;" } : Jvm.MethodName)) ∈ lw_all := lw_g (lw_at lw_m2 125 rfl) rfl
theorem q558 : (Jvm.Cond.instantiable "java/lang/UnsupportedOperationException" (6 : Nat)) ∈ lw_all := lw_g (lw_at lw_m2 156 rfl) rfl
theorem q559 : (Jvm.Cond.castable "java/lang/UnsupportedOperationException" "java/lang/UnsupportedOperationException") ∈ lw_tbl := lw_at lw_m2 157 rfl
theorem q560 : (Jvm.Cond.selects "java/lang/UnsupportedOperationException" ({ cls := "java/lang/Throwable", name := "fillInStackTrace", desc := "(I)Ljava/lang/Throwable;" } : Jvm.MethodName) ({ cls := "java/lang/Throwable", name := "fillInStackTrace", desc := "(I)Ljava/lang/Throwable;" } : Jvm.MethodName)) ∈ lw_all := lw_g (lw_at lw_m2 158 rfl) rfl
theorem q561 : (Jvm.Cond.lays "java/lang/UnsupportedOperationException" "java/lang/Throwable" "cause" "Ljava/lang/Throwable;") ∈ lw_all := lw_g (lw_at lw_m2 159 rfl) rfl
theorem q562 : (Jvm.Cond.lays "java/lang/UnsupportedOperationException" "java/lang/Throwable" "stackTrace" "[Ljava/lang/StackTraceElement;") ∈ lw_all := lw_g (lw_at lw_m2 160 rfl) rfl
theorem q563 : (Jvm.Cond.lays "java/lang/UnsupportedOperationException" "java/lang/Throwable" "suppressedExceptions" "Ljava/util/List;") ∈ lw_all := lw_g (lw_at lw_m2 161 rfl) rfl
theorem q564 : (Jvm.Cond.lays "java/lang/UnsupportedOperationException" "java/lang/Throwable" "detailMessage" "Ljava/lang/String;") ∈ lw_all := lw_g (lw_at lw_m2 162 rfl) rfl
theorem q565 : (Jvm.Cond.lays "java/lang/UnsupportedOperationException" "java/lang/Throwable" "backtrace" "Ljava/lang/Object;") ∈ lw_all := lw_g (lw_at lw_m2 163 rfl) rfl
theorem q567 : (Jvm.Cond.instanceMethod ({ cls := "java/lang/UnsupportedOperationException", name := "<init>", desc := "()V" } : Jvm.MethodName)) ∈ lw_all := lw_g (lw_at lw_m2 165 rfl) rfl
theorem q568 : (Jvm.Cond.code ({ cls := "java/lang/UnsupportedOperationException", name := "<init>", desc := "()V" } : Jvm.MethodName) prog_46_method_1_code (1 : Nat) (Option.none : Option Jvm.ClassFile.FieldType)) ∈ lw_all := lw_g (lw_at lw_m2 166 rfl) rfl
theorem q569 : (Jvm.Cond.methodLink "java/lang/UnsupportedOperationException" (1 : Nat) ({ cls := "java/lang/RuntimeException", name := "<init>", desc := "()V" } : Jvm.MethodName)) ∈ lw_all := lw_g (lw_at lw_m2 167 rfl) rfl
theorem q570 : (Jvm.Cond.lays "java/lang/UnsupportedOperationException" "java/lang/Throwable" "depth" "I") ∈ lw_all := lw_g (lw_at lw_m2 168 rfl) rfl
theorem q571 : (Jvm.Cond.superclass "java/lang/UnsupportedOperationException" "java/lang/RuntimeException") ∈ lw_all := lw_g (lw_at lw_m2 169 rfl) rfl
theorem q1251 : (Jvm.Cond.selects "java/lang/UnsupportedOperationException" ({ cls := "java/lang/Object", name := "getClass", desc := "()Ljava/lang/Class;" } : Jvm.MethodName) ({ cls := "java/lang/Object", name := "getClass", desc := "()Ljava/lang/Class;" } : Jvm.MethodName)) ∈ lw_all := lw_g (lw_at lw_m5 129 rfl) rfl
theorem q1436 : (Jvm.Cond.selects "java/lang/UnsupportedOperationException" ({ cls := "java/lang/Object", name := "equals", desc := "(Ljava/lang/Object;)Z" } : Jvm.MethodName) ({ cls := "java/lang/Object", name := "equals", desc := "(Ljava/lang/Object;)Z" } : Jvm.MethodName)) ∈ lw_all := lw_g (lw_at lw_m6 74 rfl) rfl
theorem q3501 : (Jvm.Cond.castable "java/lang/UnsupportedOperationException" "java/lang/Object") ∈ lw_tbl := lw_at lw_m14 219 rfl
theorem in_J4 : ∀ w ∈ wsJ40, w ∈ lw_all := lw_in wsJ40 [561, 562, 563, 564, 565, 570] (by decide +kernel) (by decide +kernel)

/-! java/lang/String -/
set_option maxRecDepth 100000
def RJ5 : String := "java/lang/String"
def TJ5 : u_T := fun k => match k with
  | 0 => ("java/lang/String", "value", "[B", true)
  | _ => ("java/lang/String", "coder", "B", true)
def tyJ5 : Nat → FieldType := fun k => match k with
  | 0 => .array .byte
  | _ => .byte
abbrev wsJ50 : List Cond := u_ws RJ5 TJ5 2
theorem nmJ5 : ∀ a, a < 2 → ∀ b, b < 2 → a ≠ b → (TJ5 a).2.1 ≠ (TJ5 b).2.1 := by decide +kernel
theorem tyJ5_ok : ∀ k, k < 2 → parseFieldDescriptor (TJ5 k).2.2.1 = some (tyJ5 k) := by decide +kernel
abbrev cJ5_length : ByteArray := prog_41_method_54_code
def yJ5_length : MethodName := ⟨RJ5, "length", "()I"⟩
abbrev cJ5_coder : ByteArray := prog_41_method_152_code
def yJ5_coder : MethodName := ⟨RJ5, "coder", "()B"⟩
abbrev cJ5_charAt : ByteArray := prog_41_method_56_code
def yJ5_charAt : MethodName := ⟨RJ5, "charAt", "(I)C"⟩
abbrev cJ5_isLatin1 : ByteArray := prog_41_method_154_code
def yJ5_isLatin1 : MethodName := ⟨RJ5, "isLatin1", "()Z"⟩
abbrev cJ5_checkIndex : ByteArray := prog_41_method_155_code
def yJ5_checkIndex : MethodName := ⟨RJ5, "checkIndex", "(II)V"⟩
abbrev cJ5_indexOf : ByteArray := prog_41_method_79_code
def yJ5_indexOf : MethodName := ⟨RJ5, "indexOf", "(I)I"⟩
abbrev cJ5_indexOf_2 : ByteArray := prog_41_method_80_code
def yJ5_indexOf_2 : MethodName := ⟨RJ5, "indexOf", "(II)I"⟩
abbrev cJ5_checkBoundsBeginEnd : ByteArray := prog_41_method_158_code
def yJ5_checkBoundsBeginEnd : MethodName := ⟨RJ5, "checkBoundsBeginEnd", "(III)V"⟩
abbrev cJ5_equals : ByteArray := prog_41_method_66_code
def yJ5_equals : MethodName := ⟨RJ5, "equals", "(Ljava/lang/Object;)Z"⟩
theorem q181 : (Jvm.Cond.initialized "java/lang/String") ∈ lw_all := lw_g (lw_at lw_m1 19 rfl) rfl
theorem q601 : (Jvm.Cond.instanceMethod ({ cls := "java/lang/String", name := "length", desc := "()I" } : Jvm.MethodName)) ∈ lw_all := lw_g (lw_at lw_m2 199 rfl) rfl
theorem q602 : (Jvm.Cond.selects "java/lang/String" ({ cls := "java/lang/String", name := "length", desc := "()I" } : Jvm.MethodName) ({ cls := "java/lang/String", name := "length", desc := "()I" } : Jvm.MethodName)) ∈ lw_all := lw_g (lw_at lw_m2 200 rfl) rfl
theorem q603 : (Jvm.Cond.code ({ cls := "java/lang/String", name := "length", desc := "()I" } : Jvm.MethodName) prog_41_method_54_code (1 : Nat) (Option.some Jvm.ClassFile.FieldType.int)) ∈ lw_all := lw_g (lw_at lw_m2 201 rfl) rfl
theorem q604 : (Jvm.Cond.methodLink "java/lang/String" (335 : Nat) ({ cls := "java/lang/String", name := "coder", desc := "()B" } : Jvm.MethodName)) ∈ lw_all := lw_g (lw_at lw_m2 202 rfl) rfl
theorem q605 : (Jvm.Cond.instanceMethod ({ cls := "java/lang/String", name := "coder", desc := "()B" } : Jvm.MethodName)) ∈ lw_all := lw_g (lw_at lw_m2 203 rfl) rfl
theorem q606 : (Jvm.Cond.selects "java/lang/String" ({ cls := "java/lang/String", name := "coder", desc := "()B" } : Jvm.MethodName) ({ cls := "java/lang/String", name := "coder", desc := "()B" } : Jvm.MethodName)) ∈ lw_all := lw_g (lw_at lw_m2 204 rfl) rfl
theorem q607 : (Jvm.Cond.code ({ cls := "java/lang/String", name := "coder", desc := "()B" } : Jvm.MethodName) prog_41_method_152_code (1 : Nat) (Option.some Jvm.ClassFile.FieldType.byte)) ∈ lw_all := lw_g (lw_at lw_m2 205 rfl) rfl
theorem q608 : (Jvm.Cond.fieldLink "java/lang/String" (38 : Nat) "java/lang/String" "COMPACT_STRINGS" "Z") ∈ lw_all := lw_g (lw_at lw_m2 206 rfl) rfl
theorem q609 : (Jvm.Cond.laysStatic "java/lang/String" "COMPACT_STRINGS" "Z") ∈ lw_tbl := lw_at lw_m2 207 rfl
theorem q611 : (Jvm.Cond.instanceMethod ({ cls := "java/lang/String", name := "charAt", desc := "(I)C" } : Jvm.MethodName)) ∈ lw_all := lw_g (lw_at lw_m2 209 rfl) rfl
theorem q612 : (Jvm.Cond.selects "java/lang/String" ({ cls := "java/lang/String", name := "charAt", desc := "(I)C" } : Jvm.MethodName) ({ cls := "java/lang/String", name := "charAt", desc := "(I)C" } : Jvm.MethodName)) ∈ lw_all := lw_g (lw_at lw_m2 210 rfl) rfl
theorem q613 : (Jvm.Cond.code ({ cls := "java/lang/String", name := "charAt", desc := "(I)C" } : Jvm.MethodName) prog_41_method_56_code (2 : Nat) (Option.some Jvm.ClassFile.FieldType.char)) ∈ lw_all := lw_g (lw_at lw_m2 211 rfl) rfl
theorem q614 : (Jvm.Cond.methodLink "java/lang/String" (492 : Nat) ({ cls := "java/lang/String", name := "isLatin1", desc := "()Z" } : Jvm.MethodName)) ∈ lw_all := lw_g (lw_at lw_m2 212 rfl) rfl
theorem q615 : (Jvm.Cond.instanceMethod ({ cls := "java/lang/String", name := "isLatin1", desc := "()Z" } : Jvm.MethodName)) ∈ lw_all := lw_g (lw_at lw_m2 213 rfl) rfl
theorem q616 : (Jvm.Cond.selects "java/lang/String" ({ cls := "java/lang/String", name := "isLatin1", desc := "()Z" } : Jvm.MethodName) ({ cls := "java/lang/String", name := "isLatin1", desc := "()Z" } : Jvm.MethodName)) ∈ lw_all := lw_g (lw_at lw_m2 214 rfl) rfl
theorem q617 : (Jvm.Cond.code ({ cls := "java/lang/String", name := "isLatin1", desc := "()Z" } : Jvm.MethodName) prog_41_method_154_code (1 : Nat) (Option.some Jvm.ClassFile.FieldType.boolean)) ∈ lw_all := lw_g (lw_at lw_m2 215 rfl) rfl
theorem q618 : (Jvm.Cond.methodLink "java/lang/String" (495 : Nat) ({ cls := "java/lang/StringLatin1", name := "charAt", desc := "([BI)C" } : Jvm.MethodName)) ∈ lw_all := lw_g (lw_at lw_m2 216 rfl) rfl
theorem q622 : (Jvm.Cond.static ({ cls := "java/lang/String", name := "checkIndex", desc := "(II)V" } : Jvm.MethodName)) ∈ lw_all := lw_g (lw_at lw_m2 220 rfl) rfl
theorem q623 : (Jvm.Cond.code ({ cls := "java/lang/String", name := "checkIndex", desc := "(II)V" } : Jvm.MethodName) prog_41_method_155_code (2 : Nat) (Option.none : Option Jvm.ClassFile.FieldType)) ∈ lw_all := lw_g (lw_at lw_m2 221 rfl) rfl
theorem q624 : (Jvm.Cond.fieldLink "java/lang/String" (1053 : Nat) "jdk/internal/util/Preconditions" "SIOOBE_FORMATTER" "Ljava/util/function/BiFunction;") ∈ lw_all := lw_g (lw_at lw_m2 222 rfl) rfl
theorem q626 : (Jvm.Cond.methodLink "java/lang/String" (1059 : Nat) ({ cls := "jdk/internal/util/Preconditions", name := "checkIndex", desc := "(IILjava/util/function/BiFunction;)I" } : Jvm.MethodName)) ∈ lw_all := lw_g (lw_at lw_m2 224 rfl) rfl
theorem q629 : (Jvm.Cond.methodLink "java/lang/String" (498 : Nat) ({ cls := "java/lang/StringUTF16", name := "charAt", desc := "([BI)C" } : Jvm.MethodName)) ∈ lw_all := lw_g (lw_at lw_m2 227 rfl) rfl
theorem q775 : (Jvm.Cond.instanceMethod ({ cls := "java/lang/String", name := "indexOf", desc := "(I)I" } : Jvm.MethodName)) ∈ lw_all := lw_g (lw_at lw_m3 133 rfl) rfl
theorem q776 : (Jvm.Cond.selects "java/lang/String" ({ cls := "java/lang/String", name := "indexOf", desc := "(I)I" } : Jvm.MethodName) ({ cls := "java/lang/String", name := "indexOf", desc := "(I)I" } : Jvm.MethodName)) ∈ lw_all := lw_g (lw_at lw_m3 134 rfl) rfl
theorem q777 : (Jvm.Cond.code ({ cls := "java/lang/String", name := "indexOf", desc := "(I)I" } : Jvm.MethodName) prog_41_method_79_code (2 : Nat) (Option.some Jvm.ClassFile.FieldType.int)) ∈ lw_all := lw_g (lw_at lw_m3 135 rfl) rfl
theorem q778 : (Jvm.Cond.methodLink "java/lang/String" (633 : Nat) ({ cls := "java/lang/String", name := "indexOf", desc := "(II)I" } : Jvm.MethodName)) ∈ lw_all := lw_g (lw_at lw_m3 136 rfl) rfl
theorem q779 : (Jvm.Cond.instanceMethod ({ cls := "java/lang/String", name := "indexOf", desc := "(II)I" } : Jvm.MethodName)) ∈ lw_all := lw_g (lw_at lw_m3 137 rfl) rfl
theorem q780 : (Jvm.Cond.selects "java/lang/String" ({ cls := "java/lang/String", name := "indexOf", desc := "(II)I" } : Jvm.MethodName) ({ cls := "java/lang/String", name := "indexOf", desc := "(II)I" } : Jvm.MethodName)) ∈ lw_all := lw_g (lw_at lw_m3 138 rfl) rfl
theorem q781 : (Jvm.Cond.code ({ cls := "java/lang/String", name := "indexOf", desc := "(II)I" } : Jvm.MethodName) prog_41_method_80_code (3 : Nat) (Option.some Jvm.ClassFile.FieldType.int)) ∈ lw_all := lw_g (lw_at lw_m3 139 rfl) rfl
theorem q782 : (Jvm.Cond.methodLink "java/lang/String" (505 : Nat) ({ cls := "java/lang/String", name := "length", desc := "()I" } : Jvm.MethodName)) ∈ lw_all := lw_g (lw_at lw_m3 140 rfl) rfl
theorem q783 : (Jvm.Cond.methodLink "java/lang/String" (637 : Nat) ({ cls := "java/lang/StringLatin1", name := "indexOf", desc := "([BIII)I" } : Jvm.MethodName)) ∈ lw_all := lw_g (lw_at lw_m3 141 rfl) rfl
theorem q798 : (Jvm.Cond.methodLink "java/lang/String" (640 : Nat) ({ cls := "java/lang/StringUTF16", name := "indexOf", desc := "([BIII)I" } : Jvm.MethodName)) ∈ lw_all := lw_g (lw_at lw_m3 156 rfl) rfl
theorem q811 : (Jvm.Cond.static ({ cls := "java/lang/String", name := "checkBoundsBeginEnd", desc := "(III)V" } : Jvm.MethodName)) ∈ lw_all := lw_g (lw_at lw_m3 169 rfl) rfl
theorem q812 : (Jvm.Cond.code ({ cls := "java/lang/String", name := "checkBoundsBeginEnd", desc := "(III)V" } : Jvm.MethodName) prog_41_method_158_code (3 : Nat) (Option.none : Option Jvm.ClassFile.FieldType)) ∈ lw_all := lw_g (lw_at lw_m3 170 rfl) rfl
theorem q813 : (Jvm.Cond.methodLink "java/lang/String" (1062 : Nat) ({ cls := "jdk/internal/util/Preconditions", name := "checkFromToIndex", desc := "(IIILjava/util/function/BiFunction;)I" } : Jvm.MethodName)) ∈ lw_all := lw_g (lw_at lw_m3 171 rfl) rfl
theorem q1429 : (Jvm.Cond.selects "java/lang/String" ({ cls := "java/lang/Object", name := "equals", desc := "(Ljava/lang/Object;)Z" } : Jvm.MethodName) ({ cls := "java/lang/String", name := "equals", desc := "(Ljava/lang/Object;)Z" } : Jvm.MethodName)) ∈ lw_all := lw_g (lw_at lw_m6 67 rfl) rfl
theorem q1430 : (Jvm.Cond.instanceMethod ({ cls := "java/lang/String", name := "equals", desc := "(Ljava/lang/Object;)Z" } : Jvm.MethodName)) ∈ lw_all := lw_g (lw_at lw_m6 68 rfl) rfl
theorem q1431 : (Jvm.Cond.code ({ cls := "java/lang/String", name := "equals", desc := "(Ljava/lang/Object;)Z" } : Jvm.MethodName) prog_41_method_66_code (3 : Nat) (Option.some Jvm.ClassFile.FieldType.boolean)) ∈ lw_all := lw_g (lw_at lw_m6 69 rfl) rfl
theorem q1432 : (Jvm.Cond.classLink "java/lang/String" (10 : Nat) "java/lang/String") ∈ lw_all := lw_g (lw_at lw_m6 70 rfl) rfl
theorem q1433 : (Jvm.Cond.methodLink "java/lang/String" (541 : Nat) ({ cls := "java/lang/StringLatin1", name := "equals", desc := "([B[B)Z" } : Jvm.MethodName)) ∈ lw_all := lw_g (lw_at lw_m6 71 rfl) rfl
theorem q2088 : (Jvm.Cond.instantiable "java/lang/String" (4 : Nat)) ∈ lw_all := lw_g (lw_at lw_m9 6 rfl) rfl
theorem q2089 : (Jvm.Cond.laysFinal "java/lang/String" "java/lang/String" "value" "[B") ∈ lw_all := lw_g (lw_at lw_m9 7 rfl) rfl
theorem q2090 : (Jvm.Cond.soleField "java/lang/String" "value") ∈ lw_all := lw_g (lw_at lw_m9 8 rfl) rfl
theorem q2091 : (Jvm.Cond.laysFinal "java/lang/String" "java/lang/String" "coder" "B") ∈ lw_all := lw_g (lw_at lw_m9 9 rfl) rfl
theorem q2092 : (Jvm.Cond.soleField "java/lang/String" "coder") ∈ lw_all := lw_g (lw_at lw_m9 10 rfl) rfl
theorem q3522 : (Jvm.Cond.castable "java/lang/String" "java/lang/Object") ∈ lw_tbl := lw_at lw_m15 0 rfl
theorem q3534 : (Jvm.Cond.fieldLink "java/lang/String" (9 : Nat) "java/lang/String" "value" "[B") ∈ lw_all := lw_g (lw_at lw_m15 12 rfl) rfl
theorem q3535 : (Jvm.Cond.fieldLink "java/lang/String" (15 : Nat) "java/lang/String" "coder" "B") ∈ lw_all := lw_g (lw_at lw_m15 13 rfl) rfl
theorem in_J5 : ∀ w ∈ wsJ50, w ∈ lw_all := lw_in wsJ50 [2089, 2091] (by decide +kernel) (by decide +kernel)

/-! java/lang/StringLatin1 -/
set_option maxRecDepth 100000
def RJ6 : String := "java/lang/StringLatin1"
abbrev cJ6_charAt : ByteArray := prog_42_method_2_code
def yJ6_charAt : MethodName := ⟨RJ6, "charAt", "([BI)C"⟩
abbrev cJ6_indexOf : ByteArray := prog_42_method_22_code
def yJ6_indexOf : MethodName := ⟨RJ6, "indexOf", "([BIII)I"⟩
abbrev cJ6_canEncode : ByteArray := prog_42_method_4_code
def yJ6_canEncode : MethodName := ⟨RJ6, "canEncode", "(I)Z"⟩
abbrev cJ6_indexOfChar : ByteArray := prog_42_method_23_code
def yJ6_indexOfChar : MethodName := ⟨RJ6, "indexOfChar", "([BIII)I"⟩
abbrev cJ6_equals : ByteArray := prog_42_method_13_code
def yJ6_equals : MethodName := ⟨RJ6, "equals", "([B[B)Z"⟩
theorem q182 : (Jvm.Cond.initialized "java/lang/StringLatin1") ∈ lw_all := lw_g (lw_at lw_m1 20 rfl) rfl
theorem q619 : (Jvm.Cond.static ({ cls := "java/lang/StringLatin1", name := "charAt", desc := "([BI)C" } : Jvm.MethodName)) ∈ lw_all := lw_g (lw_at lw_m2 217 rfl) rfl
theorem q620 : (Jvm.Cond.code ({ cls := "java/lang/StringLatin1", name := "charAt", desc := "([BI)C" } : Jvm.MethodName) prog_42_method_2_code (2 : Nat) (Option.some Jvm.ClassFile.FieldType.char)) ∈ lw_all := lw_g (lw_at lw_m2 218 rfl) rfl
theorem q621 : (Jvm.Cond.methodLink "java/lang/StringLatin1" (9 : Nat) ({ cls := "java/lang/String", name := "checkIndex", desc := "(II)V" } : Jvm.MethodName)) ∈ lw_all := lw_g (lw_at lw_m2 219 rfl) rfl
theorem q784 : (Jvm.Cond.static ({ cls := "java/lang/StringLatin1", name := "indexOf", desc := "([BIII)I" } : Jvm.MethodName)) ∈ lw_all := lw_g (lw_at lw_m3 142 rfl) rfl
theorem q785 : (Jvm.Cond.code ({ cls := "java/lang/StringLatin1", name := "indexOf", desc := "([BIII)I" } : Jvm.MethodName) prog_42_method_22_code (4 : Nat) (Option.some Jvm.ClassFile.FieldType.int)) ∈ lw_all := lw_g (lw_at lw_m3 143 rfl) rfl
theorem q786 : (Jvm.Cond.methodLink "java/lang/StringLatin1" (88 : Nat) ({ cls := "java/lang/StringLatin1", name := "canEncode", desc := "(I)Z" } : Jvm.MethodName)) ∈ lw_all := lw_g (lw_at lw_m3 144 rfl) rfl
theorem q787 : (Jvm.Cond.static ({ cls := "java/lang/StringLatin1", name := "canEncode", desc := "(I)Z" } : Jvm.MethodName)) ∈ lw_all := lw_g (lw_at lw_m3 145 rfl) rfl
theorem q788 : (Jvm.Cond.code ({ cls := "java/lang/StringLatin1", name := "canEncode", desc := "(I)Z" } : Jvm.MethodName) prog_42_method_4_code (1 : Nat) (Option.some Jvm.ClassFile.FieldType.boolean)) ∈ lw_all := lw_g (lw_at lw_m3 146 rfl) rfl
theorem q789 : (Jvm.Cond.methodLink "java/lang/StringLatin1" (92 : Nat) ({ cls := "java/lang/Math", name := "max", desc := "(II)I" } : Jvm.MethodName)) ∈ lw_all := lw_g (lw_at lw_m3 147 rfl) rfl
theorem q792 : (Jvm.Cond.methodLink "java/lang/StringLatin1" (38 : Nat) ({ cls := "java/lang/Math", name := "min", desc := "(II)I" } : Jvm.MethodName)) ∈ lw_all := lw_g (lw_at lw_m3 150 rfl) rfl
theorem q795 : (Jvm.Cond.methodLink "java/lang/StringLatin1" (95 : Nat) ({ cls := "java/lang/StringLatin1", name := "indexOfChar", desc := "([BIII)I" } : Jvm.MethodName)) ∈ lw_all := lw_g (lw_at lw_m3 153 rfl) rfl
theorem q796 : (Jvm.Cond.static ({ cls := "java/lang/StringLatin1", name := "indexOfChar", desc := "([BIII)I" } : Jvm.MethodName)) ∈ lw_all := lw_g (lw_at lw_m3 154 rfl) rfl
theorem q797 : (Jvm.Cond.code ({ cls := "java/lang/StringLatin1", name := "indexOfChar", desc := "([BIII)I" } : Jvm.MethodName) prog_42_method_23_code (6 : Nat) (Option.some Jvm.ClassFile.FieldType.int)) ∈ lw_all := lw_g (lw_at lw_m3 155 rfl) rfl
theorem q1434 : (Jvm.Cond.static ({ cls := "java/lang/StringLatin1", name := "equals", desc := "([B[B)Z" } : Jvm.MethodName)) ∈ lw_all := lw_g (lw_at lw_m6 72 rfl) rfl
theorem q1435 : (Jvm.Cond.code ({ cls := "java/lang/StringLatin1", name := "equals", desc := "([B[B)Z" } : Jvm.MethodName) prog_42_method_13_code (3 : Nat) (Option.some Jvm.ClassFile.FieldType.boolean)) ∈ lw_all := lw_g (lw_at lw_m6 73 rfl) rfl

/-! jdk/internal/util/Preconditions -/
set_option maxRecDepth 100000
def RJ7 : String := "jdk/internal/util/Preconditions"
abbrev cJ7_checkIndex : ByteArray := prog_59_method_11_code
def yJ7_checkIndex : MethodName := ⟨RJ7, "checkIndex", "(IILjava/util/function/BiFunction;)I"⟩
abbrev cJ7_checkFromToIndex : ByteArray := prog_59_method_12_code
def yJ7_checkFromToIndex : MethodName := ⟨RJ7, "checkFromToIndex", "(IIILjava/util/function/BiFunction;)I"⟩
theorem q183 : (Jvm.Cond.initialized "jdk/internal/util/Preconditions") ∈ lw_all := lw_g (lw_at lw_m1 21 rfl) rfl
theorem q625 : (Jvm.Cond.laysStatic "jdk/internal/util/Preconditions" "SIOOBE_FORMATTER" "Ljava/util/function/BiFunction;") ∈ lw_tbl := lw_at lw_m2 223 rfl
theorem q627 : (Jvm.Cond.static ({ cls := "jdk/internal/util/Preconditions", name := "checkIndex", desc := "(IILjava/util/function/BiFunction;)I" } : Jvm.MethodName)) ∈ lw_all := lw_g (lw_at lw_m2 225 rfl) rfl
theorem q628 : (Jvm.Cond.code ({ cls := "jdk/internal/util/Preconditions", name := "checkIndex", desc := "(IILjava/util/function/BiFunction;)I" } : Jvm.MethodName) prog_59_method_11_code (3 : Nat) (Option.some Jvm.ClassFile.FieldType.int)) ∈ lw_all := lw_g (lw_at lw_m2 226 rfl) rfl
theorem q814 : (Jvm.Cond.static ({ cls := "jdk/internal/util/Preconditions", name := "checkFromToIndex", desc := "(IIILjava/util/function/BiFunction;)I" } : Jvm.MethodName)) ∈ lw_all := lw_g (lw_at lw_m3 172 rfl) rfl
theorem q815 : (Jvm.Cond.code ({ cls := "jdk/internal/util/Preconditions", name := "checkFromToIndex", desc := "(IIILjava/util/function/BiFunction;)I" } : Jvm.MethodName) prog_59_method_12_code (4 : Nat) (Option.some Jvm.ClassFile.FieldType.int)) ∈ lw_all := lw_g (lw_at lw_m3 173 rfl) rfl

/-! java/lang/StringUTF16 -/
set_option maxRecDepth 100000
def RJ8 : String := "java/lang/StringUTF16"
abbrev cJ8_charAt : ByteArray := prog_43_method_83_code
def yJ8_charAt : MethodName := ⟨RJ8, "charAt", "([BI)C"⟩
abbrev cJ8_checkIndex : ByteArray := prog_43_method_91_code
def yJ8_checkIndex : MethodName := ⟨RJ8, "checkIndex", "(I[B)V"⟩
abbrev cJ8_length : ByteArray := prog_43_method_6_code
def yJ8_length : MethodName := ⟨RJ8, "length", "([B)I"⟩
abbrev cJ8_getChar : ByteArray := prog_43_method_5_code
def yJ8_getChar : MethodName := ⟨RJ8, "getChar", "([BI)C"⟩
abbrev cJ8_indexOf : ByteArray := prog_43_method_40_code
def yJ8_indexOf : MethodName := ⟨RJ8, "indexOf", "([BIII)I"⟩
abbrev cJ8_indexOfChar : ByteArray := prog_43_method_47_code
def yJ8_indexOfChar : MethodName := ⟨RJ8, "indexOfChar", "([BIII)I"⟩
abbrev cJ8_checkBoundsBeginEnd : ByteArray := prog_43_method_93_code
def yJ8_checkBoundsBeginEnd : MethodName := ⟨RJ8, "checkBoundsBeginEnd", "(II[B)V"⟩
abbrev cJ8_indexOfCharUnsafe : ByteArray := prog_43_method_48_code
def yJ8_indexOfCharUnsafe : MethodName := ⟨RJ8, "indexOfCharUnsafe", "([BIII)I"⟩
abbrev cJ8_indexOfSupplementary : ByteArray := prog_43_method_49_code
def yJ8_indexOfSupplementary : MethodName := ⟨RJ8, "indexOfSupplementary", "([BIII)I"⟩
theorem q184 : (Jvm.Cond.initialized "java/lang/StringUTF16") ∈ lw_all := lw_g (lw_at lw_m1 22 rfl) rfl
theorem q630 : (Jvm.Cond.static ({ cls := "java/lang/StringUTF16", name := "charAt", desc := "([BI)C" } : Jvm.MethodName)) ∈ lw_all := lw_g (lw_at lw_m2 228 rfl) rfl
theorem q631 : (Jvm.Cond.code ({ cls := "java/lang/StringUTF16", name := "charAt", desc := "([BI)C" } : Jvm.MethodName) prog_43_method_83_code (2 : Nat) (Option.some Jvm.ClassFile.FieldType.char)) ∈ lw_all := lw_g (lw_at lw_m2 229 rfl) rfl
theorem q632 : (Jvm.Cond.methodLink "java/lang/StringUTF16" (67 : Nat) ({ cls := "java/lang/StringUTF16", name := "checkIndex", desc := "(I[B)V" } : Jvm.MethodName)) ∈ lw_all := lw_g (lw_at lw_m2 230 rfl) rfl
theorem q633 : (Jvm.Cond.static ({ cls := "java/lang/StringUTF16", name := "checkIndex", desc := "(I[B)V" } : Jvm.MethodName)) ∈ lw_all := lw_g (lw_at lw_m2 231 rfl) rfl
theorem q634 : (Jvm.Cond.code ({ cls := "java/lang/StringUTF16", name := "checkIndex", desc := "(I[B)V" } : Jvm.MethodName) prog_43_method_91_code (2 : Nat) (Option.none : Option Jvm.ClassFile.FieldType)) ∈ lw_all := lw_g (lw_at lw_m2 232 rfl) rfl
theorem q635 : (Jvm.Cond.methodLink "java/lang/StringUTF16" (48 : Nat) ({ cls := "java/lang/StringUTF16", name := "length", desc := "([B)I" } : Jvm.MethodName)) ∈ lw_all := lw_g (lw_at lw_m2 233 rfl) rfl
theorem q636 : (Jvm.Cond.static ({ cls := "java/lang/StringUTF16", name := "length", desc := "([B)I" } : Jvm.MethodName)) ∈ lw_all := lw_g (lw_at lw_m2 234 rfl) rfl
theorem q637 : (Jvm.Cond.code ({ cls := "java/lang/StringUTF16", name := "length", desc := "([B)I" } : Jvm.MethodName) prog_43_method_6_code (1 : Nat) (Option.some Jvm.ClassFile.FieldType.int)) ∈ lw_all := lw_g (lw_at lw_m2 235 rfl) rfl
theorem q638 : (Jvm.Cond.methodLink "java/lang/StringUTF16" (414 : Nat) ({ cls := "java/lang/String", name := "checkIndex", desc := "(II)V" } : Jvm.MethodName)) ∈ lw_all := lw_g (lw_at lw_m2 236 rfl) rfl
theorem q639 : (Jvm.Cond.methodLink "java/lang/StringUTF16" (71 : Nat) ({ cls := "java/lang/StringUTF16", name := "getChar", desc := "([BI)C" } : Jvm.MethodName)) ∈ lw_all := lw_g (lw_at lw_m2 237 rfl) rfl
theorem q640 : (Jvm.Cond.static ({ cls := "java/lang/StringUTF16", name := "getChar", desc := "([BI)C" } : Jvm.MethodName)) ∈ lw_all := lw_g (lw_at lw_m2 238 rfl) rfl
theorem q641 : (Jvm.Cond.code ({ cls := "java/lang/StringUTF16", name := "getChar", desc := "([BI)C" } : Jvm.MethodName) prog_43_method_5_code (2 : Nat) (Option.some Jvm.ClassFile.FieldType.char)) ∈ lw_all := lw_g (lw_at lw_m2 239 rfl) rfl
theorem q642 : (Jvm.Cond.fieldLink "java/lang/StringUTF16" (44 : Nat) "java/lang/StringUTF16" "$assertionsDisabled" "Z") ∈ lw_all := lw_g (lw_at lw_m3 0 rfl) rfl
theorem q643 : (Jvm.Cond.laysStatic "java/lang/StringUTF16" "$assertionsDisabled" "Z") ∈ lw_tbl := lw_at lw_m3 1 rfl
theorem q644 : (Jvm.Cond.fieldLink "java/lang/StringUTF16" (59 : Nat) "java/lang/StringUTF16" "HI_BYTE_SHIFT" "I") ∈ lw_all := lw_g (lw_at lw_m3 2 rfl) rfl
theorem q645 : (Jvm.Cond.laysStatic "java/lang/StringUTF16" "HI_BYTE_SHIFT" "I") ∈ lw_tbl := lw_at lw_m3 3 rfl
theorem q646 : (Jvm.Cond.fieldLink "java/lang/StringUTF16" (63 : Nat) "java/lang/StringUTF16" "LO_BYTE_SHIFT" "I") ∈ lw_all := lw_g (lw_at lw_m3 4 rfl) rfl
theorem q647 : (Jvm.Cond.laysStatic "java/lang/StringUTF16" "LO_BYTE_SHIFT" "I") ∈ lw_tbl := lw_at lw_m3 5 rfl
theorem q799 : (Jvm.Cond.static ({ cls := "java/lang/StringUTF16", name := "indexOf", desc := "([BIII)I" } : Jvm.MethodName)) ∈ lw_all := lw_g (lw_at lw_m3 157 rfl) rfl
theorem q800 : (Jvm.Cond.code ({ cls := "java/lang/StringUTF16", name := "indexOf", desc := "([BIII)I" } : Jvm.MethodName) prog_43_method_40_code (4 : Nat) (Option.some Jvm.ClassFile.FieldType.int)) ∈ lw_all := lw_g (lw_at lw_m3 158 rfl) rfl
theorem q801 : (Jvm.Cond.methodLink "java/lang/StringUTF16" (224 : Nat) ({ cls := "java/lang/Math", name := "max", desc := "(II)I" } : Jvm.MethodName)) ∈ lw_all := lw_g (lw_at lw_m3 159 rfl) rfl
theorem q802 : (Jvm.Cond.methodLink "java/lang/StringUTF16" (183 : Nat) ({ cls := "java/lang/Math", name := "min", desc := "(II)I" } : Jvm.MethodName)) ∈ lw_all := lw_g (lw_at lw_m3 160 rfl) rfl
theorem q803 : (Jvm.Cond.constant "java/lang/StringUTF16" (227 : Nat) (65536 : Int32)) ∈ lw_all := lw_g (lw_at lw_m3 161 rfl) rfl
theorem q804 : (Jvm.Cond.methodLink "java/lang/StringUTF16" (228 : Nat) ({ cls := "java/lang/StringUTF16", name := "indexOfChar", desc := "([BIII)I" } : Jvm.MethodName)) ∈ lw_all := lw_g (lw_at lw_m3 162 rfl) rfl
theorem q805 : (Jvm.Cond.static ({ cls := "java/lang/StringUTF16", name := "indexOfChar", desc := "([BIII)I" } : Jvm.MethodName)) ∈ lw_all := lw_g (lw_at lw_m3 163 rfl) rfl
theorem q806 : (Jvm.Cond.code ({ cls := "java/lang/StringUTF16", name := "indexOfChar", desc := "([BIII)I" } : Jvm.MethodName) prog_43_method_47_code (4 : Nat) (Option.some Jvm.ClassFile.FieldType.int)) ∈ lw_all := lw_g (lw_at lw_m3 164 rfl) rfl
theorem q807 : (Jvm.Cond.methodLink "java/lang/StringUTF16" (96 : Nat) ({ cls := "java/lang/StringUTF16", name := "checkBoundsBeginEnd", desc := "(II[B)V" } : Jvm.MethodName)) ∈ lw_all := lw_g (lw_at lw_m3 165 rfl) rfl
theorem q808 : (Jvm.Cond.static ({ cls := "java/lang/StringUTF16", name := "checkBoundsBeginEnd", desc := "(II[B)V" } : Jvm.MethodName)) ∈ lw_all := lw_g (lw_at lw_m3 166 rfl) rfl
theorem q809 : (Jvm.Cond.code ({ cls := "java/lang/StringUTF16", name := "checkBoundsBeginEnd", desc := "(II[B)V" } : Jvm.MethodName) prog_43_method_93_code (3 : Nat) (Option.none : Option Jvm.ClassFile.FieldType)) ∈ lw_all := lw_g (lw_at lw_m3 167 rfl) rfl
theorem q810 : (Jvm.Cond.methodLink "java/lang/StringUTF16" (241 : Nat) ({ cls := "java/lang/String", name := "checkBoundsBeginEnd", desc := "(III)V" } : Jvm.MethodName)) ∈ lw_all := lw_g (lw_at lw_m3 168 rfl) rfl
theorem q816 : (Jvm.Cond.methodLink "java/lang/StringUTF16" (244 : Nat) ({ cls := "java/lang/StringUTF16", name := "indexOfCharUnsafe", desc := "([BIII)I" } : Jvm.MethodName)) ∈ lw_all := lw_g (lw_at lw_m3 174 rfl) rfl
theorem q817 : (Jvm.Cond.static ({ cls := "java/lang/StringUTF16", name := "indexOfCharUnsafe", desc := "([BIII)I" } : Jvm.MethodName)) ∈ lw_all := lw_g (lw_at lw_m3 175 rfl) rfl
theorem q818 : (Jvm.Cond.code ({ cls := "java/lang/StringUTF16", name := "indexOfCharUnsafe", desc := "([BIII)I" } : Jvm.MethodName) prog_43_method_48_code (5 : Nat) (Option.some Jvm.ClassFile.FieldType.int)) ∈ lw_all := lw_g (lw_at lw_m3 176 rfl) rfl
theorem q819 : (Jvm.Cond.methodLink "java/lang/StringUTF16" (232 : Nat) ({ cls := "java/lang/StringUTF16", name := "indexOfSupplementary", desc := "([BIII)I" } : Jvm.MethodName)) ∈ lw_all := lw_g (lw_at lw_m3 177 rfl) rfl
theorem q820 : (Jvm.Cond.static ({ cls := "java/lang/StringUTF16", name := "indexOfSupplementary", desc := "([BIII)I" } : Jvm.MethodName)) ∈ lw_all := lw_g (lw_at lw_m3 178 rfl) rfl
theorem q821 : (Jvm.Cond.code ({ cls := "java/lang/StringUTF16", name := "indexOfSupplementary", desc := "([BIII)I" } : Jvm.MethodName) prog_43_method_49_code (7 : Nat) (Option.some Jvm.ClassFile.FieldType.int)) ∈ lw_all := lw_g (lw_at lw_m3 179 rfl) rfl
theorem q822 : (Jvm.Cond.methodLink "java/lang/StringUTF16" (164 : Nat) ({ cls := "java/lang/Character", name := "isValidCodePoint", desc := "(I)Z" } : Jvm.MethodName)) ∈ lw_all := lw_g (lw_at lw_m3 180 rfl) rfl
theorem q825 : (Jvm.Cond.methodLink "java/lang/StringUTF16" (157 : Nat) ({ cls := "java/lang/Character", name := "highSurrogate", desc := "(I)C" } : Jvm.MethodName)) ∈ lw_all := lw_g (lw_at lw_m3 183 rfl) rfl
theorem q829 : (Jvm.Cond.methodLink "java/lang/StringUTF16" (161 : Nat) ({ cls := "java/lang/Character", name := "lowSurrogate", desc := "(I)C" } : Jvm.MethodName)) ∈ lw_all := lw_g (lw_at lw_m3 187 rfl) rfl

/-! java/lang/Math -/
set_option maxRecDepth 100000
def RJ9 : String := "java/lang/Math"
abbrev cJ9_max : ByteArray := prog_39_method_65_code
def yJ9_max : MethodName := ⟨RJ9, "max", "(II)I"⟩
abbrev cJ9_min : ByteArray := prog_39_method_69_code
def yJ9_min : MethodName := ⟨RJ9, "min", "(II)I"⟩
theorem q185 : (Jvm.Cond.initialized "java/lang/Math") ∈ lw_all := lw_g (lw_at lw_m1 23 rfl) rfl
theorem q790 : (Jvm.Cond.static ({ cls := "java/lang/Math", name := "max", desc := "(II)I" } : Jvm.MethodName)) ∈ lw_all := lw_g (lw_at lw_m3 148 rfl) rfl
theorem q791 : (Jvm.Cond.code ({ cls := "java/lang/Math", name := "max", desc := "(II)I" } : Jvm.MethodName) prog_39_method_65_code (2 : Nat) (Option.some Jvm.ClassFile.FieldType.int)) ∈ lw_all := lw_g (lw_at lw_m3 149 rfl) rfl
theorem q793 : (Jvm.Cond.static ({ cls := "java/lang/Math", name := "min", desc := "(II)I" } : Jvm.MethodName)) ∈ lw_all := lw_g (lw_at lw_m3 151 rfl) rfl
theorem q794 : (Jvm.Cond.code ({ cls := "java/lang/Math", name := "min", desc := "(II)I" } : Jvm.MethodName) prog_39_method_69_code (2 : Nat) (Option.some Jvm.ClassFile.FieldType.int)) ∈ lw_all := lw_g (lw_at lw_m3 152 rfl) rfl

/-! java/lang/Character -/
set_option maxRecDepth 100000
def RJ10 : String := "java/lang/Character"
abbrev cJ10_isValidCodePoint : ByteArray := prog_31_method_11_code
def yJ10_isValidCodePoint : MethodName := ⟨RJ10, "isValidCodePoint", "(I)Z"⟩
abbrev cJ10_highSurrogate : ByteArray := prog_31_method_28_code
def yJ10_highSurrogate : MethodName := ⟨RJ10, "highSurrogate", "(I)C"⟩
abbrev cJ10_lowSurrogate : ByteArray := prog_31_method_29_code
def yJ10_lowSurrogate : MethodName := ⟨RJ10, "lowSurrogate", "(I)C"⟩
theorem q186 : (Jvm.Cond.initialized "java/lang/Character") ∈ lw_all := lw_g (lw_at lw_m1 24 rfl) rfl
theorem q823 : (Jvm.Cond.static ({ cls := "java/lang/Character", name := "isValidCodePoint", desc := "(I)Z" } : Jvm.MethodName)) ∈ lw_all := lw_g (lw_at lw_m3 181 rfl) rfl
theorem q824 : (Jvm.Cond.code ({ cls := "java/lang/Character", name := "isValidCodePoint", desc := "(I)Z" } : Jvm.MethodName) prog_31_method_11_code (2 : Nat) (Option.some Jvm.ClassFile.FieldType.boolean)) ∈ lw_all := lw_g (lw_at lw_m3 182 rfl) rfl
theorem q826 : (Jvm.Cond.static ({ cls := "java/lang/Character", name := "highSurrogate", desc := "(I)C" } : Jvm.MethodName)) ∈ lw_all := lw_g (lw_at lw_m3 184 rfl) rfl
theorem q827 : (Jvm.Cond.code ({ cls := "java/lang/Character", name := "highSurrogate", desc := "(I)C" } : Jvm.MethodName) prog_31_method_28_code (1 : Nat) (Option.some Jvm.ClassFile.FieldType.char)) ∈ lw_all := lw_g (lw_at lw_m3 185 rfl) rfl
theorem q828 : (Jvm.Cond.constant "java/lang/Character" (110 : Nat) (55232 : Int32)) ∈ lw_all := lw_g (lw_at lw_m3 186 rfl) rfl
theorem q830 : (Jvm.Cond.static ({ cls := "java/lang/Character", name := "lowSurrogate", desc := "(I)C" } : Jvm.MethodName)) ∈ lw_all := lw_g (lw_at lw_m3 188 rfl) rfl
theorem q831 : (Jvm.Cond.code ({ cls := "java/lang/Character", name := "lowSurrogate", desc := "(I)C" } : Jvm.MethodName) prog_31_method_29_code (1 : Nat) (Option.some Jvm.ClassFile.FieldType.char)) ∈ lw_all := lw_g (lw_at lw_m3 189 rfl) rfl
theorem q832 : (Jvm.Cond.constant "java/lang/Character" (76 : Nat) (56320 : Int32)) ∈ lw_all := lw_g (lw_at lw_m3 190 rfl) rfl

/-! java/util/AbstractCollection -/
set_option maxRecDepth 100000
def RJ11 : String := "java/util/AbstractCollection"
abbrev cJ11_init : ByteArray := prog_49_method_1_code
def yJ11_init : MethodName := ⟨RJ11, "<init>", "()V"⟩
theorem q190 : (Jvm.Cond.initialized "java/util/AbstractCollection") ∈ lw_all := lw_g (lw_at lw_m1 28 rfl) rfl
theorem q1039 : (Jvm.Cond.instanceMethod ({ cls := "java/util/AbstractCollection", name := "<init>", desc := "()V" } : Jvm.MethodName)) ∈ lw_all := lw_g (lw_at lw_m4 157 rfl) rfl
theorem q1040 : (Jvm.Cond.code ({ cls := "java/util/AbstractCollection", name := "<init>", desc := "()V" } : Jvm.MethodName) prog_49_method_1_code (1 : Nat) (Option.none : Option Jvm.ClassFile.FieldType)) ∈ lw_all := lw_g (lw_at lw_m4 158 rfl) rfl
theorem q1041 : (Jvm.Cond.methodLink "java/util/AbstractCollection" (1 : Nat) ({ cls := "java/lang/Object", name := "<init>", desc := "()V" } : Jvm.MethodName)) ∈ lw_all := lw_g (lw_at lw_m4 159 rfl) rfl

/-! java/util/AbstractList -/
set_option maxRecDepth 100000
def RJ12 : String := "java/util/AbstractList"
abbrev cJ12_init : ByteArray := prog_50_method_1_code
def yJ12_init : MethodName := ⟨RJ12, "<init>", "()V"⟩
theorem q191 : (Jvm.Cond.initialized "java/util/AbstractList") ∈ lw_all := lw_g (lw_at lw_m1 29 rfl) rfl
theorem q1036 : (Jvm.Cond.instanceMethod ({ cls := "java/util/AbstractList", name := "<init>", desc := "()V" } : Jvm.MethodName)) ∈ lw_all := lw_g (lw_at lw_m4 154 rfl) rfl
theorem q1037 : (Jvm.Cond.code ({ cls := "java/util/AbstractList", name := "<init>", desc := "()V" } : Jvm.MethodName) prog_50_method_1_code (1 : Nat) (Option.none : Option Jvm.ClassFile.FieldType)) ∈ lw_all := lw_g (lw_at lw_m4 155 rfl) rfl
theorem q1038 : (Jvm.Cond.methodLink "java/util/AbstractList" (1 : Nat) ({ cls := "java/util/AbstractCollection", name := "<init>", desc := "()V" } : Jvm.MethodName)) ∈ lw_all := lw_g (lw_at lw_m4 156 rfl) rfl
theorem q1046 : (Jvm.Cond.fieldLink "java/util/AbstractList" (7 : Nat) "java/util/AbstractList" "modCount" "I") ∈ lw_all := lw_g (lw_at lw_m4 164 rfl) rfl
theorem q1054 : (Jvm.Cond.soleField "java/util/AbstractList" "modCount") ∈ lw_all := lw_g (lw_at lw_m4 172 rfl) rfl

/-! java/util/ArrayList -/
set_option maxRecDepth 100000
def RJ13 : String := "java/util/ArrayList"
def TJ13 : u_T := fun k => match k with
  | 0 => ("java/util/AbstractList", "modCount", "I", false)
  | 1 => ("java/util/ArrayList", "elementData", "[Ljava/lang/Object;", false)
  | _ => ("java/util/ArrayList", "size", "I", false)
def tyJ13 : Nat → FieldType := fun k => match k with
  | 0 => .int
  | 1 => .array (.object "java/lang/Object")
  | _ => .int
abbrev wsJ130 : List Cond := u_ws RJ13 TJ13 3
theorem nmJ13 : ∀ a, a < 3 → ∀ b, b < 3 → a ≠ b → (TJ13 a).2.1 ≠ (TJ13 b).2.1 := by decide +kernel
theorem tyJ13_ok : ∀ k, k < 3 → parseFieldDescriptor (TJ13 k).2.2.1 = some (tyJ13 k) := by decide +kernel
abbrev cJ13_init : ByteArray := prog_51_method_2_code
def yJ13_init : MethodName := ⟨RJ13, "<init>", "()V"⟩
abbrev cJ13_add : ByteArray := prog_51_method_25_code
def yJ13_add : MethodName := ⟨RJ13, "add", "(Ljava/lang/Object;)Z"⟩
abbrev cJ13_add_2 : ByteArray := prog_51_method_24_code
def yJ13_add_2 : MethodName := ⟨RJ13, "add", "(Ljava/lang/Object;[Ljava/lang/Object;I)V"⟩
abbrev cJ13_grow : ByteArray := prog_51_method_7_code
def yJ13_grow : MethodName := ⟨RJ13, "grow", "()[Ljava/lang/Object;"⟩
abbrev cJ13_grow_2 : ByteArray := prog_51_method_6_code
def yJ13_grow_2 : MethodName := ⟨RJ13, "grow", "(I)[Ljava/lang/Object;"⟩
abbrev cJ13_get : ByteArray := prog_51_method_20_code
def yJ13_get : MethodName := ⟨RJ13, "get", "(I)Ljava/lang/Object;"⟩
abbrev cJ13_elementData : ByteArray := prog_51_method_18_code
def yJ13_elementData : MethodName := ⟨RJ13, "elementData", "(I)Ljava/lang/Object;"⟩
abbrev cJ13_size : ByteArray := prog_51_method_8_code
def yJ13_size : MethodName := ⟨RJ13, "size", "()I"⟩
abbrev cJ13_isEmpty : ByteArray := prog_51_method_9_code
def yJ13_isEmpty : MethodName := ⟨RJ13, "isEmpty", "()Z"⟩
abbrev cJ13_contains : ByteArray := prog_51_method_10_code
def yJ13_contains : MethodName := ⟨RJ13, "contains", "(Ljava/lang/Object;)Z"⟩
abbrev cJ13_indexOf : ByteArray := prog_51_method_11_code
def yJ13_indexOf : MethodName := ⟨RJ13, "indexOf", "(Ljava/lang/Object;)I"⟩
abbrev cJ13_indexOfRange : ByteArray := prog_51_method_12_code
def yJ13_indexOfRange : MethodName := ⟨RJ13, "indexOfRange", "(Ljava/lang/Object;II)I"⟩
theorem q192 : (Jvm.Cond.initialized "java/util/ArrayList") ∈ lw_all := lw_g (lw_at lw_m1 30 rfl) rfl
theorem q1031 : (Jvm.Cond.instantiable "java/util/ArrayList" (3 : Nat)) ∈ lw_all := lw_g (lw_at lw_m4 149 rfl) rfl
theorem q1033 : (Jvm.Cond.instanceMethod ({ cls := "java/util/ArrayList", name := "<init>", desc := "()V" } : Jvm.MethodName)) ∈ lw_all := lw_g (lw_at lw_m4 151 rfl) rfl
theorem q1034 : (Jvm.Cond.code ({ cls := "java/util/ArrayList", name := "<init>", desc := "()V" } : Jvm.MethodName) prog_51_method_2_code (1 : Nat) (Option.none : Option Jvm.ClassFile.FieldType)) ∈ lw_all := lw_g (lw_at lw_m4 152 rfl) rfl
theorem q1035 : (Jvm.Cond.methodLink "java/util/ArrayList" (1 : Nat) ({ cls := "java/util/AbstractList", name := "<init>", desc := "()V" } : Jvm.MethodName)) ∈ lw_all := lw_g (lw_at lw_m4 153 rfl) rfl
theorem q1042 : (Jvm.Cond.fieldLink "java/util/ArrayList" (39 : Nat) "java/util/ArrayList" "DEFAULTCAPACITY_EMPTY_ELEMENTDATA" "[Ljava/lang/Object;") ∈ lw_all := lw_g (lw_at lw_m4 160 rfl) rfl
theorem q1043 : (Jvm.Cond.laysStatic "java/util/ArrayList" "DEFAULTCAPACITY_EMPTY_ELEMENTDATA" "[Ljava/lang/Object;") ∈ lw_tbl := lw_at lw_m4 161 rfl
theorem q1044 : (Jvm.Cond.fieldLink "java/util/ArrayList" (9 : Nat) "java/util/ArrayList" "elementData" "[Ljava/lang/Object;") ∈ lw_all := lw_g (lw_at lw_m4 162 rfl) rfl
theorem q1045 : (Jvm.Cond.fieldLink "java/util/ArrayList" (48 : Nat) "java/util/ArrayList" "size" "I") ∈ lw_all := lw_g (lw_at lw_m4 163 rfl) rfl
theorem q1047 : (Jvm.Cond.fieldLink "java/util/ArrayList" (63 : Nat) "java/util/ArrayList" "modCount" "I") ∈ lw_all := lw_g (lw_at lw_m4 165 rfl) rfl
theorem q1048 : (Jvm.Cond.sameField "java/util/ArrayList" "java/util/AbstractList" "modCount" "I") ∈ lw_all := lw_g (lw_at lw_m4 166 rfl) rfl
theorem q1049 : (Jvm.Cond.lays "java/util/ArrayList" "java/util/ArrayList" "elementData" "[Ljava/lang/Object;") ∈ lw_all := lw_g (lw_at lw_m4 167 rfl) rfl
theorem q1050 : (Jvm.Cond.soleField "java/util/ArrayList" "elementData") ∈ lw_all := lw_g (lw_at lw_m4 168 rfl) rfl
theorem q1051 : (Jvm.Cond.lays "java/util/ArrayList" "java/util/ArrayList" "size" "I") ∈ lw_all := lw_g (lw_at lw_m4 169 rfl) rfl
theorem q1052 : (Jvm.Cond.soleField "java/util/ArrayList" "size") ∈ lw_all := lw_g (lw_at lw_m4 170 rfl) rfl
theorem q1053 : (Jvm.Cond.lays "java/util/ArrayList" "java/util/AbstractList" "modCount" "I") ∈ lw_all := lw_g (lw_at lw_m4 171 rfl) rfl
theorem q1055 : (Jvm.Cond.superclass "java/util/ArrayList" "java/util/AbstractList") ∈ lw_all := lw_g (lw_at lw_m4 173 rfl) rfl
theorem q1194 : (Jvm.Cond.instanceMethod ({ cls := "java/util/ArrayList", name := "add", desc := "(Ljava/lang/Object;)Z" } : Jvm.MethodName)) ∈ lw_all := lw_g (lw_at lw_m5 72 rfl) rfl
theorem q1195 : (Jvm.Cond.selects "java/util/ArrayList" ({ cls := "java/util/ArrayList", name := "add", desc := "(Ljava/lang/Object;)Z" } : Jvm.MethodName) ({ cls := "java/util/ArrayList", name := "add", desc := "(Ljava/lang/Object;)Z" } : Jvm.MethodName)) ∈ lw_all := lw_g (lw_at lw_m5 73 rfl) rfl
theorem q1196 : (Jvm.Cond.code ({ cls := "java/util/ArrayList", name := "add", desc := "(Ljava/lang/Object;)Z" } : Jvm.MethodName) prog_51_method_25_code (2 : Nat) (Option.some Jvm.ClassFile.FieldType.boolean)) ∈ lw_all := lw_g (lw_at lw_m5 74 rfl) rfl
theorem q1197 : (Jvm.Cond.methodLink "java/util/ArrayList" (131 : Nat) ({ cls := "java/util/ArrayList", name := "add", desc := "(Ljava/lang/Object;[Ljava/lang/Object;I)V" } : Jvm.MethodName)) ∈ lw_all := lw_g (lw_at lw_m5 75 rfl) rfl
theorem q1198 : (Jvm.Cond.privateMethod ({ cls := "java/util/ArrayList", name := "add", desc := "(Ljava/lang/Object;[Ljava/lang/Object;I)V" } : Jvm.MethodName)) ∈ lw_tbl := lw_at lw_m5 76 rfl
theorem q1199 : (Jvm.Cond.instanceMethod ({ cls := "java/util/ArrayList", name := "add", desc := "(Ljava/lang/Object;[Ljava/lang/Object;I)V" } : Jvm.MethodName)) ∈ lw_all := lw_g (lw_at lw_m5 77 rfl) rfl
theorem q1200 : (Jvm.Cond.code ({ cls := "java/util/ArrayList", name := "add", desc := "(Ljava/lang/Object;[Ljava/lang/Object;I)V" } : Jvm.MethodName) prog_51_method_24_code (4 : Nat) (Option.none : Option Jvm.ClassFile.FieldType)) ∈ lw_all := lw_g (lw_at lw_m5 78 rfl) rfl
theorem q1201 : (Jvm.Cond.methodLink "java/util/ArrayList" (129 : Nat) ({ cls := "java/util/ArrayList", name := "grow", desc := "()[Ljava/lang/Object;" } : Jvm.MethodName)) ∈ lw_all := lw_g (lw_at lw_m5 79 rfl) rfl
theorem q1202 : (Jvm.Cond.privateMethod ({ cls := "java/util/ArrayList", name := "grow", desc := "()[Ljava/lang/Object;" } : Jvm.MethodName)) ∈ lw_tbl := lw_at lw_m5 80 rfl
theorem q1203 : (Jvm.Cond.instanceMethod ({ cls := "java/util/ArrayList", name := "grow", desc := "()[Ljava/lang/Object;" } : Jvm.MethodName)) ∈ lw_all := lw_g (lw_at lw_m5 81 rfl) rfl
theorem q1204 : (Jvm.Cond.code ({ cls := "java/util/ArrayList", name := "grow", desc := "()[Ljava/lang/Object;" } : Jvm.MethodName) prog_51_method_7_code (1 : Nat) (Option.some (Jvm.ClassFile.FieldType.array (Jvm.ClassFile.FieldType.object "java/lang/Object")))) ∈ lw_all := lw_g (lw_at lw_m5 82 rfl) rfl
theorem q1205 : (Jvm.Cond.methodLink "java/util/ArrayList" (69 : Nat) ({ cls := "java/util/ArrayList", name := "grow", desc := "(I)[Ljava/lang/Object;" } : Jvm.MethodName)) ∈ lw_all := lw_g (lw_at lw_m5 83 rfl) rfl
theorem q1206 : (Jvm.Cond.privateMethod ({ cls := "java/util/ArrayList", name := "grow", desc := "(I)[Ljava/lang/Object;" } : Jvm.MethodName)) ∈ lw_tbl := lw_at lw_m5 84 rfl
theorem q1207 : (Jvm.Cond.instanceMethod ({ cls := "java/util/ArrayList", name := "grow", desc := "(I)[Ljava/lang/Object;" } : Jvm.MethodName)) ∈ lw_all := lw_g (lw_at lw_m5 85 rfl) rfl
theorem q1208 : (Jvm.Cond.code ({ cls := "java/util/ArrayList", name := "grow", desc := "(I)[Ljava/lang/Object;" } : Jvm.MethodName) prog_51_method_6_code (4 : Nat) (Option.some (Jvm.ClassFile.FieldType.array (Jvm.ClassFile.FieldType.object "java/lang/Object")))) ∈ lw_all := lw_g (lw_at lw_m5 86 rfl) rfl
theorem q1209 : (Jvm.Cond.methodLink "java/util/ArrayList" (73 : Nat) ({ cls := "jdk/internal/util/ArraysSupport", name := "newLength", desc := "(III)I" } : Jvm.MethodName)) ∈ lw_all := lw_g (lw_at lw_m5 87 rfl) rfl
theorem q1217 : (Jvm.Cond.methodLink "java/util/ArrayList" (66 : Nat) ({ cls := "java/util/Arrays", name := "copyOf", desc := "([Ljava/lang/Object;I)[Ljava/lang/Object;" } : Jvm.MethodName)) ∈ lw_all := lw_g (lw_at lw_m5 95 rfl) rfl
theorem q1252 : (Jvm.Cond.selects "java/util/ArrayList" ({ cls := "java/lang/Object", name := "getClass", desc := "()Ljava/lang/Class;" } : Jvm.MethodName) ({ cls := "java/lang/Object", name := "getClass", desc := "()Ljava/lang/Class;" } : Jvm.MethodName)) ∈ lw_all := lw_g (lw_at lw_m5 130 rfl) rfl
theorem q1262 : (Jvm.Cond.methodLink "java/util/ArrayList" (79 : Nat) ({ cls := "java/lang/Math", name := "max", desc := "(II)I" } : Jvm.MethodName)) ∈ lw_all := lw_g (lw_at lw_m5 140 rfl) rfl
theorem q1263 : (Jvm.Cond.classLink "java/util/ArrayList" (7 : Nat) "java/lang/Object") ∈ lw_all := lw_g (lw_at lw_m5 141 rfl) rfl
theorem q1267 : (Jvm.Cond.instanceMethod ({ cls := "java/util/ArrayList", name := "get", desc := "(I)Ljava/lang/Object;" } : Jvm.MethodName)) ∈ lw_all := lw_g (lw_at lw_m5 145 rfl) rfl
theorem q1268 : (Jvm.Cond.selects "java/util/ArrayList" ({ cls := "java/util/ArrayList", name := "get", desc := "(I)Ljava/lang/Object;" } : Jvm.MethodName) ({ cls := "java/util/ArrayList", name := "get", desc := "(I)Ljava/lang/Object;" } : Jvm.MethodName)) ∈ lw_all := lw_g (lw_at lw_m5 146 rfl) rfl
theorem q1269 : (Jvm.Cond.code ({ cls := "java/util/ArrayList", name := "get", desc := "(I)Ljava/lang/Object;" } : Jvm.MethodName) prog_51_method_20_code (2 : Nat) (Option.some (Jvm.ClassFile.FieldType.object "java/lang/Object"))) ∈ lw_all := lw_g (lw_at lw_m5 147 rfl) rfl
theorem q1270 : (Jvm.Cond.methodLink "java/util/ArrayList" (118 : Nat) ({ cls := "java/util/Objects", name := "checkIndex", desc := "(II)I" } : Jvm.MethodName)) ∈ lw_all := lw_g (lw_at lw_m5 148 rfl) rfl
theorem q1274 : (Jvm.Cond.methodLink "java/util/ArrayList" (123 : Nat) ({ cls := "java/util/ArrayList", name := "elementData", desc := "(I)Ljava/lang/Object;" } : Jvm.MethodName)) ∈ lw_all := lw_g (lw_at lw_m5 152 rfl) rfl
theorem q1275 : (Jvm.Cond.instanceMethod ({ cls := "java/util/ArrayList", name := "elementData", desc := "(I)Ljava/lang/Object;" } : Jvm.MethodName)) ∈ lw_all := lw_g (lw_at lw_m5 153 rfl) rfl
theorem q1276 : (Jvm.Cond.selects "java/util/ArrayList" ({ cls := "java/util/ArrayList", name := "elementData", desc := "(I)Ljava/lang/Object;" } : Jvm.MethodName) ({ cls := "java/util/ArrayList", name := "elementData", desc := "(I)Ljava/lang/Object;" } : Jvm.MethodName)) ∈ lw_all := lw_g (lw_at lw_m5 154 rfl) rfl
theorem q1277 : (Jvm.Cond.code ({ cls := "java/util/ArrayList", name := "elementData", desc := "(I)Ljava/lang/Object;" } : Jvm.MethodName) prog_51_method_18_code (2 : Nat) (Option.some (Jvm.ClassFile.FieldType.object "java/lang/Object"))) ∈ lw_all := lw_g (lw_at lw_m5 155 rfl) rfl
theorem q1358 : (Jvm.Cond.instanceMethod ({ cls := "java/util/ArrayList", name := "size", desc := "()I" } : Jvm.MethodName)) ∈ lw_all := lw_g (lw_at lw_m5 236 rfl) rfl
theorem q1359 : (Jvm.Cond.selects "java/util/ArrayList" ({ cls := "java/util/ArrayList", name := "size", desc := "()I" } : Jvm.MethodName) ({ cls := "java/util/ArrayList", name := "size", desc := "()I" } : Jvm.MethodName)) ∈ lw_all := lw_g (lw_at lw_m5 237 rfl) rfl
theorem q1360 : (Jvm.Cond.code ({ cls := "java/util/ArrayList", name := "size", desc := "()I" } : Jvm.MethodName) prog_51_method_8_code (1 : Nat) (Option.some Jvm.ClassFile.FieldType.int)) ∈ lw_all := lw_g (lw_at lw_m5 238 rfl) rfl
theorem q1378 : (Jvm.Cond.instanceMethod ({ cls := "java/util/ArrayList", name := "isEmpty", desc := "()Z" } : Jvm.MethodName)) ∈ lw_all := lw_g (lw_at lw_m6 16 rfl) rfl
theorem q1379 : (Jvm.Cond.selects "java/util/ArrayList" ({ cls := "java/util/ArrayList", name := "isEmpty", desc := "()Z" } : Jvm.MethodName) ({ cls := "java/util/ArrayList", name := "isEmpty", desc := "()Z" } : Jvm.MethodName)) ∈ lw_all := lw_g (lw_at lw_m6 17 rfl) rfl
theorem q1380 : (Jvm.Cond.code ({ cls := "java/util/ArrayList", name := "isEmpty", desc := "()Z" } : Jvm.MethodName) prog_51_method_9_code (1 : Nat) (Option.some Jvm.ClassFile.FieldType.boolean)) ∈ lw_all := lw_g (lw_at lw_m6 18 rfl) rfl
theorem q1386 : (Jvm.Cond.instanceMethod ({ cls := "java/util/ArrayList", name := "contains", desc := "(Ljava/lang/Object;)Z" } : Jvm.MethodName)) ∈ lw_all := lw_g (lw_at lw_m6 24 rfl) rfl
theorem q1387 : (Jvm.Cond.selects "java/util/ArrayList" ({ cls := "java/util/ArrayList", name := "contains", desc := "(Ljava/lang/Object;)Z" } : Jvm.MethodName) ({ cls := "java/util/ArrayList", name := "contains", desc := "(Ljava/lang/Object;)Z" } : Jvm.MethodName)) ∈ lw_all := lw_g (lw_at lw_m6 25 rfl) rfl
theorem q1388 : (Jvm.Cond.code ({ cls := "java/util/ArrayList", name := "contains", desc := "(Ljava/lang/Object;)Z" } : Jvm.MethodName) prog_51_method_10_code (2 : Nat) (Option.some Jvm.ClassFile.FieldType.boolean)) ∈ lw_all := lw_g (lw_at lw_m6 26 rfl) rfl
theorem q1389 : (Jvm.Cond.methodLink "java/util/ArrayList" (85 : Nat) ({ cls := "java/util/ArrayList", name := "indexOf", desc := "(Ljava/lang/Object;)I" } : Jvm.MethodName)) ∈ lw_all := lw_g (lw_at lw_m6 27 rfl) rfl
theorem q1390 : (Jvm.Cond.instanceMethod ({ cls := "java/util/ArrayList", name := "indexOf", desc := "(Ljava/lang/Object;)I" } : Jvm.MethodName)) ∈ lw_all := lw_g (lw_at lw_m6 28 rfl) rfl
theorem q1391 : (Jvm.Cond.selects "java/util/ArrayList" ({ cls := "java/util/ArrayList", name := "indexOf", desc := "(Ljava/lang/Object;)I" } : Jvm.MethodName) ({ cls := "java/util/ArrayList", name := "indexOf", desc := "(Ljava/lang/Object;)I" } : Jvm.MethodName)) ∈ lw_all := lw_g (lw_at lw_m6 29 rfl) rfl
theorem q1392 : (Jvm.Cond.code ({ cls := "java/util/ArrayList", name := "indexOf", desc := "(Ljava/lang/Object;)I" } : Jvm.MethodName) prog_51_method_11_code (2 : Nat) (Option.some Jvm.ClassFile.FieldType.int)) ∈ lw_all := lw_g (lw_at lw_m6 30 rfl) rfl
theorem q1393 : (Jvm.Cond.methodLink "java/util/ArrayList" (89 : Nat) ({ cls := "java/util/ArrayList", name := "indexOfRange", desc := "(Ljava/lang/Object;II)I" } : Jvm.MethodName)) ∈ lw_all := lw_g (lw_at lw_m6 31 rfl) rfl
theorem q1394 : (Jvm.Cond.instanceMethod ({ cls := "java/util/ArrayList", name := "indexOfRange", desc := "(Ljava/lang/Object;II)I" } : Jvm.MethodName)) ∈ lw_all := lw_g (lw_at lw_m6 32 rfl) rfl
theorem q1395 : (Jvm.Cond.selects "java/util/ArrayList" ({ cls := "java/util/ArrayList", name := "indexOfRange", desc := "(Ljava/lang/Object;II)I" } : Jvm.MethodName) ({ cls := "java/util/ArrayList", name := "indexOfRange", desc := "(Ljava/lang/Object;II)I" } : Jvm.MethodName)) ∈ lw_all := lw_g (lw_at lw_m6 33 rfl) rfl
theorem q1396 : (Jvm.Cond.code ({ cls := "java/util/ArrayList", name := "indexOfRange", desc := "(Ljava/lang/Object;II)I" } : Jvm.MethodName) prog_51_method_12_code (6 : Nat) (Option.some Jvm.ClassFile.FieldType.int)) ∈ lw_all := lw_g (lw_at lw_m6 34 rfl) rfl
theorem q1398 : (Jvm.Cond.methodLink "java/util/ArrayList" (93 : Nat) ({ cls := "java/lang/Object", name := "equals", desc := "(Ljava/lang/Object;)Z" } : Jvm.MethodName)) ∈ lw_all := lw_g (lw_at lw_m6 36 rfl) rfl
theorem q3506 : (Jvm.Cond.castable "java/util/ArrayList" "java/lang/Object") ∈ lw_tbl := lw_at lw_m14 224 rfl
theorem in_J13 : ∀ w ∈ wsJ130, w ∈ lw_all := lw_in wsJ130 [1053, 1049, 1051] (by decide +kernel) (by decide +kernel)

/-! jdk/internal/util/ArraysSupport -/
set_option maxRecDepth 100000
def RJ14 : String := "jdk/internal/util/ArraysSupport"
abbrev cJ14_newLength : ByteArray := prog_58_method_27_code
def yJ14_newLength : MethodName := ⟨RJ14, "newLength", "(III)I"⟩
abbrev cJ14_hugeLength : ByteArray := prog_58_method_28_code
def yJ14_hugeLength : MethodName := ⟨RJ14, "hugeLength", "(II)I"⟩
theorem q194 : (Jvm.Cond.initialized "jdk/internal/util/ArraysSupport") ∈ lw_all := lw_g (lw_at lw_m1 32 rfl) rfl
theorem q1210 : (Jvm.Cond.static ({ cls := "jdk/internal/util/ArraysSupport", name := "newLength", desc := "(III)I" } : Jvm.MethodName)) ∈ lw_all := lw_g (lw_at lw_m5 88 rfl) rfl
theorem q1211 : (Jvm.Cond.code ({ cls := "jdk/internal/util/ArraysSupport", name := "newLength", desc := "(III)I" } : Jvm.MethodName) prog_58_method_27_code (4 : Nat) (Option.some Jvm.ClassFile.FieldType.int)) ∈ lw_all := lw_g (lw_at lw_m5 89 rfl) rfl
theorem q1212 : (Jvm.Cond.methodLink "jdk/internal/util/ArraysSupport" (194 : Nat) ({ cls := "java/lang/Math", name := "max", desc := "(II)I" } : Jvm.MethodName)) ∈ lw_all := lw_g (lw_at lw_m5 90 rfl) rfl
theorem q1213 : (Jvm.Cond.constant "jdk/internal/util/ArraysSupport" (200 : Nat) (2147483639 : Int32)) ∈ lw_all := lw_g (lw_at lw_m5 91 rfl) rfl
theorem q1214 : (Jvm.Cond.methodLink "jdk/internal/util/ArraysSupport" (201 : Nat) ({ cls := "jdk/internal/util/ArraysSupport", name := "hugeLength", desc := "(II)I" } : Jvm.MethodName)) ∈ lw_all := lw_g (lw_at lw_m5 92 rfl) rfl
theorem q1215 : (Jvm.Cond.static ({ cls := "jdk/internal/util/ArraysSupport", name := "hugeLength", desc := "(II)I" } : Jvm.MethodName)) ∈ lw_all := lw_g (lw_at lw_m5 93 rfl) rfl
theorem q1216 : (Jvm.Cond.code ({ cls := "jdk/internal/util/ArraysSupport", name := "hugeLength", desc := "(II)I" } : Jvm.MethodName) prog_58_method_28_code (3 : Nat) (Option.some Jvm.ClassFile.FieldType.int)) ∈ lw_all := lw_g (lw_at lw_m5 94 rfl) rfl

/-! java/util/Arrays -/
set_option maxRecDepth 100000
def RJ15 : String := "java/util/Arrays"
abbrev cJ15_copyOf : ByteArray := prog_52_method_119_code
def yJ15_copyOf : MethodName := ⟨RJ15, "copyOf", "([Ljava/lang/Object;I)[Ljava/lang/Object;"⟩
abbrev cJ15_copyOf_2 : ByteArray := prog_52_method_120_code
def yJ15_copyOf_2 : MethodName := ⟨RJ15, "copyOf", "([Ljava/lang/Object;ILjava/lang/Class;)[Ljava/lang/Object;"⟩
theorem q195 : (Jvm.Cond.initialized "java/util/Arrays") ∈ lw_all := lw_g (lw_at lw_m1 33 rfl) rfl
theorem q1218 : (Jvm.Cond.static ({ cls := "java/util/Arrays", name := "copyOf", desc := "([Ljava/lang/Object;I)[Ljava/lang/Object;" } : Jvm.MethodName)) ∈ lw_all := lw_g (lw_at lw_m5 96 rfl) rfl
theorem q1219 : (Jvm.Cond.code ({ cls := "java/util/Arrays", name := "copyOf", desc := "([Ljava/lang/Object;I)[Ljava/lang/Object;" } : Jvm.MethodName) prog_52_method_119_code (2 : Nat) (Option.some (Jvm.ClassFile.FieldType.array (Jvm.ClassFile.FieldType.object "java/lang/Object")))) ∈ lw_all := lw_g (lw_at lw_m5 97 rfl) rfl
theorem q1220 : (Jvm.Cond.methodLink "java/util/Arrays" (86 : Nat) ({ cls := "java/lang/Object", name := "getClass", desc := "()Ljava/lang/Class;" } : Jvm.MethodName)) ∈ lw_all := lw_g (lw_at lw_m5 98 rfl) rfl
theorem q1254 : (Jvm.Cond.methodLink "java/util/Arrays" (300 : Nat) ({ cls := "java/util/Arrays", name := "copyOf", desc := "([Ljava/lang/Object;ILjava/lang/Class;)[Ljava/lang/Object;" } : Jvm.MethodName)) ∈ lw_all := lw_g (lw_at lw_m5 132 rfl) rfl
theorem q1255 : (Jvm.Cond.static ({ cls := "java/util/Arrays", name := "copyOf", desc := "([Ljava/lang/Object;ILjava/lang/Class;)[Ljava/lang/Object;" } : Jvm.MethodName)) ∈ lw_all := lw_g (lw_at lw_m5 133 rfl) rfl
theorem q1256 : (Jvm.Cond.code ({ cls := "java/util/Arrays", name := "copyOf", desc := "([Ljava/lang/Object;ILjava/lang/Class;)[Ljava/lang/Object;" } : Jvm.MethodName) prog_52_method_120_code (4 : Nat) (Option.some (Jvm.ClassFile.FieldType.array (Jvm.ClassFile.FieldType.object "java/lang/Object")))) ∈ lw_all := lw_g (lw_at lw_m5 134 rfl) rfl
theorem q1257 : (Jvm.Cond.classLink "java/util/Arrays" (110 : Nat) "[Ljava/lang/Object;") ∈ lw_all := lw_g (lw_at lw_m5 135 rfl) rfl
theorem q1259 : (Jvm.Cond.classLink "java/util/Arrays" (2 : Nat) "java/lang/Object") ∈ lw_all := lw_g (lw_at lw_m5 137 rfl) rfl
theorem q1260 : (Jvm.Cond.methodLink "java/util/Arrays" (304 : Nat) ({ cls := "java/lang/Math", name := "min", desc := "(II)I" } : Jvm.MethodName)) ∈ lw_all := lw_g (lw_at lw_m5 138 rfl) rfl
theorem q1261 : (Jvm.Cond.methodLink "java/util/Arrays" (150 : Nat) ({ cls := "java/lang/System", name := "arraycopy", desc := "(Ljava/lang/Object;ILjava/lang/Object;II)V" } : Jvm.MethodName)) ∈ lw_all := lw_g (lw_at lw_m5 139 rfl) rfl

/-! java/util/Objects -/
set_option maxRecDepth 100000
def RJ16 : String := "java/util/Objects"
abbrev cJ16_checkIndex : ByteArray := prog_55_method_17_code
def yJ16_checkIndex : MethodName := ⟨RJ16, "checkIndex", "(II)I"⟩
theorem q196 : (Jvm.Cond.initialized "java/util/Objects") ∈ lw_all := lw_g (lw_at lw_m1 34 rfl) rfl
theorem q1271 : (Jvm.Cond.static ({ cls := "java/util/Objects", name := "checkIndex", desc := "(II)I" } : Jvm.MethodName)) ∈ lw_all := lw_g (lw_at lw_m5 149 rfl) rfl
theorem q1272 : (Jvm.Cond.code ({ cls := "java/util/Objects", name := "checkIndex", desc := "(II)I" } : Jvm.MethodName) prog_55_method_17_code (2 : Nat) (Option.some Jvm.ClassFile.FieldType.int)) ∈ lw_all := lw_g (lw_at lw_m5 150 rfl) rfl
theorem q1273 : (Jvm.Cond.methodLink "java/util/Objects" (105 : Nat) ({ cls := "jdk/internal/util/Preconditions", name := "checkIndex", desc := "(IILjava/util/function/BiFunction;)I" } : Jvm.MethodName)) ∈ lw_all := lw_g (lw_at lw_m5 151 rfl) rfl

/-! java/lang/IllegalStateException -/
set_option maxRecDepth 100000
def RJ17 : String := "java/lang/IllegalStateException"
def TJ17 : u_T := fun k => match k with
  | 0 => ("java/lang/Throwable", "cause", "Ljava/lang/Throwable;", false)
  | 1 => ("java/lang/Throwable", "stackTrace", "[Ljava/lang/StackTraceElement;", false)
  | 2 => ("java/lang/Throwable", "suppressedExceptions", "Ljava/util/List;", false)
  | 3 => ("java/lang/Throwable", "detailMessage", "Ljava/lang/String;", false)
  | 4 => ("java/lang/Throwable", "backtrace", "Ljava/lang/Object;", false)
  | _ => ("java/lang/Throwable", "depth", "I", false)
def tyJ17 : Nat → FieldType := fun k => match k with
  | 0 => .object "java/lang/Throwable"
  | 1 => .array (.object "java/lang/StackTraceElement")
  | 2 => .object "java/util/List"
  | 3 => .object "java/lang/String"
  | 4 => .object "java/lang/Object"
  | _ => .int
abbrev wsJ170 : List Cond := u_ws RJ17 TJ17 6
theorem nmJ17 : ∀ a, a < 6 → ∀ b, b < 6 → a ≠ b → (TJ17 a).2.1 ≠ (TJ17 b).2.1 := by decide +kernel
theorem tyJ17_ok : ∀ k, k < 6 → parseFieldDescriptor (TJ17 k).2.2.1 = some (tyJ17 k) := by decide +kernel
abbrev cJ17_init : ByteArray := prog_36_method_1_code
def yJ17_init : MethodName := ⟨RJ17, "<init>", "()V"⟩
theorem q207 : (Jvm.Cond.initialized "java/lang/IllegalStateException") ∈ lw_all := lw_g (lw_at lw_m1 45 rfl) rfl
theorem q525 : (Jvm.Cond.selects "java/lang/IllegalStateException" ({ cls := "java/lang/Throwable", name := "fillInStackTrace", desc := "()Ljava/lang/Throwable;" } : Jvm.MethodName) ({ cls := "java/lang/Throwable", name := "fillInStackTrace", desc := "()Ljava/lang/Throwable;" } : Jvm.MethodName)) ∈ lw_all := lw_g (lw_at lw_m2 123 rfl) rfl
theorem q1249 : (Jvm.Cond.selects "java/lang/IllegalStateException" ({ cls := "java/lang/Object", name := "getClass", desc := "()Ljava/lang/Class;" } : Jvm.MethodName) ({ cls := "java/lang/Object", name := "getClass", desc := "()Ljava/lang/Class;" } : Jvm.MethodName)) ∈ lw_all := lw_g (lw_at lw_m5 127 rfl) rfl
theorem q1427 : (Jvm.Cond.selects "java/lang/IllegalStateException" ({ cls := "java/lang/Object", name := "equals", desc := "(Ljava/lang/Object;)Z" } : Jvm.MethodName) ({ cls := "java/lang/Object", name := "equals", desc := "(Ljava/lang/Object;)Z" } : Jvm.MethodName)) ∈ lw_all := lw_g (lw_at lw_m6 65 rfl) rfl
theorem q1914 : (Jvm.Cond.instantiable "java/lang/IllegalStateException" (6 : Nat)) ∈ lw_all := lw_g (lw_at lw_m8 72 rfl) rfl
theorem q1915 : (Jvm.Cond.castable "java/lang/IllegalStateException" "java/lang/IllegalStateException") ∈ lw_tbl := lw_at lw_m8 73 rfl
theorem q1916 : (Jvm.Cond.selects "java/lang/IllegalStateException" ({ cls := "java/lang/Throwable", name := "fillInStackTrace", desc := "(I)Ljava/lang/Throwable;" } : Jvm.MethodName) ({ cls := "java/lang/Throwable", name := "fillInStackTrace", desc := "(I)Ljava/lang/Throwable;" } : Jvm.MethodName)) ∈ lw_all := lw_g (lw_at lw_m8 74 rfl) rfl
theorem q1917 : (Jvm.Cond.lays "java/lang/IllegalStateException" "java/lang/Throwable" "cause" "Ljava/lang/Throwable;") ∈ lw_all := lw_g (lw_at lw_m8 75 rfl) rfl
theorem q1918 : (Jvm.Cond.lays "java/lang/IllegalStateException" "java/lang/Throwable" "stackTrace" "[Ljava/lang/StackTraceElement;") ∈ lw_all := lw_g (lw_at lw_m8 76 rfl) rfl
theorem q1919 : (Jvm.Cond.lays "java/lang/IllegalStateException" "java/lang/Throwable" "suppressedExceptions" "Ljava/util/List;") ∈ lw_all := lw_g (lw_at lw_m8 77 rfl) rfl
theorem q1920 : (Jvm.Cond.lays "java/lang/IllegalStateException" "java/lang/Throwable" "detailMessage" "Ljava/lang/String;") ∈ lw_all := lw_g (lw_at lw_m8 78 rfl) rfl
theorem q1921 : (Jvm.Cond.lays "java/lang/IllegalStateException" "java/lang/Throwable" "backtrace" "Ljava/lang/Object;") ∈ lw_all := lw_g (lw_at lw_m8 79 rfl) rfl
theorem q1923 : (Jvm.Cond.instanceMethod ({ cls := "java/lang/IllegalStateException", name := "<init>", desc := "()V" } : Jvm.MethodName)) ∈ lw_all := lw_g (lw_at lw_m8 81 rfl) rfl
theorem q1924 : (Jvm.Cond.code ({ cls := "java/lang/IllegalStateException", name := "<init>", desc := "()V" } : Jvm.MethodName) prog_36_method_1_code (1 : Nat) (Option.none : Option Jvm.ClassFile.FieldType)) ∈ lw_all := lw_g (lw_at lw_m8 82 rfl) rfl
theorem q1925 : (Jvm.Cond.methodLink "java/lang/IllegalStateException" (1 : Nat) ({ cls := "java/lang/RuntimeException", name := "<init>", desc := "()V" } : Jvm.MethodName)) ∈ lw_all := lw_g (lw_at lw_m8 83 rfl) rfl
theorem q1926 : (Jvm.Cond.lays "java/lang/IllegalStateException" "java/lang/Throwable" "depth" "I") ∈ lw_all := lw_g (lw_at lw_m8 84 rfl) rfl
theorem q1927 : (Jvm.Cond.superclass "java/lang/IllegalStateException" "java/lang/RuntimeException") ∈ lw_all := lw_g (lw_at lw_m8 85 rfl) rfl
theorem q3518 : (Jvm.Cond.castable "java/lang/IllegalStateException" "java/lang/Object") ∈ lw_tbl := lw_at lw_m14 236 rfl
theorem in_J17 : ∀ w ∈ wsJ170, w ∈ lw_all := lw_in wsJ170 [1917, 1918, 1919, 1920, 1921, 1926] (by decide +kernel) (by decide +kernel)

/-! java/lang/IndexOutOfBoundsException -/
set_option maxRecDepth 100000
def RJ18 : String := "java/lang/IndexOutOfBoundsException"
def TJ18 : u_T := fun k => match k with
  | 0 => ("java/lang/Throwable", "cause", "Ljava/lang/Throwable;", false)
  | 1 => ("java/lang/Throwable", "stackTrace", "[Ljava/lang/StackTraceElement;", false)
  | 2 => ("java/lang/Throwable", "suppressedExceptions", "Ljava/util/List;", false)
  | 3 => ("java/lang/Throwable", "detailMessage", "Ljava/lang/String;", false)
  | 4 => ("java/lang/Throwable", "backtrace", "Ljava/lang/Object;", false)
  | _ => ("java/lang/Throwable", "depth", "I", false)
def tyJ18 : Nat → FieldType := fun k => match k with
  | 0 => .object "java/lang/Throwable"
  | 1 => .array (.object "java/lang/StackTraceElement")
  | 2 => .object "java/util/List"
  | 3 => .object "java/lang/String"
  | 4 => .object "java/lang/Object"
  | _ => .int
abbrev wsJ180 : List Cond := u_ws RJ18 TJ18 6
theorem nmJ18 : ∀ a, a < 6 → ∀ b, b < 6 → a ≠ b → (TJ18 a).2.1 ≠ (TJ18 b).2.1 := by decide +kernel
theorem tyJ18_ok : ∀ k, k < 6 → parseFieldDescriptor (TJ18 k).2.2.1 = some (tyJ18 k) := by decide +kernel
abbrev cJ18_init : ByteArray := prog_37_method_2_code
def yJ18_init : MethodName := ⟨RJ18, "<init>", "(Ljava/lang/String;)V"⟩
abbrev cJ18_init_2 : ByteArray := prog_37_method_1_code
def yJ18_init_2 : MethodName := ⟨RJ18, "<init>", "()V"⟩
theorem q208 : (Jvm.Cond.initialized "java/lang/IndexOutOfBoundsException") ∈ lw_all := lw_g (lw_at lw_m1 46 rfl) rfl
theorem q526 : (Jvm.Cond.selects "java/lang/IndexOutOfBoundsException" ({ cls := "java/lang/Throwable", name := "fillInStackTrace", desc := "()Ljava/lang/Throwable;" } : Jvm.MethodName) ({ cls := "java/lang/Throwable", name := "fillInStackTrace", desc := "()Ljava/lang/Throwable;" } : Jvm.MethodName)) ∈ lw_all := lw_g (lw_at lw_m2 124 rfl) rfl
theorem q1250 : (Jvm.Cond.selects "java/lang/IndexOutOfBoundsException" ({ cls := "java/lang/Object", name := "getClass", desc := "()Ljava/lang/Class;" } : Jvm.MethodName) ({ cls := "java/lang/Object", name := "getClass", desc := "()Ljava/lang/Class;" } : Jvm.MethodName)) ∈ lw_all := lw_g (lw_at lw_m5 128 rfl) rfl
theorem q1428 : (Jvm.Cond.selects "java/lang/IndexOutOfBoundsException" ({ cls := "java/lang/Object", name := "equals", desc := "(Ljava/lang/Object;)Z" } : Jvm.MethodName) ({ cls := "java/lang/Object", name := "equals", desc := "(Ljava/lang/Object;)Z" } : Jvm.MethodName)) ∈ lw_all := lw_g (lw_at lw_m6 66 rfl) rfl
theorem q2066 : (Jvm.Cond.instanceMethod ({ cls := "java/lang/IndexOutOfBoundsException", name := "<init>", desc := "(Ljava/lang/String;)V" } : Jvm.MethodName)) ∈ lw_all := lw_g (lw_at lw_m8 224 rfl) rfl
theorem q2067 : (Jvm.Cond.code ({ cls := "java/lang/IndexOutOfBoundsException", name := "<init>", desc := "(Ljava/lang/String;)V" } : Jvm.MethodName) prog_37_method_2_code (2 : Nat) (Option.none : Option Jvm.ClassFile.FieldType)) ∈ lw_all := lw_g (lw_at lw_m8 225 rfl) rfl
theorem q2068 : (Jvm.Cond.methodLink "java/lang/IndexOutOfBoundsException" (7 : Nat) ({ cls := "java/lang/RuntimeException", name := "<init>", desc := "(Ljava/lang/String;)V" } : Jvm.MethodName)) ∈ lw_all := lw_g (lw_at lw_m8 226 rfl) rfl
theorem q2085 : (Jvm.Cond.declares ({ cls := "java/lang/IndexOutOfBoundsException", name := "<init>", desc := "()V" } : Jvm.MethodName)) ∈ lw_tbl := lw_at lw_m9 3 rfl
theorem q2086 : (Jvm.Cond.declares ({ cls := "java/lang/IndexOutOfBoundsException", name := "<init>", desc := "(Ljava/lang/String;)V" } : Jvm.MethodName)) ∈ lw_tbl := lw_at lw_m9 4 rfl
theorem q2098 : (Jvm.Cond.instantiable "java/lang/IndexOutOfBoundsException" (6 : Nat)) ∈ lw_all := lw_g (lw_at lw_m9 16 rfl) rfl
theorem q2099 : (Jvm.Cond.castable "java/lang/IndexOutOfBoundsException" "java/lang/IndexOutOfBoundsException") ∈ lw_tbl := lw_at lw_m9 17 rfl
theorem q2100 : (Jvm.Cond.selects "java/lang/IndexOutOfBoundsException" ({ cls := "java/lang/Throwable", name := "fillInStackTrace", desc := "(I)Ljava/lang/Throwable;" } : Jvm.MethodName) ({ cls := "java/lang/Throwable", name := "fillInStackTrace", desc := "(I)Ljava/lang/Throwable;" } : Jvm.MethodName)) ∈ lw_all := lw_g (lw_at lw_m9 18 rfl) rfl
theorem q2101 : (Jvm.Cond.lays "java/lang/IndexOutOfBoundsException" "java/lang/Throwable" "cause" "Ljava/lang/Throwable;") ∈ lw_all := lw_g (lw_at lw_m9 19 rfl) rfl
theorem q2102 : (Jvm.Cond.lays "java/lang/IndexOutOfBoundsException" "java/lang/Throwable" "stackTrace" "[Ljava/lang/StackTraceElement;") ∈ lw_all := lw_g (lw_at lw_m9 20 rfl) rfl
theorem q2103 : (Jvm.Cond.lays "java/lang/IndexOutOfBoundsException" "java/lang/Throwable" "suppressedExceptions" "Ljava/util/List;") ∈ lw_all := lw_g (lw_at lw_m9 21 rfl) rfl
theorem q2104 : (Jvm.Cond.lays "java/lang/IndexOutOfBoundsException" "java/lang/Throwable" "detailMessage" "Ljava/lang/String;") ∈ lw_all := lw_g (lw_at lw_m9 22 rfl) rfl
theorem q2105 : (Jvm.Cond.lays "java/lang/IndexOutOfBoundsException" "java/lang/Throwable" "backtrace" "Ljava/lang/Object;") ∈ lw_all := lw_g (lw_at lw_m9 23 rfl) rfl
theorem q2107 : (Jvm.Cond.instanceMethod ({ cls := "java/lang/IndexOutOfBoundsException", name := "<init>", desc := "()V" } : Jvm.MethodName)) ∈ lw_all := lw_g (lw_at lw_m9 25 rfl) rfl
theorem q2108 : (Jvm.Cond.code ({ cls := "java/lang/IndexOutOfBoundsException", name := "<init>", desc := "()V" } : Jvm.MethodName) prog_37_method_1_code (1 : Nat) (Option.none : Option Jvm.ClassFile.FieldType)) ∈ lw_all := lw_g (lw_at lw_m9 26 rfl) rfl
theorem q2109 : (Jvm.Cond.methodLink "java/lang/IndexOutOfBoundsException" (1 : Nat) ({ cls := "java/lang/RuntimeException", name := "<init>", desc := "()V" } : Jvm.MethodName)) ∈ lw_all := lw_g (lw_at lw_m9 27 rfl) rfl
theorem q2110 : (Jvm.Cond.lays "java/lang/IndexOutOfBoundsException" "java/lang/Throwable" "depth" "I") ∈ lw_all := lw_g (lw_at lw_m9 28 rfl) rfl
theorem q2111 : (Jvm.Cond.superclass "java/lang/IndexOutOfBoundsException" "java/lang/RuntimeException") ∈ lw_all := lw_g (lw_at lw_m9 29 rfl) rfl
theorem q3520 : (Jvm.Cond.castable "java/lang/IndexOutOfBoundsException" "java/lang/Object") ∈ lw_tbl := lw_at lw_m14 238 rfl
theorem in_J18 : ∀ w ∈ wsJ180, w ∈ lw_all := lw_in wsJ180 [2101, 2102, 2103, 2104, 2105, 2110] (by decide +kernel) (by decide +kernel)

/-! java/lang/ArrayIndexOutOfBoundsException -/
set_option maxRecDepth 100000
def RJ19 : String := "java/lang/ArrayIndexOutOfBoundsException"
def TJ19 : u_T := fun k => match k with
  | 0 => ("java/lang/Throwable", "backtrace", "Ljava/lang/Object;", false)
  | 1 => ("java/lang/Throwable", "detailMessage", "Ljava/lang/String;", false)
  | 2 => ("java/lang/Throwable", "cause", "Ljava/lang/Throwable;", false)
  | 3 => ("java/lang/Throwable", "stackTrace", "[Ljava/lang/StackTraceElement;", false)
  | 4 => ("java/lang/Throwable", "depth", "I", false)
  | _ => ("java/lang/Throwable", "suppressedExceptions", "Ljava/util/List;", false)
def tyJ19 : Nat → FieldType := fun k => match k with
  | 0 => .object "java/lang/Object"
  | 1 => .object "java/lang/String"
  | 2 => .object "java/lang/Throwable"
  | 3 => .array (.object "java/lang/StackTraceElement")
  | 4 => .int
  | _ => .object "java/util/List"
abbrev wsJ190 : List Cond := u_ws RJ19 TJ19 6
theorem nmJ19 : ∀ a, a < 6 → ∀ b, b < 6 → a ≠ b → (TJ19 a).2.1 ≠ (TJ19 b).2.1 := by decide +kernel
theorem tyJ19_ok : ∀ k, k < 6 → parseFieldDescriptor (TJ19 k).2.2.1 = some (tyJ19 k) := by decide +kernel
abbrev cJ19_init : ByteArray := prog_29_method_2_code
def yJ19_init : MethodName := ⟨RJ19, "<init>", "(Ljava/lang/String;)V"⟩
theorem q209 : (Jvm.Cond.initialized "java/lang/ArrayIndexOutOfBoundsException") ∈ lw_all := lw_g (lw_at lw_m1 47 rfl) rfl
theorem q524 : (Jvm.Cond.selects "java/lang/ArrayIndexOutOfBoundsException" ({ cls := "java/lang/Throwable", name := "fillInStackTrace", desc := "()Ljava/lang/Throwable;" } : Jvm.MethodName) ({ cls := "java/lang/Throwable", name := "fillInStackTrace", desc := "()Ljava/lang/Throwable;" } : Jvm.MethodName)) ∈ lw_all := lw_g (lw_at lw_m2 122 rfl) rfl
theorem q1247 : (Jvm.Cond.selects "java/lang/ArrayIndexOutOfBoundsException" ({ cls := "java/lang/Object", name := "getClass", desc := "()Ljava/lang/Class;" } : Jvm.MethodName) ({ cls := "java/lang/Object", name := "getClass", desc := "()Ljava/lang/Class;" } : Jvm.MethodName)) ∈ lw_all := lw_g (lw_at lw_m5 125 rfl) rfl
theorem q1425 : (Jvm.Cond.selects "java/lang/ArrayIndexOutOfBoundsException" ({ cls := "java/lang/Object", name := "equals", desc := "(Ljava/lang/Object;)Z" } : Jvm.MethodName) ({ cls := "java/lang/Object", name := "equals", desc := "(Ljava/lang/Object;)Z" } : Jvm.MethodName)) ∈ lw_all := lw_g (lw_at lw_m6 63 rfl) rfl
theorem q2062 : (Jvm.Cond.instantiable "java/lang/ArrayIndexOutOfBoundsException" (6 : Nat)) ∈ lw_all := lw_g (lw_at lw_m8 220 rfl) rfl
theorem q2063 : (Jvm.Cond.instanceMethod ({ cls := "java/lang/ArrayIndexOutOfBoundsException", name := "<init>", desc := "(Ljava/lang/String;)V" } : Jvm.MethodName)) ∈ lw_all := lw_g (lw_at lw_m8 221 rfl) rfl
theorem q2064 : (Jvm.Cond.code ({ cls := "java/lang/ArrayIndexOutOfBoundsException", name := "<init>", desc := "(Ljava/lang/String;)V" } : Jvm.MethodName) prog_29_method_2_code (2 : Nat) (Option.none : Option Jvm.ClassFile.FieldType)) ∈ lw_all := lw_g (lw_at lw_m8 222 rfl) rfl
theorem q2065 : (Jvm.Cond.methodLink "java/lang/ArrayIndexOutOfBoundsException" (7 : Nat) ({ cls := "java/lang/IndexOutOfBoundsException", name := "<init>", desc := "(Ljava/lang/String;)V" } : Jvm.MethodName)) ∈ lw_all := lw_g (lw_at lw_m8 223 rfl) rfl
theorem q2077 : (Jvm.Cond.lays "java/lang/ArrayIndexOutOfBoundsException" "java/lang/Throwable" "backtrace" "Ljava/lang/Object;") ∈ lw_all := lw_g (lw_at lw_m8 235 rfl) rfl
theorem q2078 : (Jvm.Cond.lays "java/lang/ArrayIndexOutOfBoundsException" "java/lang/Throwable" "detailMessage" "Ljava/lang/String;") ∈ lw_all := lw_g (lw_at lw_m8 236 rfl) rfl
theorem q2079 : (Jvm.Cond.lays "java/lang/ArrayIndexOutOfBoundsException" "java/lang/Throwable" "cause" "Ljava/lang/Throwable;") ∈ lw_all := lw_g (lw_at lw_m8 237 rfl) rfl
theorem q2080 : (Jvm.Cond.lays "java/lang/ArrayIndexOutOfBoundsException" "java/lang/Throwable" "stackTrace" "[Ljava/lang/StackTraceElement;") ∈ lw_all := lw_g (lw_at lw_m8 238 rfl) rfl
theorem q2081 : (Jvm.Cond.lays "java/lang/ArrayIndexOutOfBoundsException" "java/lang/Throwable" "depth" "I") ∈ lw_all := lw_g (lw_at lw_m8 239 rfl) rfl
theorem q2082 : (Jvm.Cond.lays "java/lang/ArrayIndexOutOfBoundsException" "java/lang/Throwable" "suppressedExceptions" "Ljava/util/List;") ∈ lw_all := lw_g (lw_at lw_m9 0 rfl) rfl
theorem q2083 : (Jvm.Cond.superclass "java/lang/ArrayIndexOutOfBoundsException" "java/lang/IndexOutOfBoundsException") ∈ lw_all := lw_g (lw_at lw_m9 1 rfl) rfl
theorem q2084 : (Jvm.Cond.castable "java/lang/ArrayIndexOutOfBoundsException" "java/lang/ArrayIndexOutOfBoundsException") ∈ lw_tbl := lw_at lw_m9 2 rfl
theorem q2087 : (Jvm.Cond.selects "java/lang/ArrayIndexOutOfBoundsException" ({ cls := "java/lang/Throwable", name := "fillInStackTrace", desc := "(I)Ljava/lang/Throwable;" } : Jvm.MethodName) ({ cls := "java/lang/Throwable", name := "fillInStackTrace", desc := "(I)Ljava/lang/Throwable;" } : Jvm.MethodName)) ∈ lw_all := lw_g (lw_at lw_m9 5 rfl) rfl
theorem q3466 : (Jvm.Cond.castable "java/lang/ArrayIndexOutOfBoundsException" "java/lang/IndexOutOfBoundsException") ∈ lw_tbl := lw_at lw_m14 184 rfl
theorem q3519 : (Jvm.Cond.castable "java/lang/ArrayIndexOutOfBoundsException" "java/lang/Object") ∈ lw_tbl := lw_at lw_m14 237 rfl
theorem in_J19 : ∀ w ∈ wsJ190, w ∈ lw_all := lw_in wsJ190 [2077, 2078, 2079, 2080, 2081, 2082] (by decide +kernel) (by decide +kernel)

/-! java/lang/Object -/
set_option maxRecDepth 100000
def RJ20 : String := "java/lang/Object"
abbrev cJ20_init : ByteArray := object_method_1_code
def yJ20_init : MethodName := ⟨RJ20, "<init>", "()V"⟩
abbrev cJ20_equals : ByteArray := object_method_4_code
def yJ20_equals : MethodName := ⟨RJ20, "equals", "(Ljava/lang/Object;)Z"⟩
theorem q216 : (Jvm.Cond.instanceMethod ({ cls := "java/lang/Object", name := "<init>", desc := "()V" } : Jvm.MethodName)) ∈ lw_all := lw_g (lw_at lw_m1 54 rfl) rfl
theorem q217 : (Jvm.Cond.code ({ cls := "java/lang/Object", name := "<init>", desc := "()V" } : Jvm.MethodName) object_method_1_code (1 : Nat) (Option.none : Option Jvm.ClassFile.FieldType)) ∈ lw_all := lw_g (lw_at lw_m1 55 rfl) rfl
theorem q1221 : (Jvm.Cond.instanceMethod ({ cls := "java/lang/Object", name := "getClass", desc := "()Ljava/lang/Class;" } : Jvm.MethodName)) ∈ lw_all := lw_g (lw_at lw_m5 99 rfl) rfl
theorem q1222 : (Jvm.Cond.sameMethod "java/lang/Object" "java/lang/Object" "getClass" "()Ljava/lang/Class;") ∈ lw_all := lw_g (lw_at lw_m5 100 rfl) rfl
theorem q1253 : (Jvm.Cond.native ({ cls := "java/lang/Object", name := "getClass", desc := "()Ljava/lang/Class;" } : Jvm.MethodName)) ∈ lw_all := lw_g (lw_at lw_m5 131 rfl) rfl
theorem q1397 : (Jvm.Cond.declares ({ cls := "java/lang/Object", name := "equals", desc := "(Ljava/lang/Object;)Z" } : Jvm.MethodName)) ∈ lw_tbl := lw_at lw_m6 35 rfl
theorem q1399 : (Jvm.Cond.instanceMethod ({ cls := "java/lang/Object", name := "equals", desc := "(Ljava/lang/Object;)Z" } : Jvm.MethodName)) ∈ lw_all := lw_g (lw_at lw_m6 37 rfl) rfl
theorem q1400 : (Jvm.Cond.sameMethod "java/lang/Object" "java/lang/Object" "equals" "(Ljava/lang/Object;)Z") ∈ lw_all := lw_g (lw_at lw_m6 38 rfl) rfl
theorem q1437 : (Jvm.Cond.code ({ cls := "java/lang/Object", name := "equals", desc := "(Ljava/lang/Object;)Z" } : Jvm.MethodName) object_method_4_code (2 : Nat) (Option.some Jvm.ClassFile.FieldType.boolean)) ∈ lw_all := lw_g (lw_at lw_m6 75 rfl) rfl
theorem q3490 : (Jvm.Cond.declares ({ cls := "java/lang/Object", name := "getClass", desc := "()Ljava/lang/Class;" } : Jvm.MethodName)) ∈ lw_tbl := lw_at lw_m14 208 rfl

/-! the law's own entry -/
set_option maxRecDepth 100000
abbrev cL_law : ByteArray := code

theorem q3529 : (Jvm.Cond.castable "[B" "java/lang/Object") ∈ lw_tbl := lw_at lw_m15 7 rfl
set_option maxRecDepth 100000

theorem q3523 : (Jvm.Cond.castable "[C" "java/lang/Object") ∈ lw_tbl := lw_at lw_m15 1 rfl
set_option maxRecDepth 100000

theorem q3526 : (Jvm.Cond.castable "[I" "java/lang/Object") ∈ lw_tbl := lw_at lw_m15 4 rfl
set_option maxRecDepth 100000

theorem q3525 : (Jvm.Cond.castable "[J" "java/lang/Object") ∈ lw_tbl := lw_at lw_m15 3 rfl
set_option maxRecDepth 100000

theorem q3524 : (Jvm.Cond.castable "[LLazyForge$Part;" "java/lang/Object") ∈ lw_tbl := lw_at lw_m15 2 rfl
set_option maxRecDepth 100000

theorem q3528 : (Jvm.Cond.castable "[LLazyForge$Raw;" "java/lang/Object") ∈ lw_tbl := lw_at lw_m15 6 rfl
set_option maxRecDepth 100000

theorem q3531 : (Jvm.Cond.castable "[LLazyForge$Variable;" "java/lang/Object") ∈ lw_tbl := lw_at lw_m15 9 rfl
set_option maxRecDepth 100000

theorem q3488 : (Jvm.Cond.sameMethod "[Ljava/lang/Object;" "java/lang/Object" "getClass" "()Ljava/lang/Class;") ∈ lw_all := lw_g (lw_at lw_m14 206 rfl) rfl
set_option maxRecDepth 100000
theorem q3489 : (Jvm.Cond.selects "[Ljava/lang/Object;" ({ cls := "java/lang/Object", name := "getClass", desc := "()Ljava/lang/Class;" } : Jvm.MethodName) ({ cls := "java/lang/Object", name := "getClass", desc := "()Ljava/lang/Class;" } : Jvm.MethodName)) ∈ lw_all := lw_g (lw_at lw_m14 207 rfl) rfl
theorem q3532 : (Jvm.Cond.castable "[Ljava/lang/Object;" "java/lang/Object") ∈ lw_tbl := lw_at lw_m15 10 rfl

theorem q3530 : (Jvm.Cond.castable "[Z" "java/lang/Object") ∈ lw_tbl := lw_at lw_m15 8 rfl
set_option maxRecDepth 100000

theorem q3527 : (Jvm.Cond.castable "[[J" "java/lang/Object") ∈ lw_tbl := lw_at lw_m15 5 rfl
set_option maxRecDepth 100000

theorem q3533 : (Jvm.Cond.castable "[[LLazyForge$Variable;" "java/lang/Object") ∈ lw_tbl := lw_at lw_m15 11 rfl
set_option maxRecDepth 100000

theorem q179 : (Jvm.Cond.initialized "java/lang/System") ∈ lw_all := lw_g (lw_at lw_m1 17 rfl) rfl
set_option maxRecDepth 100000
theorem q480 : (Jvm.Cond.static ({ cls := "java/lang/System", name := "arraycopy", desc := "(Ljava/lang/Object;ILjava/lang/Object;II)V" } : Jvm.MethodName)) ∈ lw_all := lw_g (lw_at lw_m2 78 rfl) rfl
theorem q481 : (Jvm.Cond.native ({ cls := "java/lang/System", name := "arraycopy", desc := "(Ljava/lang/Object;ILjava/lang/Object;II)V" } : Jvm.MethodName)) ∈ lw_all := lw_g (lw_at lw_m2 79 rfl) rfl

theorem q236 : (Jvm.Cond.arrayClass Jvm.ClassFile.FieldType.char) ∈ lw_all := lw_g (lw_at lw_m1 74 rfl) rfl
set_option maxRecDepth 100000
theorem q327 : (Jvm.Cond.arrayOver (Jvm.ClassFile.FieldType.object "LazyForge$Part")) ∈ lw_tbl := lw_at lw_m1 165 rfl
theorem q438 : (Jvm.Cond.arrayClass Jvm.ClassFile.FieldType.long) ∈ lw_all := lw_g (lw_at lw_m2 36 rfl) rfl
theorem q439 : (Jvm.Cond.arrayClass Jvm.ClassFile.FieldType.int) ∈ lw_all := lw_g (lw_at lw_m2 37 rfl) rfl
theorem q593 : (Jvm.Cond.arrayOver (Jvm.ClassFile.FieldType.array Jvm.ClassFile.FieldType.long)) ∈ lw_tbl := lw_at lw_m2 191 rfl
theorem q595 : (Jvm.Cond.arrayOver (Jvm.ClassFile.FieldType.object "LazyForge$Raw")) ∈ lw_tbl := lw_at lw_m2 193 rfl
theorem q734 : (Jvm.Cond.arrayClass Jvm.ClassFile.FieldType.byte) ∈ lw_all := lw_g (lw_at lw_m3 92 rfl) rfl
theorem q1099 : (Jvm.Cond.arrayClass Jvm.ClassFile.FieldType.boolean) ∈ lw_all := lw_g (lw_at lw_m4 217 rfl) rfl
theorem q1101 : (Jvm.Cond.arrayOver (Jvm.ClassFile.FieldType.object "LazyForge$Variable")) ∈ lw_tbl := lw_at lw_m4 219 rfl
theorem q1258 : (Jvm.Cond.arrayOver (Jvm.ClassFile.FieldType.object "java/lang/Object")) ∈ lw_tbl := lw_at lw_m5 136 rfl
theorem q1485 : (Jvm.Cond.arrayOver (Jvm.ClassFile.FieldType.array (Jvm.ClassFile.FieldType.object "LazyForge$Variable"))) ∈ lw_tbl := lw_at lw_m6 123 rfl

