set_option maxRecDepth 100000
def RX0 : String := "LetMillLaw"
abbrev cX0_feed : ByteArray := method_3_code
def yX0_feed : MethodName := ⟨RX0, "feed", "(LLetMill;IIIII[J)I"⟩
abbrev cX0_end : ByteArray := method_4_code
def yX0_end : MethodName := ⟨RX0, "end", "(LLetMill;I[J)I"⟩
abbrev cX0_build : ByteArray := method_5_code
def yX0_build : MethodName := ⟨RX0, "build", "(LLetMill;[J)I"⟩
abbrev cX0_run : ByteArray := method_6_code
def yX0_run : MethodName := ⟨RX0, "run", "(LLetMill;I[J)I"⟩
abbrev cX0_look : ByteArray := method_7_code
def yX0_look : MethodName := ⟨RX0, "look", "(LLetMill;I[J)I"⟩
abbrev cX0_letter : ByteArray := method_8_code
def yX0_letter : MethodName := ⟨RX0, "letter", "(LLetMill;I[J)I"⟩
abbrev cX0_warning : ByteArray := method_9_code
def yX0_warning : MethodName := ⟨RX0, "warning", "(LLetMill;II[J)I"⟩
theorem q210 : (Jvm.Cond.initialized "LetMillLaw") ∈ lw_all := lw_g (lw_at lw_m1 0 rfl) rfl
theorem q282 : (Jvm.Cond.classLink "LetMillLaw" (8 : Nat) "LetMill") ∈ lw_all := lw_g (lw_at lw_m1 72 rfl) rfl
theorem q284 : (Jvm.Cond.methodLink "LetMillLaw" (42 : Nat) ({ cls := "LetMill", name := "<init>", desc := "()V" } : Jvm.MethodName)) ∈ lw_all := lw_g (lw_at lw_m1 74 rfl) rfl
theorem q1022 : (Jvm.Cond.methodLink "LetMillLaw" (76 : Nat) ({ cls := "LetMill", name := "clear", desc := "()V" } : Jvm.MethodName)) ∈ lw_all := lw_g (lw_at lw_m4 92 rfl) rfl
theorem q1035 : (Jvm.Cond.methodLink "LetMillLaw" (80 : Nat) ({ cls := "LetMill", name := "count", desc := "(I)I" } : Jvm.MethodName)) ∈ lw_all := lw_g (lw_at lw_m4 105 rfl) rfl
theorem q1039 : (Jvm.Cond.methodLink "LetMillLaw" (46 : Nat) ({ cls := "LetMillLaw", name := "feed", desc := "(LLetMill;IIIII[J)I" } : Jvm.MethodName)) ∈ lw_all := lw_g (lw_at lw_m4 109 rfl) rfl
theorem q1040 : (Jvm.Cond.static ({ cls := "LetMillLaw", name := "feed", desc := "(LLetMill;IIIII[J)I" } : Jvm.MethodName)) ∈ lw_all := lw_g (lw_at lw_m4 110 rfl) rfl
theorem q1041 : (Jvm.Cond.codeWith ({ cls := "LetMillLaw", name := "feed", desc := "(LLetMill;IIIII[J)I" } : Jvm.MethodName) method_3_code (8 : Nat) (Option.some Jvm.ClassFile.FieldType.int) [((0 : Nat), (16 : Nat), (19 : Nat), (13 : Nat))]) ∈ lw_all := lw_g (lw_at lw_m4 111 rfl) rfl
theorem q1042 : (Jvm.Cond.classLink "LetMillLaw" (13 : Nat) "java/lang/IndexOutOfBoundsException") ∈ lw_all := lw_g (lw_at lw_m4 112 rfl) rfl
theorem q1043 : (Jvm.Cond.methodLink "LetMillLaw" (7 : Nat) ({ cls := "LetMill", name := "feed", desc := "(IIIII)I" } : Jvm.MethodName)) ∈ lw_all := lw_g (lw_at lw_m4 113 rfl) rfl
theorem q1116 : (Jvm.Cond.methodLink "LetMillLaw" (55 : Nat) ({ cls := "LetMillLaw", name := "end", desc := "(LLetMill;I[J)I" } : Jvm.MethodName)) ∈ lw_all := lw_g (lw_at lw_m4 186 rfl) rfl
theorem q1117 : (Jvm.Cond.static ({ cls := "LetMillLaw", name := "end", desc := "(LLetMill;I[J)I" } : Jvm.MethodName)) ∈ lw_all := lw_g (lw_at lw_m4 187 rfl) rfl
theorem q1118 : (Jvm.Cond.codeWith ({ cls := "LetMillLaw", name := "end", desc := "(LLetMill;I[J)I" } : Jvm.MethodName) method_4_code (4 : Nat) (Option.some Jvm.ClassFile.FieldType.int) [((0 : Nat), (9 : Nat), (12 : Nat), (19 : Nat))]) ∈ lw_all := lw_g (lw_at lw_m4 188 rfl) rfl
theorem q1119 : (Jvm.Cond.classLink "LetMillLaw" (19 : Nat) "java/lang/IllegalArgumentException") ∈ lw_all := lw_g (lw_at lw_m4 189 rfl) rfl
theorem q1120 : (Jvm.Cond.methodLink "LetMillLaw" (15 : Nat) ({ cls := "LetMill", name := "end", desc := "(I)I" } : Jvm.MethodName)) ∈ lw_all := lw_g (lw_at lw_m4 190 rfl) rfl
theorem q1142 : (Jvm.Cond.methodLink "LetMillLaw" (59 : Nat) ({ cls := "LetMillLaw", name := "build", desc := "(LLetMill;[J)I" } : Jvm.MethodName)) ∈ lw_all := lw_g (lw_at lw_m4 212 rfl) rfl
theorem q1143 : (Jvm.Cond.static ({ cls := "LetMillLaw", name := "build", desc := "(LLetMill;[J)I" } : Jvm.MethodName)) ∈ lw_all := lw_g (lw_at lw_m4 213 rfl) rfl
theorem q1144 : (Jvm.Cond.codeWith ({ cls := "LetMillLaw", name := "build", desc := "(LLetMill;[J)I" } : Jvm.MethodName) method_5_code (3 : Nat) (Option.some Jvm.ClassFile.FieldType.int) [((0 : Nat), (8 : Nat), (11 : Nat), (25 : Nat))]) ∈ lw_all := lw_g (lw_at lw_m4 214 rfl) rfl
theorem q1145 : (Jvm.Cond.classLink "LetMillLaw" (25 : Nat) "java/lang/IllegalStateException") ∈ lw_all := lw_g (lw_at lw_m4 215 rfl) rfl
theorem q1146 : (Jvm.Cond.methodLink "LetMillLaw" (21 : Nat) ({ cls := "LetMill", name := "build", desc := "()I" } : Jvm.MethodName)) ∈ lw_all := lw_g (lw_at lw_m4 216 rfl) rfl
theorem q2868 : (Jvm.Cond.methodLink "LetMillLaw" (63 : Nat) ({ cls := "LetMillLaw", name := "run", desc := "(LLetMill;I[J)I" } : Jvm.MethodName)) ∈ lw_all := lw_g (lw_at lw_m12 18 rfl) rfl
theorem q2869 : (Jvm.Cond.static ({ cls := "LetMillLaw", name := "run", desc := "(LLetMill;I[J)I" } : Jvm.MethodName)) ∈ lw_all := lw_g (lw_at lw_m12 19 rfl) rfl
theorem q2870 : (Jvm.Cond.codeWith ({ cls := "LetMillLaw", name := "run", desc := "(LLetMill;I[J)I" } : Jvm.MethodName) method_6_code (4 : Nat) (Option.some Jvm.ClassFile.FieldType.int) [((0 : Nat), (9 : Nat), (12 : Nat), (19 : Nat)), ((0 : Nat), (9 : Nat), (15 : Nat), (25 : Nat))]) ∈ lw_all := lw_g (lw_at lw_m12 20 rfl) rfl
theorem q2871 : (Jvm.Cond.methodLink "LetMillLaw" (27 : Nat) ({ cls := "LetMill", name := "run", desc := "(I)I" } : Jvm.MethodName)) ∈ lw_all := lw_g (lw_at lw_m12 21 rfl) rfl
theorem q3305 : (Jvm.Cond.methodLink "LetMillLaw" (66 : Nat) ({ cls := "LetMillLaw", name := "look", desc := "(LLetMill;I[J)I" } : Jvm.MethodName)) ∈ lw_all := lw_g (lw_at lw_m13 215 rfl) rfl
theorem q3306 : (Jvm.Cond.static ({ cls := "LetMillLaw", name := "look", desc := "(LLetMill;I[J)I" } : Jvm.MethodName)) ∈ lw_all := lw_g (lw_at lw_m13 216 rfl) rfl
theorem q3307 : (Jvm.Cond.codeWith ({ cls := "LetMillLaw", name := "look", desc := "(LLetMill;I[J)I" } : Jvm.MethodName) method_7_code (4 : Nat) (Option.some Jvm.ClassFile.FieldType.int) [((0 : Nat), (9 : Nat), (12 : Nat), (19 : Nat)), ((0 : Nat), (9 : Nat), (15 : Nat), (33 : Nat))]) ∈ lw_all := lw_g (lw_at lw_m13 217 rfl) rfl
theorem q3308 : (Jvm.Cond.classLink "LetMillLaw" (33 : Nat) "java/util/NoSuchElementException") ∈ lw_all := lw_g (lw_at lw_m13 218 rfl) rfl
theorem q3309 : (Jvm.Cond.methodLink "LetMillLaw" (30 : Nat) ({ cls := "LetMill", name := "look", desc := "(I)I" } : Jvm.MethodName)) ∈ lw_all := lw_g (lw_at lw_m13 219 rfl) rfl
theorem q3399 : (Jvm.Cond.methodLink "LetMillLaw" (69 : Nat) ({ cls := "LetMillLaw", name := "letter", desc := "(LLetMill;I[J)I" } : Jvm.MethodName)) ∈ lw_all := lw_g (lw_at lw_m14 69 rfl) rfl
theorem q3400 : (Jvm.Cond.static ({ cls := "LetMillLaw", name := "letter", desc := "(LLetMill;I[J)I" } : Jvm.MethodName)) ∈ lw_all := lw_g (lw_at lw_m14 70 rfl) rfl
theorem q3401 : (Jvm.Cond.codeWith ({ cls := "LetMillLaw", name := "letter", desc := "(LLetMill;I[J)I" } : Jvm.MethodName) method_8_code (4 : Nat) (Option.some Jvm.ClassFile.FieldType.int) [((0 : Nat), (9 : Nat), (12 : Nat), (33 : Nat))]) ∈ lw_all := lw_g (lw_at lw_m14 71 rfl) rfl
theorem q3402 : (Jvm.Cond.methodLink "LetMillLaw" (35 : Nat) ({ cls := "LetMill", name := "letter", desc := "(I)I" } : Jvm.MethodName)) ∈ lw_all := lw_g (lw_at lw_m14 72 rfl) rfl
theorem q3410 : (Jvm.Cond.methodLink "LetMillLaw" (72 : Nat) ({ cls := "LetMillLaw", name := "warning", desc := "(LLetMill;II[J)I" } : Jvm.MethodName)) ∈ lw_all := lw_g (lw_at lw_m14 80 rfl) rfl
theorem q3411 : (Jvm.Cond.static ({ cls := "LetMillLaw", name := "warning", desc := "(LLetMill;II[J)I" } : Jvm.MethodName)) ∈ lw_all := lw_g (lw_at lw_m14 81 rfl) rfl
theorem q3412 : (Jvm.Cond.codeWith ({ cls := "LetMillLaw", name := "warning", desc := "(LLetMill;II[J)I" } : Jvm.MethodName) method_9_code (5 : Nat) (Option.some Jvm.ClassFile.FieldType.int) [((0 : Nat), (10 : Nat), (13 : Nat), (19 : Nat)), ((0 : Nat), (10 : Nat), (17 : Nat), (33 : Nat))]) ∈ lw_all := lw_g (lw_at lw_m14 82 rfl) rfl
theorem q3413 : (Jvm.Cond.methodLink "LetMillLaw" (38 : Nat) ({ cls := "LetMill", name := "warning", desc := "(II)I" } : Jvm.MethodName)) ∈ lw_all := lw_g (lw_at lw_m14 83 rfl) rfl
theorem q3417 : (Jvm.Cond.methodLink "LetMillLaw" (52 : Nat) ({ cls := "LetMillModel", name := "thrown", desc := "()I" } : Jvm.MethodName)) ∈ lw_all := lw_g (lw_at lw_m14 87 rfl) rfl
theorem q3421 : (Jvm.Cond.methodLink "LetMillLaw" (51 : Nat) ({ cls := "LetMillModel", name := "feed", desc := "(IIIII)I" } : Jvm.MethodName)) ∈ lw_all := lw_g (lw_at lw_m14 91 rfl) rfl
theorem q3430 : (Jvm.Cond.methodLink "LetMillLaw" (58 : Nat) ({ cls := "LetMillModel", name := "end", desc := "(I)I" } : Jvm.MethodName)) ∈ lw_all := lw_g (lw_at lw_m14 100 rfl) rfl
theorem q3434 : (Jvm.Cond.methodLink "LetMillLaw" (62 : Nat) ({ cls := "LetMillModel", name := "build", desc := "()I" } : Jvm.MethodName)) ∈ lw_all := lw_g (lw_at lw_m14 104 rfl) rfl
theorem q3884 : (Jvm.Cond.methodLink "LetMillLaw" (65 : Nat) ({ cls := "LetMillModel", name := "run", desc := "(I)I" } : Jvm.MethodName)) ∈ lw_all := lw_g (lw_at lw_m16 74 rfl) rfl
theorem q3985 : (Jvm.Cond.methodLink "LetMillLaw" (68 : Nat) ({ cls := "LetMillModel", name := "look", desc := "(I)I" } : Jvm.MethodName)) ∈ lw_all := lw_g (lw_at lw_m16 175 rfl) rfl
theorem q4028 : (Jvm.Cond.methodLink "LetMillLaw" (71 : Nat) ({ cls := "LetMillModel", name := "letter", desc := "(I)I" } : Jvm.MethodName)) ∈ lw_all := lw_g (lw_at lw_m16 218 rfl) rfl
theorem q4032 : (Jvm.Cond.methodLink "LetMillLaw" (75 : Nat) ({ cls := "LetMillModel", name := "warning", desc := "(II)I" } : Jvm.MethodName)) ∈ lw_all := lw_g (lw_at lw_m16 222 rfl) rfl
theorem q4036 : (Jvm.Cond.classLink "LetMillLaw" (43 : Nat) "LetMillModel") ∈ lw_all := lw_g (lw_at lw_m16 226 rfl) rfl
theorem q4037 : (Jvm.Cond.methodLink "LetMillLaw" (45 : Nat) ({ cls := "LetMillModel", name := "<init>", desc := "()V" } : Jvm.MethodName)) ∈ lw_all := lw_g (lw_at lw_m16 227 rfl) rfl
theorem q4532 : (Jvm.Cond.methodLink "LetMillLaw" (79 : Nat) ({ cls := "LetMillModel", name := "clear", desc := "()V" } : Jvm.MethodName)) ∈ lw_all := lw_g (lw_at lw_m19 2 rfl) rfl
theorem q4536 : (Jvm.Cond.methodLink "LetMillLaw" (83 : Nat) ({ cls := "LetMillModel", name := "count", desc := "(I)I" } : Jvm.MethodName)) ∈ lw_all := lw_g (lw_at lw_m19 6 rfl) rfl
def RX1 : String := "LetMill"
abbrev cX1_init : ByteArray := prog_1_method_1_code
def yX1_init : MethodName := ⟨RX1, "<init>", "()V"⟩
abbrev cX1_clear : ByteArray := prog_1_method_17_code
def yX1_clear : MethodName := ⟨RX1, "clear", "()V"⟩
abbrev cX1_count : ByteArray := prog_1_method_18_code
def yX1_count : MethodName := ⟨RX1, "count", "(I)I"⟩
abbrev cX1_feed : ByteArray := prog_1_method_5_code
def yX1_feed : MethodName := ⟨RX1, "feed", "(IIIII)I"⟩
abbrev cX1_word : ByteArray := prog_1_method_4_code
def yX1_word : MethodName := ⟨RX1, "word", "(I)V"⟩
abbrev cX1_end : ByteArray := prog_1_method_6_code
def yX1_end : MethodName := ⟨RX1, "end", "(I)I"⟩
abbrev cX1_check : ByteArray := prog_1_method_2_code
def yX1_check : MethodName := ⟨RX1, "check", "(Z)V"⟩
abbrev cX1_build : ByteArray := prog_1_method_8_code
def yX1_build : MethodName := ⟨RX1, "build", "()I"⟩
abbrev cX1_cut : ByteArray := prog_1_method_7_code
def yX1_cut : MethodName := ⟨RX1, "cut", "()V"⟩
abbrev cX1_inferred : ByteArray := prog_1_method_9_code
def yX1_inferred : MethodName := ⟨RX1, "inferred", "(LLetMill$Let;)V"⟩
abbrev cX1_wouldBe : ByteArray := prog_1_method_11_code
def yX1_wouldBe : MethodName := ⟨RX1, "wouldBe", "()I"⟩
abbrev cX1_isHidden : ByteArray := prog_1_method_10_code
def yX1_isHidden : MethodName := ⟨RX1, "isHidden", "(LLetMill$Binding;I)Z"⟩
abbrev cX1_keep : ByteArray := prog_1_method_12_code
def yX1_keep : MethodName := ⟨RX1, "keep", "(LLetMill$Let;)V"⟩
abbrev cX1_run : ByteArray := prog_1_method_13_code
def yX1_run : MethodName := ⟨RX1, "run", "(I)I"⟩
abbrev cX1_look : ByteArray := prog_1_method_14_code
def yX1_look : MethodName := ⟨RX1, "look", "(I)I"⟩
abbrev cX1_there : ByteArray := prog_1_method_3_code
def yX1_there : MethodName := ⟨RX1, "there", "(Z)V"⟩
abbrev cX1_letter : ByteArray := prog_1_method_15_code
def yX1_letter : MethodName := ⟨RX1, "letter", "(I)I"⟩
abbrev cX1_warning : ByteArray := prog_1_method_16_code
def yX1_warning : MethodName := ⟨RX1, "warning", "(II)I"⟩
theorem q211 : (Jvm.Cond.initialized "LetMill") ∈ lw_all := lw_g (lw_at lw_m1 1 rfl) rfl
theorem q283 : (Jvm.Cond.instantiable "LetMill" (21 : Nat)) ∈ lw_all := lw_g (lw_at lw_m1 73 rfl) rfl
theorem q285 : (Jvm.Cond.instanceMethod ({ cls := "LetMill", name := "<init>", desc := "()V" } : Jvm.MethodName)) ∈ lw_all := lw_g (lw_at lw_m1 75 rfl) rfl
theorem q286 : (Jvm.Cond.code ({ cls := "LetMill", name := "<init>", desc := "()V" } : Jvm.MethodName) prog_1_method_1_code (1 : Nat) (Option.none : Option Jvm.ClassFile.FieldType)) ∈ lw_all := lw_g (lw_at lw_m1 76 rfl) rfl
theorem q287 : (Jvm.Cond.methodLink "LetMill" (1 : Nat) ({ cls := "java/lang/Object", name := "<init>", desc := "()V" } : Jvm.MethodName)) ∈ lw_all := lw_g (lw_at lw_m1 77 rfl) rfl
theorem q290 : (Jvm.Cond.classLink "LetMill" (7 : Nat) "LetMill$Tokens") ∈ lw_all := lw_g (lw_at lw_m1 80 rfl) rfl
theorem q292 : (Jvm.Cond.methodLinkNest "LetMill" (9 : Nat) ({ cls := "LetMill$Tokens", name := "<init>", desc := "()V" } : Jvm.MethodName) "LetMill") ∈ lw_tbl := lw_at lw_m1 82 rfl
theorem q319 : (Jvm.Cond.fieldLink "LetMill" (147 : Nat) "LetMill$Tokens" "text" "[B") ∈ lw_all := lw_g (lw_at lw_m1 109 rfl) rfl
theorem q321 : (Jvm.Cond.fieldLink "LetMill" (150 : Nat) "LetMill$Tokens" "size" "I") ∈ lw_all := lw_g (lw_at lw_m1 111 rfl) rfl
theorem q324 : (Jvm.Cond.fieldLink "LetMill" (353 : Nat) "LetMill$Tokens" "kind" "[I") ∈ lw_all := lw_g (lw_at lw_m1 114 rfl) rfl
theorem q330 : (Jvm.Cond.fieldLink "LetMill" (237 : Nat) "LetMill$Tokens" "from" "[I") ∈ lw_all := lw_g (lw_at lw_m1 120 rfl) rfl
theorem q338 : (Jvm.Cond.fieldLink "LetMill" (352 : Nat) "LetMill$Tokens" "many" "I") ∈ lw_all := lw_g (lw_at lw_m1 128 rfl) rfl
theorem q362 : (Jvm.Cond.classLink "LetMill" (16 : Nat) "LetMill$Types") ∈ lw_all := lw_g (lw_at lw_m1 152 rfl) rfl
theorem q364 : (Jvm.Cond.methodLink "LetMill" (18 : Nat) ({ cls := "LetMill$Types", name := "<init>", desc := "()V" } : Jvm.MethodName)) ∈ lw_all := lw_g (lw_at lw_m1 154 rfl) rfl
theorem q490 : (Jvm.Cond.fieldLink "LetMill" (121 : Nat) "LetMill$Types" "namesMany" "I") ∈ lw_all := lw_g (lw_at lw_m2 40 rfl) rfl
theorem q550 : (Jvm.Cond.classLink "LetMill" (23 : Nat) "LetMill$Machine") ∈ lw_all := lw_g (lw_at lw_m2 100 rfl) rfl
theorem q552 : (Jvm.Cond.methodLink "LetMill" (25 : Nat) ({ cls := "LetMill$Machine", name := "<init>", desc := "()V" } : Jvm.MethodName)) ∈ lw_all := lw_g (lw_at lw_m2 102 rfl) rfl
theorem q576 : (Jvm.Cond.fieldLink "LetMill" (214 : Nat) "LetMill$Row" "many" "I") ∈ lw_all := lw_g (lw_at lw_m2 126 rfl) rfl
theorem q608 : (Jvm.Cond.fieldLink "LetMill" (32 : Nat) "LetMill$Machine" "cons" "LLetMill$Row;") ∈ lw_all := lw_g (lw_at lw_m2 158 rfl) rfl
theorem q620 : (Jvm.Cond.fieldLink "LetMill" (376 : Nat) "LetMill$Machine" "cost" "I") ∈ lw_all := lw_g (lw_at lw_m2 170 rfl) rfl
theorem q622 : (Jvm.Cond.fieldLink "LetMill" (317 : Nat) "LetMill$Machine" "costAll" "I") ∈ lw_all := lw_g (lw_at lw_m2 172 rfl) rfl
theorem q628 : (Jvm.Cond.fieldLink "LetMill" (379 : Nat) "LetMill$Machine" "never" "I") ∈ lw_all := lw_g (lw_at lw_m2 178 rfl) rfl
theorem q674 : (Jvm.Cond.classLink "LetMill" (30 : Nat) "LetMill$Scope") ∈ lw_all := lw_g (lw_at lw_m2 224 rfl) rfl
theorem q676 : (Jvm.Cond.methodLink "LetMill" (36 : Nat) ({ cls := "LetMill$Scope", name := "<init>", desc := "(LLetMill$Tokens;LLetMill$Types;LLetMill$Row;)V" } : Jvm.MethodName)) ∈ lw_all := lw_g (lw_at lw_m2 226 rfl) rfl
theorem q691 : (Jvm.Cond.fieldLink "LetMill" (268 : Nat) "LetMill$Scope" "many" "I") ∈ lw_all := lw_g (lw_at lw_m3 1 rfl) rfl
theorem q694 : (Jvm.Cond.fieldLink "LetMill" (280 : Nat) "LetMill$Scope" "depth" "I") ∈ lw_all := lw_g (lw_at lw_m3 4 rfl) rfl
theorem q698 : (Jvm.Cond.fieldLink "LetMill" (261 : Nat) "LetMill$Scope" "session" "LLetMill$Row;") ∈ lw_all := lw_g (lw_at lw_m3 8 rfl) rfl
theorem q703 : (Jvm.Cond.fieldLink "LetMill" (178 : Nat) "LetMill$Scope" "fault" "I") ∈ lw_all := lw_g (lw_at lw_m3 13 rfl) rfl
theorem q705 : (Jvm.Cond.fieldLink "LetMill" (183 : Nat) "LetMill$Scope" "place" "I") ∈ lw_all := lw_g (lw_at lw_m3 15 rfl) rfl
theorem q707 : (Jvm.Cond.fieldLink "LetMill" (295 : Nat) "LetMill$Scope" "consBefore" "I") ∈ lw_all := lw_g (lw_at lw_m3 17 rfl) rfl
theorem q709 : (Jvm.Cond.fieldLink "LetMill" (286 : Nat) "LetMill$Scope" "namesBefore" "I") ∈ lw_all := lw_g (lw_at lw_m3 19 rfl) rfl
theorem q744 : (Jvm.Cond.classLink "LetMill" (43 : Nat) "LetMill$Matches") ∈ lw_all := lw_g (lw_at lw_m3 54 rfl) rfl
theorem q746 : (Jvm.Cond.methodLinkNest "LetMill" (45 : Nat) ({ cls := "LetMill$Matches", name := "<init>", desc := "()V" } : Jvm.MethodName) "LetMill") ∈ lw_tbl := lw_at lw_m3 56 rfl
theorem q762 : (Jvm.Cond.fieldLink "LetMill" (308 : Nat) "LetMill$Matches" "warnings" "I") ∈ lw_all := lw_g (lw_at lw_m3 72 rfl) rfl
theorem q789 : (Jvm.Cond.classLink "LetMill" (50 : Nat) "LetMill$Typer") ∈ lw_all := lw_g (lw_at lw_m3 99 rfl) rfl
theorem q791 : (Jvm.Cond.methodLink "LetMill" (52 : Nat) ({ cls := "LetMill$Typer", name := "<init>", desc := "(LLetMill$Types;LLetMill$Tokens;LLetMill$Matches;)V" } : Jvm.MethodName)) ∈ lw_all := lw_g (lw_at lw_m3 101 rfl) rfl
theorem q837 : (Jvm.Cond.fieldLink "LetMill" (162 : Nat) "LetMill$Typer" "many" "I") ∈ lw_all := lw_g (lw_at lw_m3 147 rfl) rfl
theorem q852 : (Jvm.Cond.classLink "LetMill" (59 : Nat) "LetMill$Reader") ∈ lw_all := lw_g (lw_at lw_m3 162 rfl) rfl
theorem q854 : (Jvm.Cond.methodLink "LetMill" (61 : Nat) ({ cls := "LetMill$Reader", name := "<init>", desc := "(LLetMill$Tokens;)V" } : Jvm.MethodName)) ∈ lw_all := lw_g (lw_at lw_m3 164 rfl) rfl
theorem q874 : (Jvm.Cond.classLink "LetMill" (68 : Nat) "LetMill$Printer") ∈ lw_all := lw_g (lw_at lw_m3 184 rfl) rfl
theorem q876 : (Jvm.Cond.methodLink "LetMill" (70 : Nat) ({ cls := "LetMill$Printer", name := "<init>", desc := "(LLetMill$Types;LLetMill$Machine;)V" } : Jvm.MethodName)) ∈ lw_all := lw_g (lw_at lw_m3 186 rfl) rfl
theorem q882 : (Jvm.Cond.fieldLink "LetMill" (368 : Nat) "LetMill$Printer" "size" "I") ∈ lw_all := lw_g (lw_at lw_m3 192 rfl) rfl
theorem q900 : (Jvm.Cond.classLink "LetMill" (85 : Nat) "LetMill$Row") ∈ lw_all := lw_g (lw_at lw_m3 210 rfl) rfl
theorem q901 : (Jvm.Cond.methodLinkNest "LetMill" (87 : Nat) ({ cls := "LetMill$Row", name := "<init>", desc := "()V" } : Jvm.MethodName) "LetMill") ∈ lw_tbl := lw_at lw_m3 211 rfl
theorem q902 : (Jvm.Cond.stringRef "LetMill" (104 : Nat) "not") ∈ lw_tbl := lw_at lw_m3 212 rfl
theorem q903 : (Jvm.Cond.methodLink "LetMill" (106 : Nat) ({ cls := "LetMill$Machine", name := "builtIn", desc := "(I)I" } : Jvm.MethodName)) ∈ lw_all := lw_g (lw_at lw_m3 213 rfl) rfl
theorem q907 : (Jvm.Cond.methodLink "LetMill" (110 : Nat) ({ cls := "LetMill$Scope", name := "builtIn", desc := "(Ljava/lang/String;I[I)V" } : Jvm.MethodName)) ∈ lw_all := lw_g (lw_at lw_m3 217 rfl) rfl
theorem q919 : (Jvm.Cond.fieldLink "LetMill" (250 : Nat) "LetMill$Binding" "name" "J") ∈ lw_all := lw_g (lw_at lw_m3 229 rfl) rfl
theorem q922 : (Jvm.Cond.fieldLink "LetMill" (254 : Nat) "LetMill$Binding" "more" "J") ∈ lw_all := lw_g (lw_at lw_m3 232 rfl) rfl
theorem q926 : (Jvm.Cond.fieldLink "LetMill" (229 : Nat) "LetMill$Binding" "type" "I") ∈ lw_all := lw_g (lw_at lw_m3 236 rfl) rfl
theorem q931 : (Jvm.Cond.fieldLink "LetMill" (328 : Nat) "LetMill$Binding" "level" "I") ∈ lw_all := lw_g (lw_at lw_m4 1 rfl) rfl
theorem q934 : (Jvm.Cond.fieldLink "LetMill" (273 : Nat) "LetMill$Binding" "written" "[I") ∈ lw_all := lw_g (lw_at lw_m4 4 rfl) rfl
theorem q937 : (Jvm.Cond.fieldLink "LetMill" (334 : Nat) "LetMill$Binding" "value" "I") ∈ lw_all := lw_g (lw_at lw_m4 7 rfl) rfl
theorem q954 : (Jvm.Cond.stringRef "LetMill" (113 : Nat) "ref") ∈ lw_tbl := lw_at lw_m4 24 rfl
theorem q955 : (Jvm.Cond.stringRef "LetMill" (115 : Nat) "ignore") ∈ lw_tbl := lw_at lw_m4 25 rfl
theorem q956 : (Jvm.Cond.stringRef "LetMill" (117 : Nat) "fst") ∈ lw_tbl := lw_at lw_m4 26 rfl
theorem q957 : (Jvm.Cond.stringRef "LetMill" (119 : Nat) "snd") ∈ lw_tbl := lw_at lw_m4 27 rfl
theorem q958 : (Jvm.Cond.fieldLink "LetMill" (10 : Nat) "LetMill" "tokens" "LLetMill$Tokens;") ∈ lw_all := lw_g (lw_at lw_m4 28 rfl) rfl
theorem q959 : (Jvm.Cond.fieldLink "LetMill" (19 : Nat) "LetMill" "types" "LLetMill$Types;") ∈ lw_all := lw_g (lw_at lw_m4 29 rfl) rfl
theorem q960 : (Jvm.Cond.fieldLink "LetMill" (26 : Nat) "LetMill" "machine" "LLetMill$Machine;") ∈ lw_all := lw_g (lw_at lw_m4 30 rfl) rfl
theorem q961 : (Jvm.Cond.fieldLink "LetMill" (39 : Nat) "LetMill" "scope" "LLetMill$Scope;") ∈ lw_all := lw_g (lw_at lw_m4 31 rfl) rfl
theorem q962 : (Jvm.Cond.fieldLink "LetMill" (46 : Nat) "LetMill" "matches" "LLetMill$Matches;") ∈ lw_all := lw_g (lw_at lw_m4 32 rfl) rfl
theorem q963 : (Jvm.Cond.fieldLink "LetMill" (55 : Nat) "LetMill" "typer" "LLetMill$Typer;") ∈ lw_all := lw_g (lw_at lw_m4 33 rfl) rfl
theorem q964 : (Jvm.Cond.fieldLink "LetMill" (64 : Nat) "LetMill" "reader" "LLetMill$Reader;") ∈ lw_all := lw_g (lw_at lw_m4 34 rfl) rfl
theorem q965 : (Jvm.Cond.fieldLink "LetMill" (73 : Nat) "LetMill" "printer" "LLetMill$Printer;") ∈ lw_all := lw_g (lw_at lw_m4 35 rfl) rfl
theorem q966 : (Jvm.Cond.fieldLink "LetMill" (77 : Nat) "LetMill" "input" "[B") ∈ lw_all := lw_g (lw_at lw_m4 36 rfl) rfl
theorem q967 : (Jvm.Cond.fieldLink "LetMill" (133 : Nat) "LetMill" "size" "I") ∈ lw_all := lw_g (lw_at lw_m4 37 rfl) rfl
theorem q968 : (Jvm.Cond.fieldLink "LetMill" (199 : Nat) "LetMill" "fault" "I") ∈ lw_all := lw_g (lw_at lw_m4 38 rfl) rfl
theorem q969 : (Jvm.Cond.fieldLink "LetMill" (81 : Nat) "LetMill" "where" "I") ∈ lw_all := lw_g (lw_at lw_m4 39 rfl) rfl
theorem q970 : (Jvm.Cond.fieldLink "LetMill" (207 : Nat) "LetMill" "ready" "LLetMill$Let;") ∈ lw_all := lw_g (lw_at lw_m4 40 rfl) rfl
theorem q971 : (Jvm.Cond.fieldLink "LetMill" (88 : Nat) "LetMill" "readyNames" "LLetMill$Row;") ∈ lw_all := lw_g (lw_at lw_m4 41 rfl) rfl
theorem q972 : (Jvm.Cond.fieldLink "LetMill" (91 : Nat) "LetMill" "readyTypes" "LLetMill$Row;") ∈ lw_all := lw_g (lw_at lw_m4 42 rfl) rfl
theorem q973 : (Jvm.Cond.fieldLink "LetMill" (94 : Nat) "LetMill" "readyCons" "LLetMill$Row;") ∈ lw_all := lw_g (lw_at lw_m4 43 rfl) rfl
theorem q974 : (Jvm.Cond.fieldLink "LetMill" (283 : Nat) "LetMill" "readyDepth" "I") ∈ lw_all := lw_g (lw_at lw_m4 44 rfl) rfl
theorem q975 : (Jvm.Cond.fieldLink "LetMill" (97 : Nat) "LetMill" "warnedAt" "[I") ∈ lw_all := lw_g (lw_at lw_m4 45 rfl) rfl
theorem q976 : (Jvm.Cond.fieldLink "LetMill" (101 : Nat) "LetMill" "warnedOf" "[I") ∈ lw_all := lw_g (lw_at lw_m4 46 rfl) rfl
theorem q977 : (Jvm.Cond.fieldLink "LetMill" (311 : Nat) "LetMill" "warnings" "I") ∈ lw_all := lw_g (lw_at lw_m4 47 rfl) rfl
theorem q978 : (Jvm.Cond.fieldLink "LetMill" (124 : Nat) "LetMill" "kept" "I") ∈ lw_all := lw_g (lw_at lw_m4 48 rfl) rfl
theorem q979 : (Jvm.Cond.laysFinal "LetMill" "LetMill" "tokens" "LLetMill$Tokens;") ∈ lw_all := lw_g (lw_at lw_m4 49 rfl) rfl
theorem q981 : (Jvm.Cond.laysFinal "LetMill" "LetMill" "types" "LLetMill$Types;") ∈ lw_all := lw_g (lw_at lw_m4 51 rfl) rfl
theorem q983 : (Jvm.Cond.laysFinal "LetMill" "LetMill" "machine" "LLetMill$Machine;") ∈ lw_all := lw_g (lw_at lw_m4 53 rfl) rfl
theorem q985 : (Jvm.Cond.laysFinal "LetMill" "LetMill" "scope" "LLetMill$Scope;") ∈ lw_all := lw_g (lw_at lw_m4 55 rfl) rfl
theorem q987 : (Jvm.Cond.laysFinal "LetMill" "LetMill" "matches" "LLetMill$Matches;") ∈ lw_all := lw_g (lw_at lw_m4 57 rfl) rfl
theorem q989 : (Jvm.Cond.laysFinal "LetMill" "LetMill" "typer" "LLetMill$Typer;") ∈ lw_all := lw_g (lw_at lw_m4 59 rfl) rfl
theorem q991 : (Jvm.Cond.laysFinal "LetMill" "LetMill" "reader" "LLetMill$Reader;") ∈ lw_all := lw_g (lw_at lw_m4 61 rfl) rfl
theorem q993 : (Jvm.Cond.laysFinal "LetMill" "LetMill" "printer" "LLetMill$Printer;") ∈ lw_all := lw_g (lw_at lw_m4 63 rfl) rfl
theorem q995 : (Jvm.Cond.laysFinal "LetMill" "LetMill" "input" "[B") ∈ lw_all := lw_g (lw_at lw_m4 65 rfl) rfl
theorem q997 : (Jvm.Cond.lays "LetMill" "LetMill" "size" "I") ∈ lw_all := lw_g (lw_at lw_m4 67 rfl) rfl
theorem q999 : (Jvm.Cond.lays "LetMill" "LetMill" "fault" "I") ∈ lw_all := lw_g (lw_at lw_m4 69 rfl) rfl
theorem q1001 : (Jvm.Cond.lays "LetMill" "LetMill" "where" "I") ∈ lw_all := lw_g (lw_at lw_m4 71 rfl) rfl
theorem q1003 : (Jvm.Cond.lays "LetMill" "LetMill" "ready" "LLetMill$Let;") ∈ lw_all := lw_g (lw_at lw_m4 73 rfl) rfl
theorem q1005 : (Jvm.Cond.laysFinal "LetMill" "LetMill" "readyNames" "LLetMill$Row;") ∈ lw_all := lw_g (lw_at lw_m4 75 rfl) rfl
theorem q1007 : (Jvm.Cond.laysFinal "LetMill" "LetMill" "readyTypes" "LLetMill$Row;") ∈ lw_all := lw_g (lw_at lw_m4 77 rfl) rfl
theorem q1009 : (Jvm.Cond.laysFinal "LetMill" "LetMill" "readyCons" "LLetMill$Row;") ∈ lw_all := lw_g (lw_at lw_m4 79 rfl) rfl
theorem q1011 : (Jvm.Cond.lays "LetMill" "LetMill" "readyDepth" "I") ∈ lw_all := lw_g (lw_at lw_m4 81 rfl) rfl
theorem q1013 : (Jvm.Cond.lays "LetMill" "LetMill" "warnedAt" "[I") ∈ lw_all := lw_g (lw_at lw_m4 83 rfl) rfl
theorem q1015 : (Jvm.Cond.lays "LetMill" "LetMill" "warnedOf" "[I") ∈ lw_all := lw_g (lw_at lw_m4 85 rfl) rfl
theorem q1017 : (Jvm.Cond.lays "LetMill" "LetMill" "warnings" "I") ∈ lw_all := lw_g (lw_at lw_m4 87 rfl) rfl
theorem q1019 : (Jvm.Cond.lays "LetMill" "LetMill" "kept" "I") ∈ lw_all := lw_g (lw_at lw_m4 89 rfl) rfl
theorem q1023 : (Jvm.Cond.instanceMethod ({ cls := "LetMill", name := "clear", desc := "()V" } : Jvm.MethodName)) ∈ lw_all := lw_g (lw_at lw_m4 93 rfl) rfl
theorem q1024 : (Jvm.Cond.selects "LetMill" ({ cls := "LetMill", name := "clear", desc := "()V" } : Jvm.MethodName) ({ cls := "LetMill", name := "clear", desc := "()V" } : Jvm.MethodName)) ∈ lw_all := lw_g (lw_at lw_m4 94 rfl) rfl
theorem q1025 : (Jvm.Cond.code ({ cls := "LetMill", name := "clear", desc := "()V" } : Jvm.MethodName) prog_1_method_17_code (1 : Nat) (Option.none : Option Jvm.ClassFile.FieldType)) ∈ lw_all := lw_g (lw_at lw_m4 95 rfl) rfl
theorem q1026 : (Jvm.Cond.methodLink "LetMill" (372 : Nat) ({ cls := "LetMill$Scope", name := "clear", desc := "()V" } : Jvm.MethodName)) ∈ lw_all := lw_g (lw_at lw_m4 96 rfl) rfl
theorem q1030 : (Jvm.Cond.methodLink "LetMill" (375 : Nat) ({ cls := "LetMill$Machine", name := "clear", desc := "()V" } : Jvm.MethodName)) ∈ lw_all := lw_g (lw_at lw_m4 100 rfl) rfl
theorem q1031 : (Jvm.Cond.methodLink "LetMill" (155 : Nat) ({ cls := "LetMill$Types", name := "back", desc := "(I)V" } : Jvm.MethodName)) ∈ lw_all := lw_g (lw_at lw_m4 101 rfl) rfl
theorem q1036 : (Jvm.Cond.instanceMethod ({ cls := "LetMill", name := "count", desc := "(I)I" } : Jvm.MethodName)) ∈ lw_all := lw_g (lw_at lw_m4 106 rfl) rfl
theorem q1037 : (Jvm.Cond.selects "LetMill" ({ cls := "LetMill", name := "count", desc := "(I)I" } : Jvm.MethodName) ({ cls := "LetMill", name := "count", desc := "(I)I" } : Jvm.MethodName)) ∈ lw_all := lw_g (lw_at lw_m4 107 rfl) rfl
theorem q1038 : (Jvm.Cond.code ({ cls := "LetMill", name := "count", desc := "(I)I" } : Jvm.MethodName) prog_1_method_18_code (2 : Nat) (Option.some Jvm.ClassFile.FieldType.int)) ∈ lw_all := lw_g (lw_at lw_m4 108 rfl) rfl
theorem q1044 : (Jvm.Cond.instanceMethod ({ cls := "LetMill", name := "feed", desc := "(IIIII)I" } : Jvm.MethodName)) ∈ lw_all := lw_g (lw_at lw_m4 114 rfl) rfl
theorem q1045 : (Jvm.Cond.selects "LetMill" ({ cls := "LetMill", name := "feed", desc := "(IIIII)I" } : Jvm.MethodName) ({ cls := "LetMill", name := "feed", desc := "(IIIII)I" } : Jvm.MethodName)) ∈ lw_all := lw_g (lw_at lw_m4 115 rfl) rfl
theorem q1046 : (Jvm.Cond.code ({ cls := "LetMill", name := "feed", desc := "(IIIII)I" } : Jvm.MethodName) prog_1_method_5_code (6 : Nat) (Option.some Jvm.ClassFile.FieldType.int)) ∈ lw_all := lw_g (lw_at lw_m4 116 rfl) rfl
theorem q1047 : (Jvm.Cond.classLink "LetMill" (136 : Nat) "java/lang/IndexOutOfBoundsException") ∈ lw_all := lw_g (lw_at lw_m4 117 rfl) rfl
theorem q1090 : (Jvm.Cond.methodLink "LetMill" (138 : Nat) ({ cls := "java/lang/IndexOutOfBoundsException", name := "<init>", desc := "()V" } : Jvm.MethodName)) ∈ lw_all := lw_g (lw_at lw_m4 160 rfl) rfl
theorem q1112 : (Jvm.Cond.methodLink "LetMill" (139 : Nat) ({ cls := "LetMill", name := "word", desc := "(I)V" } : Jvm.MethodName)) ∈ lw_all := lw_g (lw_at lw_m4 182 rfl) rfl
theorem q1114 : (Jvm.Cond.instanceMethod ({ cls := "LetMill", name := "word", desc := "(I)V" } : Jvm.MethodName)) ∈ lw_all := lw_g (lw_at lw_m4 184 rfl) rfl
theorem q1115 : (Jvm.Cond.code ({ cls := "LetMill", name := "word", desc := "(I)V" } : Jvm.MethodName) prog_1_method_4_code (3 : Nat) (Option.none : Option Jvm.ClassFile.FieldType)) ∈ lw_all := lw_g (lw_at lw_m4 185 rfl) rfl
theorem q1121 : (Jvm.Cond.instanceMethod ({ cls := "LetMill", name := "end", desc := "(I)I" } : Jvm.MethodName)) ∈ lw_all := lw_g (lw_at lw_m4 191 rfl) rfl
theorem q1122 : (Jvm.Cond.selects "LetMill" ({ cls := "LetMill", name := "end", desc := "(I)I" } : Jvm.MethodName) ({ cls := "LetMill", name := "end", desc := "(I)I" } : Jvm.MethodName)) ∈ lw_all := lw_g (lw_at lw_m4 192 rfl) rfl
theorem q1123 : (Jvm.Cond.code ({ cls := "LetMill", name := "end", desc := "(I)I" } : Jvm.MethodName) prog_1_method_6_code (2 : Nat) (Option.some Jvm.ClassFile.FieldType.int)) ∈ lw_all := lw_g (lw_at lw_m4 193 rfl) rfl
theorem q1124 : (Jvm.Cond.methodLink "LetMill" (143 : Nat) ({ cls := "LetMill", name := "check", desc := "(Z)V" } : Jvm.MethodName)) ∈ lw_all := lw_g (lw_at lw_m4 194 rfl) rfl
theorem q1125 : (Jvm.Cond.static ({ cls := "LetMill", name := "check", desc := "(Z)V" } : Jvm.MethodName)) ∈ lw_all := lw_g (lw_at lw_m4 195 rfl) rfl
theorem q1126 : (Jvm.Cond.code ({ cls := "LetMill", name := "check", desc := "(Z)V" } : Jvm.MethodName) prog_1_method_2_code (1 : Nat) (Option.none : Option Jvm.ClassFile.FieldType)) ∈ lw_all := lw_g (lw_at lw_m4 196 rfl) rfl
theorem q1127 : (Jvm.Cond.classLink "LetMill" (127 : Nat) "java/lang/IllegalArgumentException") ∈ lw_all := lw_g (lw_at lw_m4 197 rfl) rfl
theorem q1136 : (Jvm.Cond.methodLink "LetMill" (129 : Nat) ({ cls := "java/lang/IllegalArgumentException", name := "<init>", desc := "()V" } : Jvm.MethodName)) ∈ lw_all := lw_g (lw_at lw_m4 206 rfl) rfl
theorem q1147 : (Jvm.Cond.instanceMethod ({ cls := "LetMill", name := "build", desc := "()I" } : Jvm.MethodName)) ∈ lw_all := lw_g (lw_at lw_m4 217 rfl) rfl
theorem q1148 : (Jvm.Cond.selects "LetMill" ({ cls := "LetMill", name := "build", desc := "()I" } : Jvm.MethodName) ({ cls := "LetMill", name := "build", desc := "()I" } : Jvm.MethodName)) ∈ lw_all := lw_g (lw_at lw_m4 218 rfl) rfl
theorem q1149 : (Jvm.Cond.codeWith ({ cls := "LetMill", name := "build", desc := "()I" } : Jvm.MethodName) prog_1_method_8_code (2 : Nat) (Option.some Jvm.ClassFile.FieldType.int) [((37 : Nat), (104 : Nat), (107 : Nat), (181 : Nat))]) ∈ lw_all := lw_g (lw_at lw_m4 219 rfl) rfl
theorem q1150 : (Jvm.Cond.classLink "LetMill" (181 : Nat) "LetMill$Fault") ∈ lw_all := lw_g (lw_at lw_m4 220 rfl) rfl
theorem q1151 : (Jvm.Cond.methodLink "LetMill" (154 : Nat) ({ cls := "LetMill", name := "cut", desc := "()V" } : Jvm.MethodName)) ∈ lw_all := lw_g (lw_at lw_m4 221 rfl) rfl
theorem q1153 : (Jvm.Cond.instanceMethod ({ cls := "LetMill", name := "cut", desc := "()V" } : Jvm.MethodName)) ∈ lw_all := lw_g (lw_at lw_m4 223 rfl) rfl
theorem q1154 : (Jvm.Cond.code ({ cls := "LetMill", name := "cut", desc := "()V" } : Jvm.MethodName) prog_1_method_7_code (2 : Nat) (Option.none : Option Jvm.ClassFile.FieldType)) ∈ lw_all := lw_g (lw_at lw_m4 224 rfl) rfl
theorem q1155 : (Jvm.Cond.methodLink "LetMill" (151 : Nat) ({ cls := "LetMill$Tokens", name := "cut", desc := "()V" } : Jvm.MethodName)) ∈ lw_all := lw_g (lw_at lw_m4 225 rfl) rfl
theorem q1261 : (Jvm.Cond.methodLink "LetMill" (158 : Nat) ({ cls := "LetMill$Matches", name := "begin", desc := "()V" } : Jvm.MethodName)) ∈ lw_all := lw_g (lw_at lw_m5 91 rfl) rfl
theorem q1265 : (Jvm.Cond.methodLink "LetMill" (161 : Nat) ({ cls := "LetMill$Scope", name := "begin", desc := "()V" } : Jvm.MethodName)) ∈ lw_all := lw_g (lw_at lw_m5 95 rfl) rfl
theorem q1269 : (Jvm.Cond.classLink "LetMill" (165 : Nat) "LetMill$Let") ∈ lw_all := lw_g (lw_at lw_m5 99 rfl) rfl
theorem q1271 : (Jvm.Cond.methodLink "LetMill" (167 : Nat) ({ cls := "LetMill$Reader", name := "read", desc := "()LLetMill$Row;" } : Jvm.MethodName)) ∈ lw_all := lw_g (lw_at lw_m5 101 rfl) rfl
theorem q1307 : (Jvm.Cond.fieldLink "LetMill" (196 : Nat) "LetMill$Fault" "number" "I") ∈ lw_all := lw_g (lw_at lw_m5 137 rfl) rfl
theorem q1309 : (Jvm.Cond.fieldLink "LetMill" (200 : Nat) "LetMill$Fault" "place" "I") ∈ lw_all := lw_g (lw_at lw_m5 139 rfl) rfl
theorem q1732 : (Jvm.Cond.fieldLink "LetMill" (211 : Nat) "LetMill$Let" "decs" "LLetMill$Row;") ∈ lw_all := lw_g (lw_at lw_m7 82 rfl) rfl
theorem q1833 : (Jvm.Cond.fieldLink "LetMill" (240 : Nat) "LetMill$Dec" "token" "I") ∈ lw_all := lw_g (lw_at lw_m7 183 rfl) rfl
theorem q2023 : (Jvm.Cond.methodLink "LetMill" (171 : Nat) ({ cls := "LetMill$Let", name := "<init>", desc := "(ILLetMill$Row;LLetMill$Exp;)V" } : Jvm.MethodName)) ∈ lw_all := lw_g (lw_at lw_m8 133 rfl) rfl
theorem q2024 : (Jvm.Cond.methodLink "LetMill" (174 : Nat) ({ cls := "LetMill$Let", name := "resolve", desc := "(LLetMill$Scope;)V" } : Jvm.MethodName)) ∈ lw_all := lw_g (lw_at lw_m8 134 rfl) rfl
theorem q2322 : (Jvm.Cond.methodLink "LetMill" (186 : Nat) ({ cls := "LetMill$Fault", name := "<init>", desc := "(II)V" } : Jvm.MethodName)) ∈ lw_all := lw_g (lw_at lw_m9 192 rfl) rfl
theorem q2323 : (Jvm.Cond.methodLink "LetMill" (189 : Nat) ({ cls := "LetMill", name := "inferred", desc := "(LLetMill$Let;)V" } : Jvm.MethodName)) ∈ lw_all := lw_g (lw_at lw_m9 193 rfl) rfl
theorem q2325 : (Jvm.Cond.instanceMethod ({ cls := "LetMill", name := "inferred", desc := "(LLetMill$Let;)V" } : Jvm.MethodName)) ∈ lw_all := lw_g (lw_at lw_m9 195 rfl) rfl
theorem q2326 : (Jvm.Cond.code ({ cls := "LetMill", name := "inferred", desc := "(LLetMill$Let;)V" } : Jvm.MethodName) prog_1_method_9_code (5 : Nat) (Option.none : Option Jvm.ClassFile.FieldType)) ∈ lw_all := lw_g (lw_at lw_m9 196 rfl) rfl
theorem q2327 : (Jvm.Cond.methodLink "LetMill" (215 : Nat) ({ cls := "LetMill$Row", name := "dec", desc := "(I)LLetMill$Dec;" } : Jvm.MethodName)) ∈ lw_all := lw_g (lw_at lw_m9 197 rfl) rfl
theorem q2328 : (Jvm.Cond.methodLink "LetMill" (219 : Nat) ({ cls := "LetMill$Dec", name := "infer", desc := "(LLetMill$Typer;)V" } : Jvm.MethodName)) ∈ lw_all := lw_g (lw_at lw_m9 198 rfl) rfl
theorem q2800 : (Jvm.Cond.methodLink "LetMill" (225 : Nat) ({ cls := "LetMill$Scope", name := "bound", desc := "(I)LLetMill$Binding;" } : Jvm.MethodName)) ∈ lw_all := lw_g (lw_at lw_m11 190 rfl) rfl
theorem q2804 : (Jvm.Cond.methodLink "LetMill" (234 : Nat) ({ cls := "LetMill$Types", name := "size", desc := "(II)I" } : Jvm.MethodName)) ∈ lw_all := lw_g (lw_at lw_m11 194 rfl) rfl
theorem q2805 : (Jvm.Cond.methodLink "LetMill" (243 : Nat) ({ cls := "LetMill", name := "wouldBe", desc := "()I" } : Jvm.MethodName)) ∈ lw_all := lw_g (lw_at lw_m11 195 rfl) rfl
theorem q2807 : (Jvm.Cond.instanceMethod ({ cls := "LetMill", name := "wouldBe", desc := "()I" } : Jvm.MethodName)) ∈ lw_all := lw_g (lw_at lw_m11 197 rfl) rfl
theorem q2808 : (Jvm.Cond.code ({ cls := "LetMill", name := "wouldBe", desc := "()I" } : Jvm.MethodName) prog_1_method_11_code (3 : Nat) (Option.some Jvm.ClassFile.FieldType.int)) ∈ lw_all := lw_g (lw_at lw_m11 198 rfl) rfl
theorem q2809 : (Jvm.Cond.methodLink "LetMill" (257 : Nat) ({ cls := "LetMill", name := "isHidden", desc := "(LLetMill$Binding;I)Z" } : Jvm.MethodName)) ∈ lw_all := lw_g (lw_at lw_m11 199 rfl) rfl
theorem q2811 : (Jvm.Cond.instanceMethod ({ cls := "LetMill", name := "isHidden", desc := "(LLetMill$Binding;I)Z" } : Jvm.MethodName)) ∈ lw_all := lw_g (lw_at lw_m11 201 rfl) rfl
theorem q2812 : (Jvm.Cond.code ({ cls := "LetMill", name := "isHidden", desc := "(LLetMill$Binding;I)Z" } : Jvm.MethodName) prog_1_method_10_code (4 : Nat) (Option.some Jvm.ClassFile.FieldType.boolean)) ∈ lw_all := lw_g (lw_at lw_m11 202 rfl) rfl
theorem q2813 : (Jvm.Cond.methodLink "LetMill" (264 : Nat) ({ cls := "LetMill$Row", name := "get", desc := "(I)Ljava/lang/Object;" } : Jvm.MethodName)) ∈ lw_all := lw_g (lw_at lw_m11 203 rfl) rfl
theorem q2814 : (Jvm.Cond.classLink "LetMill" (230 : Nat) "LetMill$Binding") ∈ lw_all := lw_g (lw_at lw_m11 204 rfl) rfl
theorem q2815 : (Jvm.Cond.methodLink "LetMill" (247 : Nat) ({ cls := "LetMill$Types", name := "settle", desc := "(I)V" } : Jvm.MethodName)) ∈ lw_all := lw_g (lw_at lw_m11 205 rfl) rfl
theorem q2820 : (Jvm.Cond.methodLink "LetMill" (193 : Nat) ({ cls := "LetMill", name := "keep", desc := "(LLetMill$Let;)V" } : Jvm.MethodName)) ∈ lw_all := lw_g (lw_at lw_m11 210 rfl) rfl
theorem q2822 : (Jvm.Cond.instanceMethod ({ cls := "LetMill", name := "keep", desc := "(LLetMill$Let;)V" } : Jvm.MethodName)) ∈ lw_all := lw_g (lw_at lw_m11 212 rfl) rfl
theorem q2823 : (Jvm.Cond.code ({ cls := "LetMill", name := "keep", desc := "(LLetMill$Let;)V" } : Jvm.MethodName) prog_1_method_12_code (4 : Nat) (Option.none : Option Jvm.ClassFile.FieldType)) ∈ lw_all := lw_g (lw_at lw_m11 213 rfl) rfl
theorem q2824 : (Jvm.Cond.methodLink "LetMill" (269 : Nat) ({ cls := "LetMill$Types", name := "write", desc := "(I)[I" } : Jvm.MethodName)) ∈ lw_all := lw_g (lw_at lw_m11 214 rfl) rfl
theorem q2825 : (Jvm.Cond.methodLink "LetMill" (276 : Nat) ({ cls := "LetMill$Row", name := "add", desc := "(Ljava/lang/Object;)V" } : Jvm.MethodName)) ∈ lw_all := lw_g (lw_at lw_m11 215 rfl) rfl
theorem q2826 : (Jvm.Cond.methodLink "LetMill" (289 : Nat) ({ cls := "LetMill$Scope", name := "namesMany", desc := "()I" } : Jvm.MethodName)) ∈ lw_all := lw_g (lw_at lw_m11 216 rfl) rfl
theorem q2827 : (Jvm.Cond.methodLink "LetMill" (291 : Nat) ({ cls := "LetMill$Scope", name := "typeAt", desc := "(I)LLetMill$TypeName;" } : Jvm.MethodName)) ∈ lw_all := lw_g (lw_at lw_m11 217 rfl) rfl
theorem q2831 : (Jvm.Cond.methodLink "LetMill" (298 : Nat) ({ cls := "LetMill$Scope", name := "consMany", desc := "()I" } : Jvm.MethodName)) ∈ lw_all := lw_g (lw_at lw_m11 221 rfl) rfl
theorem q2832 : (Jvm.Cond.methodLink "LetMill" (301 : Nat) ({ cls := "LetMill$Scope", name := "conAt", desc := "(I)LLetMill$Con;" } : Jvm.MethodName)) ∈ lw_all := lw_g (lw_at lw_m11 222 rfl) rfl
theorem q2836 : (Jvm.Cond.methodLink "LetMill" (305 : Nat) ({ cls := "LetMill$Scope", name := "forget", desc := "()V" } : Jvm.MethodName)) ∈ lw_all := lw_g (lw_at lw_m11 226 rfl) rfl
theorem q2840 : (Jvm.Cond.methodLink "LetMill" (312 : Nat) ({ cls := "LetMill$Matches", name := "place", desc := "(I)I" } : Jvm.MethodName)) ∈ lw_all := lw_g (lw_at lw_m11 230 rfl) rfl
theorem q2844 : (Jvm.Cond.methodLink "LetMill" (314 : Nat) ({ cls := "LetMill$Matches", name := "what", desc := "(I)I" } : Jvm.MethodName)) ∈ lw_all := lw_g (lw_at lw_m11 234 rfl) rfl
theorem q2848 : (Jvm.Cond.methodLink "LetMill" (201 : Nat) ({ cls := "LetMill$Scope", name := "drop", desc := "()V" } : Jvm.MethodName)) ∈ lw_all := lw_g (lw_at lw_m11 238 rfl) rfl
theorem q2853 : (Jvm.Cond.classLink "LetMill" (204 : Nat) "java/lang/IllegalStateException") ∈ lw_all := lw_g (lw_at lw_m12 3 rfl) rfl
theorem q2862 : (Jvm.Cond.methodLink "LetMill" (206 : Nat) ({ cls := "java/lang/IllegalStateException", name := "<init>", desc := "()V" } : Jvm.MethodName)) ∈ lw_all := lw_g (lw_at lw_m12 12 rfl) rfl
theorem q2872 : (Jvm.Cond.instanceMethod ({ cls := "LetMill", name := "run", desc := "(I)I" } : Jvm.MethodName)) ∈ lw_all := lw_g (lw_at lw_m12 22 rfl) rfl
theorem q2873 : (Jvm.Cond.selects "LetMill" ({ cls := "LetMill", name := "run", desc := "(I)I" } : Jvm.MethodName) ({ cls := "LetMill", name := "run", desc := "(I)I" } : Jvm.MethodName)) ∈ lw_all := lw_g (lw_at lw_m12 23 rfl) rfl
theorem q2874 : (Jvm.Cond.code ({ cls := "LetMill", name := "run", desc := "(I)I" } : Jvm.MethodName) prog_1_method_13_code (6 : Nat) (Option.some Jvm.ClassFile.FieldType.int)) ∈ lw_all := lw_g (lw_at lw_m12 24 rfl) rfl
theorem q2875 : (Jvm.Cond.constant "LetMill" (320 : Nat) (120000 : Int32)) ∈ lw_all := lw_g (lw_at lw_m12 25 rfl) rfl
theorem q2876 : (Jvm.Cond.methodLink "LetMill" (321 : Nat) ({ cls := "LetMill$Machine", name := "run", desc := "(LLetMill$Exp;I)I" } : Jvm.MethodName)) ∈ lw_all := lw_g (lw_at lw_m12 26 rfl) rfl
theorem q3288 : (Jvm.Cond.methodLink "LetMill" (325 : Nat) ({ cls := "LetMill$Machine", name := "end", desc := "()I" } : Jvm.MethodName)) ∈ lw_all := lw_g (lw_at lw_m13 198 rfl) rfl
theorem q3292 : (Jvm.Cond.methodLink "LetMill" (331 : Nat) ({ cls := "LetMill$Machine", name := "known", desc := "(II)I" } : Jvm.MethodName)) ∈ lw_all := lw_g (lw_at lw_m13 202 rfl) rfl
theorem q3293 : (Jvm.Cond.methodLink "LetMill" (337 : Nat) ({ cls := "LetMill$Scope", name := "keep", desc := "(LLetMill$Binding;)V" } : Jvm.MethodName)) ∈ lw_all := lw_g (lw_at lw_m13 203 rfl) rfl
theorem q3301 : (Jvm.Cond.classLink "LetMill" (340 : Nat) "LetMill$TypeName") ∈ lw_all := lw_g (lw_at lw_m13 211 rfl) rfl
theorem q3302 : (Jvm.Cond.methodLink "LetMill" (342 : Nat) ({ cls := "LetMill$Scope", name := "addName", desc := "(LLetMill$TypeName;)V" } : Jvm.MethodName)) ∈ lw_all := lw_g (lw_at lw_m13 212 rfl) rfl
theorem q3303 : (Jvm.Cond.classLink "LetMill" (346 : Nat) "LetMill$Con") ∈ lw_all := lw_g (lw_at lw_m13 213 rfl) rfl
theorem q3304 : (Jvm.Cond.methodLink "LetMill" (348 : Nat) ({ cls := "LetMill$Scope", name := "addCon", desc := "(LLetMill$Con;)V" } : Jvm.MethodName)) ∈ lw_all := lw_g (lw_at lw_m13 214 rfl) rfl
theorem q3310 : (Jvm.Cond.instanceMethod ({ cls := "LetMill", name := "look", desc := "(I)I" } : Jvm.MethodName)) ∈ lw_all := lw_g (lw_at lw_m13 220 rfl) rfl
theorem q3311 : (Jvm.Cond.selects "LetMill" ({ cls := "LetMill", name := "look", desc := "(I)I" } : Jvm.MethodName) ({ cls := "LetMill", name := "look", desc := "(I)I" } : Jvm.MethodName)) ∈ lw_all := lw_g (lw_at lw_m13 221 rfl) rfl
theorem q3312 : (Jvm.Cond.code ({ cls := "LetMill", name := "look", desc := "(I)I" } : Jvm.MethodName) prog_1_method_14_code (3 : Nat) (Option.some Jvm.ClassFile.FieldType.int)) ∈ lw_all := lw_g (lw_at lw_m13 222 rfl) rfl
theorem q3313 : (Jvm.Cond.methodLink "LetMill" (358 : Nat) ({ cls := "LetMill", name := "there", desc := "(Z)V" } : Jvm.MethodName)) ∈ lw_all := lw_g (lw_at lw_m13 223 rfl) rfl
theorem q3314 : (Jvm.Cond.static ({ cls := "LetMill", name := "there", desc := "(Z)V" } : Jvm.MethodName)) ∈ lw_all := lw_g (lw_at lw_m13 224 rfl) rfl
theorem q3315 : (Jvm.Cond.code ({ cls := "LetMill", name := "there", desc := "(Z)V" } : Jvm.MethodName) prog_1_method_3_code (1 : Nat) (Option.none : Option Jvm.ClassFile.FieldType)) ∈ lw_all := lw_g (lw_at lw_m13 225 rfl) rfl
theorem q3316 : (Jvm.Cond.classLink "LetMill" (130 : Nat) "java/util/NoSuchElementException") ∈ lw_all := lw_g (lw_at lw_m13 226 rfl) rfl
theorem q3325 : (Jvm.Cond.methodLink "LetMill" (132 : Nat) ({ cls := "java/util/NoSuchElementException", name := "<init>", desc := "()V" } : Jvm.MethodName)) ∈ lw_all := lw_g (lw_at lw_m13 235 rfl) rfl
theorem q3331 : (Jvm.Cond.methodLink "LetMill" (361 : Nat) ({ cls := "LetMill$Scope", name := "name", desc := "(I)LLetMill$Binding;" } : Jvm.MethodName)) ∈ lw_all := lw_g (lw_at lw_m14 1 rfl) rfl
theorem q3332 : (Jvm.Cond.methodLink "LetMill" (363 : Nat) ({ cls := "LetMill$Printer", name := "type", desc := "([I)V" } : Jvm.MethodName)) ∈ lw_all := lw_g (lw_at lw_m14 2 rfl) rfl
theorem q3366 : (Jvm.Cond.methodLink "LetMill" (366 : Nat) ({ cls := "LetMill$Printer", name := "value", desc := "(I)V" } : Jvm.MethodName)) ∈ lw_all := lw_g (lw_at lw_m14 36 rfl) rfl
theorem q3403 : (Jvm.Cond.instanceMethod ({ cls := "LetMill", name := "letter", desc := "(I)I" } : Jvm.MethodName)) ∈ lw_all := lw_g (lw_at lw_m14 73 rfl) rfl
theorem q3404 : (Jvm.Cond.selects "LetMill" ({ cls := "LetMill", name := "letter", desc := "(I)I" } : Jvm.MethodName) ({ cls := "LetMill", name := "letter", desc := "(I)I" } : Jvm.MethodName)) ∈ lw_all := lw_g (lw_at lw_m14 74 rfl) rfl
theorem q3405 : (Jvm.Cond.code ({ cls := "LetMill", name := "letter", desc := "(I)I" } : Jvm.MethodName) prog_1_method_15_code (2 : Nat) (Option.some Jvm.ClassFile.FieldType.int)) ∈ lw_all := lw_g (lw_at lw_m14 75 rfl) rfl
theorem q3406 : (Jvm.Cond.methodLink "LetMill" (369 : Nat) ({ cls := "LetMill$Printer", name := "letter", desc := "(I)I" } : Jvm.MethodName)) ∈ lw_all := lw_g (lw_at lw_m14 76 rfl) rfl
theorem q3414 : (Jvm.Cond.instanceMethod ({ cls := "LetMill", name := "warning", desc := "(II)I" } : Jvm.MethodName)) ∈ lw_all := lw_g (lw_at lw_m14 84 rfl) rfl
theorem q3415 : (Jvm.Cond.selects "LetMill" ({ cls := "LetMill", name := "warning", desc := "(II)I" } : Jvm.MethodName) ({ cls := "LetMill", name := "warning", desc := "(II)I" } : Jvm.MethodName)) ∈ lw_all := lw_g (lw_at lw_m14 85 rfl) rfl
theorem q3416 : (Jvm.Cond.code ({ cls := "LetMill", name := "warning", desc := "(II)I" } : Jvm.MethodName) prog_1_method_16_code (3 : Nat) (Option.some Jvm.ClassFile.FieldType.int)) ∈ lw_all := lw_g (lw_at lw_m14 86 rfl) rfl
def RX2 : String := "LetMill$Tokens"
abbrev cX2_init : ByteArray := prog_44_method_1_code
def yX2_init : MethodName := ⟨RX2, "<init>", "()V"⟩
abbrev cX2_cut : ByteArray := prog_44_method_7_code
def yX2_cut : MethodName := ⟨RX2, "cut", "()V"⟩
abbrev cX2_look : ByteArray := prog_44_method_2_code
def yX2_look : MethodName := ⟨RX2, "look", "(I)I"⟩
abbrev cX2_small : ByteArray := prog_44_method_3_code
def yX2_small : MethodName := ⟨RX2, "small", "(I)Z"⟩
abbrev cX2_great : ByteArray := prog_44_method_4_code
def yX2_great : MethodName := ⟨RX2, "great", "(I)Z"⟩
abbrev cX2_word : ByteArray := prog_44_method_8_code
def yX2_word : MethodName := ⟨RX2, "word", "(I)Z"⟩
abbrev cX2_add : ByteArray := prog_44_method_6_code
def yX2_add : MethodName := ⟨RX2, "add", "(II)V"⟩
abbrev cX2_digit : ByteArray := prog_44_method_5_code
def yX2_digit : MethodName := ⟨RX2, "digit", "(I)Z"⟩
abbrev cX2_kindOf : ByteArray := prog_44_method_9_code
def yX2_kindOf : MethodName := ⟨RX2, "kindOf", "(II)I"⟩
abbrev cX2_number : ByteArray := prog_44_method_10_code
def yX2_number : MethodName := ⟨RX2, "number", "()Z"⟩
abbrev cX2_sign : ByteArray := prog_44_method_11_code
def yX2_sign : MethodName := ⟨RX2, "sign", "(I)Z"⟩
theorem q212 : (Jvm.Cond.initialized "LetMill$Tokens") ∈ lw_all := lw_g (lw_at lw_m1 2 rfl) rfl
theorem q291 : (Jvm.Cond.instantiable "LetMill$Tokens" (9 : Nat)) ∈ lw_all := lw_g (lw_at lw_m1 81 rfl) rfl
theorem q293 : (Jvm.Cond.instanceMethod ({ cls := "LetMill$Tokens", name := "<init>", desc := "()V" } : Jvm.MethodName)) ∈ lw_all := lw_g (lw_at lw_m1 83 rfl) rfl
theorem q294 : (Jvm.Cond.code ({ cls := "LetMill$Tokens", name := "<init>", desc := "()V" } : Jvm.MethodName) prog_44_method_1_code (1 : Nat) (Option.none : Option Jvm.ClassFile.FieldType)) ∈ lw_all := lw_g (lw_at lw_m1 84 rfl) rfl
theorem q295 : (Jvm.Cond.methodLink "LetMill$Tokens" (3 : Nat) ({ cls := "java/lang/Object", name := "<init>", desc := "()V" } : Jvm.MethodName)) ∈ lw_all := lw_g (lw_at lw_m1 85 rfl) rfl
theorem q296 : (Jvm.Cond.classLink "LetMill$Tokens" (9 : Nat) "java/lang/String") ∈ lw_all := lw_g (lw_at lw_m1 86 rfl) rfl
theorem q298 : (Jvm.Cond.stringRef "LetMill$Tokens" (11 : Nat) "and") ∈ lw_tbl := lw_at lw_m1 88 rfl
theorem q299 : (Jvm.Cond.stringRef "LetMill$Tokens" (13 : Nat) "case") ∈ lw_tbl := lw_at lw_m1 89 rfl
theorem q300 : (Jvm.Cond.stringRef "LetMill$Tokens" (15 : Nat) "datatype") ∈ lw_tbl := lw_at lw_m1 90 rfl
theorem q301 : (Jvm.Cond.stringRef "LetMill$Tokens" (17 : Nat) "div") ∈ lw_tbl := lw_at lw_m1 91 rfl
theorem q302 : (Jvm.Cond.stringRef "LetMill$Tokens" (19 : Nat) "else") ∈ lw_tbl := lw_at lw_m1 92 rfl
theorem q303 : (Jvm.Cond.stringRef "LetMill$Tokens" (21 : Nat) "end") ∈ lw_tbl := lw_at lw_m1 93 rfl
theorem q304 : (Jvm.Cond.stringRef "LetMill$Tokens" (23 : Nat) "fn") ∈ lw_tbl := lw_at lw_m1 94 rfl
theorem q305 : (Jvm.Cond.stringRef "LetMill$Tokens" (25 : Nat) "fun") ∈ lw_tbl := lw_at lw_m1 95 rfl
theorem q306 : (Jvm.Cond.stringRef "LetMill$Tokens" (27 : Nat) "if") ∈ lw_tbl := lw_at lw_m1 96 rfl
theorem q307 : (Jvm.Cond.stringRef "LetMill$Tokens" (29 : Nat) "in") ∈ lw_tbl := lw_at lw_m1 97 rfl
theorem q308 : (Jvm.Cond.stringRef "LetMill$Tokens" (31 : Nat) "let") ∈ lw_tbl := lw_at lw_m1 98 rfl
theorem q309 : (Jvm.Cond.stringRef "LetMill$Tokens" (33 : Nat) "mod") ∈ lw_tbl := lw_at lw_m1 99 rfl
theorem q310 : (Jvm.Cond.stringRef "LetMill$Tokens" (35 : Nat) "of") ∈ lw_tbl := lw_at lw_m1 100 rfl
theorem q311 : (Jvm.Cond.stringRef "LetMill$Tokens" (37 : Nat) "orelse") ∈ lw_tbl := lw_at lw_m1 101 rfl
theorem q312 : (Jvm.Cond.stringRef "LetMill$Tokens" (39 : Nat) "andalso") ∈ lw_tbl := lw_at lw_m1 102 rfl
theorem q313 : (Jvm.Cond.stringRef "LetMill$Tokens" (41 : Nat) "then") ∈ lw_tbl := lw_at lw_m1 103 rfl
theorem q314 : (Jvm.Cond.stringRef "LetMill$Tokens" (43 : Nat) "true") ∈ lw_tbl := lw_at lw_m1 104 rfl
theorem q315 : (Jvm.Cond.stringRef "LetMill$Tokens" (45 : Nat) "false") ∈ lw_tbl := lw_at lw_m1 105 rfl
theorem q316 : (Jvm.Cond.stringRef "LetMill$Tokens" (47 : Nat) "val") ∈ lw_tbl := lw_at lw_m1 106 rfl
theorem q317 : (Jvm.Cond.fieldLink "LetMill$Tokens" (49 : Nat) "LetMill$Tokens" "words" "[Ljava/lang/String;") ∈ lw_all := lw_g (lw_at lw_m1 107 rfl) rfl
theorem q318 : (Jvm.Cond.fieldLink "LetMill$Tokens" (55 : Nat) "LetMill$Tokens" "text" "[B") ∈ lw_all := lw_g (lw_at lw_m1 108 rfl) rfl
theorem q320 : (Jvm.Cond.fieldLink "LetMill$Tokens" (77 : Nat) "LetMill$Tokens" "size" "I") ∈ lw_all := lw_g (lw_at lw_m1 110 rfl) rfl
theorem q322 : (Jvm.Cond.fieldLink "LetMill$Tokens" (59 : Nat) "LetMill$Tokens" "kind" "[I") ∈ lw_all := lw_g (lw_at lw_m1 112 rfl) rfl
theorem q325 : (Jvm.Cond.fieldLink "LetMill$Tokens" (63 : Nat) "LetMill$Tokens" "from" "[I") ∈ lw_all := lw_g (lw_at lw_m1 115 rfl) rfl
theorem q332 : (Jvm.Cond.fieldLink "LetMill$Tokens" (66 : Nat) "LetMill$Tokens" "value" "[J") ∈ lw_all := lw_g (lw_at lw_m1 122 rfl) rfl
theorem q335 : (Jvm.Cond.fieldLink "LetMill$Tokens" (70 : Nat) "LetMill$Tokens" "more" "[J") ∈ lw_all := lw_g (lw_at lw_m1 125 rfl) rfl
theorem q337 : (Jvm.Cond.fieldLink "LetMill$Tokens" (80 : Nat) "LetMill$Tokens" "many" "I") ∈ lw_all := lw_g (lw_at lw_m1 127 rfl) rfl
theorem q339 : (Jvm.Cond.fieldLink "LetMill$Tokens" (73 : Nat) "LetMill$Tokens" "at" "I") ∈ lw_all := lw_g (lw_at lw_m1 129 rfl) rfl
theorem q340 : (Jvm.Cond.laysFinal "LetMill$Tokens" "LetMill$Tokens" "words" "[Ljava/lang/String;") ∈ lw_all := lw_g (lw_at lw_m1 130 rfl) rfl
theorem q342 : (Jvm.Cond.laysFinal "LetMill$Tokens" "LetMill$Tokens" "text" "[B") ∈ lw_all := lw_g (lw_at lw_m1 132 rfl) rfl
theorem q344 : (Jvm.Cond.lays "LetMill$Tokens" "LetMill$Tokens" "size" "I") ∈ lw_all := lw_g (lw_at lw_m1 134 rfl) rfl
theorem q346 : (Jvm.Cond.laysFinal "LetMill$Tokens" "LetMill$Tokens" "kind" "[I") ∈ lw_all := lw_g (lw_at lw_m1 136 rfl) rfl
theorem q348 : (Jvm.Cond.laysFinal "LetMill$Tokens" "LetMill$Tokens" "from" "[I") ∈ lw_all := lw_g (lw_at lw_m1 138 rfl) rfl
theorem q350 : (Jvm.Cond.laysFinal "LetMill$Tokens" "LetMill$Tokens" "value" "[J") ∈ lw_all := lw_g (lw_at lw_m1 140 rfl) rfl
theorem q352 : (Jvm.Cond.laysFinal "LetMill$Tokens" "LetMill$Tokens" "more" "[J") ∈ lw_all := lw_g (lw_at lw_m1 142 rfl) rfl
theorem q354 : (Jvm.Cond.lays "LetMill$Tokens" "LetMill$Tokens" "many" "I") ∈ lw_all := lw_g (lw_at lw_m1 144 rfl) rfl
theorem q356 : (Jvm.Cond.lays "LetMill$Tokens" "LetMill$Tokens" "at" "I") ∈ lw_all := lw_g (lw_at lw_m1 146 rfl) rfl
theorem q1156 : (Jvm.Cond.instanceMethod ({ cls := "LetMill$Tokens", name := "cut", desc := "()V" } : Jvm.MethodName)) ∈ lw_all := lw_g (lw_at lw_m4 226 rfl) rfl
theorem q1157 : (Jvm.Cond.selects "LetMill$Tokens" ({ cls := "LetMill$Tokens", name := "cut", desc := "()V" } : Jvm.MethodName) ({ cls := "LetMill$Tokens", name := "cut", desc := "()V" } : Jvm.MethodName)) ∈ lw_all := lw_g (lw_at lw_m4 227 rfl) rfl
theorem q1158 : (Jvm.Cond.code ({ cls := "LetMill$Tokens", name := "cut", desc := "()V" } : Jvm.MethodName) prog_44_method_7_code (3 : Nat) (Option.none : Option Jvm.ClassFile.FieldType)) ∈ lw_all := lw_g (lw_at lw_m4 228 rfl) rfl
theorem q1159 : (Jvm.Cond.methodLink "LetMill$Tokens" (83 : Nat) ({ cls := "LetMill$Tokens", name := "look", desc := "(I)I" } : Jvm.MethodName)) ∈ lw_all := lw_g (lw_at lw_m4 229 rfl) rfl
theorem q1161 : (Jvm.Cond.instanceMethod ({ cls := "LetMill$Tokens", name := "look", desc := "(I)I" } : Jvm.MethodName)) ∈ lw_all := lw_g (lw_at lw_m4 231 rfl) rfl
theorem q1162 : (Jvm.Cond.code ({ cls := "LetMill$Tokens", name := "look", desc := "(I)I" } : Jvm.MethodName) prog_44_method_2_code (2 : Nat) (Option.some Jvm.ClassFile.FieldType.int)) ∈ lw_all := lw_g (lw_at lw_m4 232 rfl) rfl
theorem q1163 : (Jvm.Cond.methodLink "LetMill$Tokens" (87 : Nat) ({ cls := "LetMill$Tokens", name := "small", desc := "(I)Z" } : Jvm.MethodName)) ∈ lw_all := lw_g (lw_at lw_m4 233 rfl) rfl
theorem q1164 : (Jvm.Cond.static ({ cls := "LetMill$Tokens", name := "small", desc := "(I)Z" } : Jvm.MethodName)) ∈ lw_all := lw_g (lw_at lw_m4 234 rfl) rfl
theorem q1165 : (Jvm.Cond.code ({ cls := "LetMill$Tokens", name := "small", desc := "(I)Z" } : Jvm.MethodName) prog_44_method_3_code (1 : Nat) (Option.some Jvm.ClassFile.FieldType.boolean)) ∈ lw_all := lw_g (lw_at lw_m4 235 rfl) rfl
theorem q1166 : (Jvm.Cond.methodLink "LetMill$Tokens" (91 : Nat) ({ cls := "LetMill$Tokens", name := "great", desc := "(I)Z" } : Jvm.MethodName)) ∈ lw_all := lw_g (lw_at lw_m4 236 rfl) rfl
theorem q1167 : (Jvm.Cond.static ({ cls := "LetMill$Tokens", name := "great", desc := "(I)Z" } : Jvm.MethodName)) ∈ lw_all := lw_g (lw_at lw_m4 237 rfl) rfl
theorem q1168 : (Jvm.Cond.code ({ cls := "LetMill$Tokens", name := "great", desc := "(I)Z" } : Jvm.MethodName) prog_44_method_4_code (1 : Nat) (Option.some Jvm.ClassFile.FieldType.boolean)) ∈ lw_all := lw_g (lw_at lw_m4 238 rfl) rfl
theorem q1169 : (Jvm.Cond.methodLink "LetMill$Tokens" (94 : Nat) ({ cls := "LetMill$Tokens", name := "word", desc := "(I)Z" } : Jvm.MethodName)) ∈ lw_all := lw_g (lw_at lw_m4 239 rfl) rfl
theorem q1171 : (Jvm.Cond.instanceMethod ({ cls := "LetMill$Tokens", name := "word", desc := "(I)Z" } : Jvm.MethodName)) ∈ lw_all := lw_g (lw_at lw_m5 1 rfl) rfl
theorem q1172 : (Jvm.Cond.code ({ cls := "LetMill$Tokens", name := "word", desc := "(I)Z" } : Jvm.MethodName) prog_44_method_8_code (9 : Nat) (Option.some Jvm.ClassFile.FieldType.boolean)) ∈ lw_all := lw_g (lw_at lw_m5 2 rfl) rfl
theorem q1173 : (Jvm.Cond.methodLink "LetMill$Tokens" (109 : Nat) ({ cls := "LetMill$Tokens", name := "add", desc := "(II)V" } : Jvm.MethodName)) ∈ lw_all := lw_g (lw_at lw_m5 3 rfl) rfl
theorem q1175 : (Jvm.Cond.instanceMethod ({ cls := "LetMill$Tokens", name := "add", desc := "(II)V" } : Jvm.MethodName)) ∈ lw_all := lw_g (lw_at lw_m5 5 rfl) rfl
theorem q1176 : (Jvm.Cond.code ({ cls := "LetMill$Tokens", name := "add", desc := "(II)V" } : Jvm.MethodName) prog_44_method_6_code (3 : Nat) (Option.none : Option Jvm.ClassFile.FieldType)) ∈ lw_all := lw_g (lw_at lw_m5 6 rfl) rfl
theorem q1177 : (Jvm.Cond.methodLink "LetMill$Tokens" (97 : Nat) ({ cls := "LetMill$Tokens", name := "digit", desc := "(I)Z" } : Jvm.MethodName)) ∈ lw_all := lw_g (lw_at lw_m5 7 rfl) rfl
theorem q1178 : (Jvm.Cond.static ({ cls := "LetMill$Tokens", name := "digit", desc := "(I)Z" } : Jvm.MethodName)) ∈ lw_all := lw_g (lw_at lw_m5 8 rfl) rfl
theorem q1179 : (Jvm.Cond.code ({ cls := "LetMill$Tokens", name := "digit", desc := "(I)Z" } : Jvm.MethodName) prog_44_method_5_code (1 : Nat) (Option.some Jvm.ClassFile.FieldType.boolean)) ∈ lw_all := lw_g (lw_at lw_m5 9 rfl) rfl
theorem q1180 : (Jvm.Cond.methodLink "LetMill$Tokens" (113 : Nat) ({ cls := "LetMill$Tokens", name := "kindOf", desc := "(II)I" } : Jvm.MethodName)) ∈ lw_all := lw_g (lw_at lw_m5 10 rfl) rfl
theorem q1182 : (Jvm.Cond.instanceMethod ({ cls := "LetMill$Tokens", name := "kindOf", desc := "(II)I" } : Jvm.MethodName)) ∈ lw_all := lw_g (lw_at lw_m5 12 rfl) rfl
theorem q1183 : (Jvm.Cond.code ({ cls := "LetMill$Tokens", name := "kindOf", desc := "(II)I" } : Jvm.MethodName) prog_44_method_9_code (6 : Nat) (Option.some Jvm.ClassFile.FieldType.int)) ∈ lw_all := lw_g (lw_at lw_m5 13 rfl) rfl
theorem q1184 : (Jvm.Cond.methodLink "LetMill$Tokens" (117 : Nat) ({ cls := "java/lang/String", name := "length", desc := "()I" } : Jvm.MethodName)) ∈ lw_all := lw_g (lw_at lw_m5 14 rfl) rfl
theorem q1185 : (Jvm.Cond.methodLink "LetMill$Tokens" (121 : Nat) ({ cls := "java/lang/String", name := "charAt", desc := "(I)C" } : Jvm.MethodName)) ∈ lw_all := lw_g (lw_at lw_m5 15 rfl) rfl
theorem q1186 : (Jvm.Cond.methodLink "LetMill$Tokens" (100 : Nat) ({ cls := "LetMill$Tokens", name := "number", desc := "()Z" } : Jvm.MethodName)) ∈ lw_all := lw_g (lw_at lw_m5 16 rfl) rfl
theorem q1188 : (Jvm.Cond.instanceMethod ({ cls := "LetMill$Tokens", name := "number", desc := "()Z" } : Jvm.MethodName)) ∈ lw_all := lw_g (lw_at lw_m5 18 rfl) rfl
theorem q1189 : (Jvm.Cond.code ({ cls := "LetMill$Tokens", name := "number", desc := "()Z" } : Jvm.MethodName) prog_44_method_10_code (5 : Nat) (Option.some Jvm.ClassFile.FieldType.boolean)) ∈ lw_all := lw_g (lw_at lw_m5 19 rfl) rfl
theorem q1190 : (Jvm.Cond.constantLong "LetMill$Tokens" (125 : Nat) (10 : Int64)) ∈ lw_all := lw_g (lw_at lw_m5 20 rfl) rfl
theorem q1191 : (Jvm.Cond.constantLong "LetMill$Tokens" (127 : Nat) (48 : Int64)) ∈ lw_all := lw_g (lw_at lw_m5 21 rfl) rfl
theorem q1192 : (Jvm.Cond.constantLong "LetMill$Tokens" (129 : Nat) (1099511627776 : Int64)) ∈ lw_all := lw_g (lw_at lw_m5 22 rfl) rfl
theorem q1193 : (Jvm.Cond.methodLink "LetMill$Tokens" (131 : Nat) ({ cls := "java/lang/Math", name := "min", desc := "(JJ)J" } : Jvm.MethodName)) ∈ lw_all := lw_g (lw_at lw_m5 23 rfl) rfl
theorem q1196 : (Jvm.Cond.constantLong "LetMill$Tokens" (139 : Nat) (2147483647 : Int64)) ∈ lw_all := lw_g (lw_at lw_m5 26 rfl) rfl
theorem q1197 : (Jvm.Cond.methodLink "LetMill$Tokens" (104 : Nat) ({ cls := "LetMill$Tokens", name := "sign", desc := "(I)Z" } : Jvm.MethodName)) ∈ lw_all := lw_g (lw_at lw_m5 27 rfl) rfl
theorem q1199 : (Jvm.Cond.instanceMethod ({ cls := "LetMill$Tokens", name := "sign", desc := "(I)Z" } : Jvm.MethodName)) ∈ lw_all := lw_g (lw_at lw_m5 29 rfl) rfl
theorem q1200 : (Jvm.Cond.code ({ cls := "LetMill$Tokens", name := "sign", desc := "(I)Z" } : Jvm.MethodName) prog_44_method_11_code (5 : Nat) (Option.some Jvm.ClassFile.FieldType.boolean)) ∈ lw_all := lw_g (lw_at lw_m5 30 rfl) rfl
theorem q1201 : (Jvm.Cond.stringRef "LetMill$Tokens" (141 : Nat) "()[],;|_+-*~!=<>@") ∈ lw_tbl := lw_at lw_m5 31 rfl
theorem q1202 : (Jvm.Cond.methodLink "LetMill$Tokens" (143 : Nat) ({ cls := "java/lang/String", name := "indexOf", desc := "(I)I" } : Jvm.MethodName)) ∈ lw_all := lw_g (lw_at lw_m5 32 rfl) rfl
def RX3 : String := "LetMill$Types"
abbrev cX3_init : ByteArray := prog_54_method_1_code
def yX3_init : MethodName := ⟨RX3, "<init>", "()V"⟩
abbrev cX3_add : ByteArray := prog_54_method_2_code
def yX3_add : MethodName := ⟨RX3, "add", "(Ljava/lang/String;I)V"⟩
abbrev cX3_add_2 : ByteArray := prog_54_method_3_code
def yX3_add_2 : MethodName := ⟨RX3, "add", "(JJI)LLetMill$TypeName;"⟩
abbrev cX3_built : ByteArray := prog_54_method_10_code
def yX3_built : MethodName := ⟨RX3, "built", "(I)I"⟩
abbrev cX3_node : ByteArray := prog_54_method_8_code
def yX3_node : MethodName := ⟨RX3, "node", "(I)I"⟩
abbrev cX3_back : ByteArray := prog_54_method_7_code
def yX3_back : MethodName := ⟨RX3, "back", "(I)V"⟩
abbrev cX3_isFull : ByteArray := prog_54_method_4_code
def yX3_isFull : MethodName := ⟨RX3, "isFull", "()Z"⟩
abbrev cX3_name : ByteArray := prog_54_method_5_code
def yX3_name : MethodName := ⟨RX3, "name", "(I)LLetMill$TypeName;"⟩
abbrev cX3_variable : ByteArray := prog_54_method_9_code
def yX3_variable : MethodName := ⟨RX3, "variable", "()I"⟩
abbrev cX3_built_2 : ByteArray := prog_54_method_13_code
def yX3_built_2 : MethodName := ⟨RX3, "built", "(I[III)I"⟩
abbrev cX3_fun : ByteArray := prog_54_method_12_code
def yX3_fun : MethodName := ⟨RX3, "fun", "(II)I"⟩
abbrev cX3_built_3 : ByteArray := prog_54_method_11_code
def yX3_built_3 : MethodName := ⟨RX3, "built", "(II)I"⟩
abbrev cX3_size : ByteArray := prog_54_method_34_code
def yX3_size : MethodName := ⟨RX3, "size", "(II)I"⟩
abbrev cX3_found : ByteArray := prog_54_method_14_code
def yX3_found : MethodName := ⟨RX3, "found", "(I)I"⟩
abbrev cX3_howMany : ByteArray := prog_54_method_18_code
def yX3_howMany : MethodName := ⟨RX3, "howMany", "(I)I"⟩
abbrev cX3_part : ByteArray := prog_54_method_19_code
def yX3_part : MethodName := ⟨RX3, "part", "(II)I"⟩
abbrev cX3_write : ByteArray := prog_54_method_30_code
def yX3_write : MethodName := ⟨RX3, "write", "(I)[I"⟩
abbrev cX3_mark : ByteArray := prog_54_method_20_code
def yX3_mark : MethodName := ⟨RX3, "mark", "()I"⟩
abbrev cX3_put : ByteArray := prog_54_method_32_code
def yX3_put : MethodName := ⟨RX3, "put", "(I[I)V"⟩
abbrev cX3_writeOn : ByteArray := prog_54_method_31_code
def yX3_writeOn : MethodName := ⟨RX3, "writeOn", "(I)[I"⟩
abbrev cX3_read : ByteArray := prog_54_method_27_code
def yX3_read : MethodName := ⟨RX3, "read", "([I)I"⟩
abbrev cX3_next : ByteArray := prog_54_method_29_code
def yX3_next : MethodName := ⟨RX3, "next", "([I)I"⟩
abbrev cX3_readOn : ByteArray := prog_54_method_28_code
def yX3_readOn : MethodName := ⟨RX3, "readOn", "([I)I"⟩
abbrev cX3_same : ByteArray := prog_54_method_21_code
def yX3_same : MethodName := ⟨RX3, "same", "(II)Z"⟩
abbrev cX3_joined : ByteArray := prog_54_method_22_code
def yX3_joined : MethodName := ⟨RX3, "joined", "(II)Z"⟩
abbrev cX3_isFinite : ByteArray := prog_54_method_23_code
def yX3_isFinite : MethodName := ⟨RX3, "isFinite", "(I)Z"⟩
abbrev cX3_copied : ByteArray := prog_54_method_26_code
def yX3_copied : MethodName := ⟨RX3, "copied", "(II)I"⟩
abbrev cX3_touch : ByteArray := prog_54_method_24_code
def yX3_touch : MethodName := ⟨RX3, "touch", "(II)V"⟩
abbrev cX3_generalise : ByteArray := prog_54_method_25_code
def yX3_generalise : MethodName := ⟨RX3, "generalise", "(III)Z"⟩
abbrev cX3_settle : ByteArray := prog_54_method_33_code
def yX3_settle : MethodName := ⟨RX3, "settle", "(I)V"⟩
theorem q213 : (Jvm.Cond.initialized "LetMill$Types") ∈ lw_all := lw_g (lw_at lw_m1 3 rfl) rfl
theorem q363 : (Jvm.Cond.instantiable "LetMill$Types" (19 : Nat)) ∈ lw_all := lw_g (lw_at lw_m1 153 rfl) rfl
theorem q365 : (Jvm.Cond.instanceMethod ({ cls := "LetMill$Types", name := "<init>", desc := "()V" } : Jvm.MethodName)) ∈ lw_all := lw_g (lw_at lw_m1 155 rfl) rfl
theorem q366 : (Jvm.Cond.code ({ cls := "LetMill$Types", name := "<init>", desc := "()V" } : Jvm.MethodName) prog_54_method_1_code (2 : Nat) (Option.none : Option Jvm.ClassFile.FieldType)) ∈ lw_all := lw_g (lw_at lw_m1 156 rfl) rfl
theorem q367 : (Jvm.Cond.methodLink "LetMill$Types" (1 : Nat) ({ cls := "java/lang/Object", name := "<init>", desc := "()V" } : Jvm.MethodName)) ∈ lw_all := lw_g (lw_at lw_m1 157 rfl) rfl
theorem q368 : (Jvm.Cond.constant "LetMill$Types" (9 : Nat) (150000 : Int32)) ∈ lw_all := lw_g (lw_at lw_m1 158 rfl) rfl
theorem q369 : (Jvm.Cond.constant "LetMill$Types" (29 : Nat) (300000 : Int32)) ∈ lw_all := lw_g (lw_at lw_m1 159 rfl) rfl
theorem q370 : (Jvm.Cond.classLink "LetMill$Types" (33 : Nat) "LetMill$TypeName") ∈ lw_all := lw_g (lw_at lw_m1 160 rfl) rfl
theorem q372 : (Jvm.Cond.stringRef "LetMill$Types" (42 : Nat) "") ∈ lw_tbl := lw_at lw_m1 162 rfl
theorem q373 : (Jvm.Cond.methodLink "LetMill$Types" (44 : Nat) ({ cls := "LetMill$Types", name := "add", desc := "(Ljava/lang/String;I)V" } : Jvm.MethodName)) ∈ lw_all := lw_g (lw_at lw_m1 163 rfl) rfl
theorem q375 : (Jvm.Cond.instanceMethod ({ cls := "LetMill$Types", name := "add", desc := "(Ljava/lang/String;I)V" } : Jvm.MethodName)) ∈ lw_all := lw_g (lw_at lw_m1 165 rfl) rfl
theorem q376 : (Jvm.Cond.code ({ cls := "LetMill$Types", name := "add", desc := "(Ljava/lang/String;I)V" } : Jvm.MethodName) prog_54_method_2_code (4 : Nat) (Option.none : Option Jvm.ClassFile.FieldType)) ∈ lw_all := lw_g (lw_at lw_m1 166 rfl) rfl
theorem q377 : (Jvm.Cond.methodLink "LetMill$Types" (71 : Nat) ({ cls := "LetMill$Names", name := "spelled", desc := "(Ljava/lang/String;)J" } : Jvm.MethodName)) ∈ lw_all := lw_g (lw_at lw_m1 167 rfl) rfl
theorem q428 : (Jvm.Cond.methodLink "LetMill$Types" (77 : Nat) ({ cls := "LetMill$Types", name := "add", desc := "(JJI)LLetMill$TypeName;" } : Jvm.MethodName)) ∈ lw_all := lw_g (lw_at lw_m1 218 rfl) rfl
theorem q429 : (Jvm.Cond.instanceMethod ({ cls := "LetMill$Types", name := "add", desc := "(JJI)LLetMill$TypeName;" } : Jvm.MethodName)) ∈ lw_all := lw_g (lw_at lw_m1 219 rfl) rfl
theorem q430 : (Jvm.Cond.selects "LetMill$Types" ({ cls := "LetMill$Types", name := "add", desc := "(JJI)LLetMill$TypeName;" } : Jvm.MethodName) ({ cls := "LetMill$Types", name := "add", desc := "(JJI)LLetMill$TypeName;" } : Jvm.MethodName)) ∈ lw_all := lw_g (lw_at lw_m1 220 rfl) rfl
theorem q431 : (Jvm.Cond.code ({ cls := "LetMill$Types", name := "add", desc := "(JJI)LLetMill$TypeName;" } : Jvm.MethodName) prog_54_method_3_code (7 : Nat) (Option.some (Jvm.ClassFile.FieldType.object "LetMill$TypeName"))) ∈ lw_all := lw_g (lw_at lw_m1 221 rfl) rfl
theorem q433 : (Jvm.Cond.methodLink "LetMill$Types" (86 : Nat) ({ cls := "LetMill$TypeName", name := "<init>", desc := "(JJII)V" } : Jvm.MethodName)) ∈ lw_all := lw_g (lw_at lw_m1 223 rfl) rfl
theorem q446 : (Jvm.Cond.fieldLink "LetMill$Types" (101 : Nat) "LetMill$TypeName" "arguments" "I") ∈ lw_all := lw_g (lw_at lw_m1 236 rfl) rfl
theorem q448 : (Jvm.Cond.fieldLink "LetMill$Types" (80 : Nat) "LetMill$TypeName" "id" "I") ∈ lw_all := lw_g (lw_at lw_m1 238 rfl) rfl
theorem q466 : (Jvm.Cond.stringRef "LetMill$Types" (48 : Nat) "int") ∈ lw_tbl := lw_at lw_m2 16 rfl
theorem q467 : (Jvm.Cond.stringRef "LetMill$Types" (50 : Nat) "bool") ∈ lw_tbl := lw_at lw_m2 17 rfl
theorem q468 : (Jvm.Cond.stringRef "LetMill$Types" (52 : Nat) "unit") ∈ lw_tbl := lw_at lw_m2 18 rfl
theorem q469 : (Jvm.Cond.stringRef "LetMill$Types" (54 : Nat) "list") ∈ lw_tbl := lw_at lw_m2 19 rfl
theorem q470 : (Jvm.Cond.stringRef "LetMill$Types" (56 : Nat) "ref") ∈ lw_tbl := lw_at lw_m2 20 rfl
theorem q471 : (Jvm.Cond.methodLink "LetMill$Types" (58 : Nat) ({ cls := "LetMill$Types", name := "built", desc := "(I)I" } : Jvm.MethodName)) ∈ lw_all := lw_g (lw_at lw_m2 21 rfl) rfl
theorem q472 : (Jvm.Cond.instanceMethod ({ cls := "LetMill$Types", name := "built", desc := "(I)I" } : Jvm.MethodName)) ∈ lw_all := lw_g (lw_at lw_m2 22 rfl) rfl
theorem q473 : (Jvm.Cond.selects "LetMill$Types" ({ cls := "LetMill$Types", name := "built", desc := "(I)I" } : Jvm.MethodName) ({ cls := "LetMill$Types", name := "built", desc := "(I)I" } : Jvm.MethodName)) ∈ lw_all := lw_g (lw_at lw_m2 23 rfl) rfl
theorem q474 : (Jvm.Cond.code ({ cls := "LetMill$Types", name := "built", desc := "(I)I" } : Jvm.MethodName) prog_54_method_10_code (2 : Nat) (Option.some Jvm.ClassFile.FieldType.int)) ∈ lw_all := lw_g (lw_at lw_m2 24 rfl) rfl
theorem q475 : (Jvm.Cond.methodLink "LetMill$Types" (95 : Nat) ({ cls := "LetMill$Types", name := "node", desc := "(I)I" } : Jvm.MethodName)) ∈ lw_all := lw_g (lw_at lw_m2 25 rfl) rfl
theorem q477 : (Jvm.Cond.instanceMethod ({ cls := "LetMill$Types", name := "node", desc := "(I)I" } : Jvm.MethodName)) ∈ lw_all := lw_g (lw_at lw_m2 27 rfl) rfl
theorem q478 : (Jvm.Cond.code ({ cls := "LetMill$Types", name := "node", desc := "(I)I" } : Jvm.MethodName) prog_54_method_8_code (2 : Nat) (Option.some Jvm.ClassFile.FieldType.int)) ∈ lw_all := lw_g (lw_at lw_m2 28 rfl) rfl
theorem q479 : (Jvm.Cond.fieldLink "LetMill$Types" (10 : Nat) "LetMill$Types" "name" "[I") ∈ lw_all := lw_g (lw_at lw_m2 29 rfl) rfl
theorem q480 : (Jvm.Cond.fieldLink "LetMill$Types" (14 : Nat) "LetMill$Types" "first" "[I") ∈ lw_all := lw_g (lw_at lw_m2 30 rfl) rfl
theorem q481 : (Jvm.Cond.fieldLink "LetMill$Types" (17 : Nat) "LetMill$Types" "same" "[I") ∈ lw_all := lw_g (lw_at lw_m2 31 rfl) rfl
theorem q482 : (Jvm.Cond.fieldLink "LetMill$Types" (20 : Nat) "LetMill$Types" "mark" "[I") ∈ lw_all := lw_g (lw_at lw_m2 32 rfl) rfl
theorem q483 : (Jvm.Cond.fieldLink "LetMill$Types" (23 : Nat) "LetMill$Types" "copy" "[I") ∈ lw_all := lw_g (lw_at lw_m2 33 rfl) rfl
theorem q484 : (Jvm.Cond.fieldLink "LetMill$Types" (26 : Nat) "LetMill$Types" "part" "[I") ∈ lw_all := lw_g (lw_at lw_m2 34 rfl) rfl
theorem q485 : (Jvm.Cond.fieldLink "LetMill$Types" (89 : Nat) "LetMill$Types" "many" "I") ∈ lw_all := lw_g (lw_at lw_m2 35 rfl) rfl
theorem q486 : (Jvm.Cond.fieldLink "LetMill$Types" (92 : Nat) "LetMill$Types" "parts" "I") ∈ lw_all := lw_g (lw_at lw_m2 36 rfl) rfl
theorem q487 : (Jvm.Cond.fieldLink "LetMill$Types" (107 : Nat) "LetMill$Types" "marks" "I") ∈ lw_all := lw_g (lw_at lw_m2 37 rfl) rfl
theorem q488 : (Jvm.Cond.fieldLink "LetMill$Types" (30 : Nat) "LetMill$Types" "pile" "[I") ∈ lw_all := lw_g (lw_at lw_m2 38 rfl) rfl
theorem q489 : (Jvm.Cond.fieldLink "LetMill$Types" (35 : Nat) "LetMill$Types" "names" "[LLetMill$TypeName;") ∈ lw_all := lw_g (lw_at lw_m2 39 rfl) rfl
theorem q491 : (Jvm.Cond.fieldLink "LetMill$Types" (83 : Nat) "LetMill$Types" "namesMany" "I") ∈ lw_all := lw_g (lw_at lw_m2 41 rfl) rfl
theorem q492 : (Jvm.Cond.fieldLink "LetMill$Types" (62 : Nat) "LetMill$Types" "whole" "I") ∈ lw_all := lw_g (lw_at lw_m2 42 rfl) rfl
theorem q497 : (Jvm.Cond.fieldLink "LetMill$Types" (66 : Nat) "LetMill$Types" "truth" "I") ∈ lw_all := lw_g (lw_at lw_m2 47 rfl) rfl
theorem q502 : (Jvm.Cond.fieldLink "LetMill$Types" (69 : Nat) "LetMill$Types" "unit" "I") ∈ lw_all := lw_g (lw_at lw_m2 52 rfl) rfl
theorem q507 : (Jvm.Cond.fieldLink "LetMill$Types" (136 : Nat) "LetMill$Types" "at" "I") ∈ lw_all := lw_g (lw_at lw_m2 57 rfl) rfl
theorem q508 : (Jvm.Cond.fieldLink "LetMill$Types" (39 : Nat) "LetMill$Types" "made" "[I") ∈ lw_all := lw_g (lw_at lw_m2 58 rfl) rfl
theorem q509 : (Jvm.Cond.fieldLink "LetMill$Types" (146 : Nat) "LetMill$Types" "wrote" "I") ∈ lw_all := lw_g (lw_at lw_m2 59 rfl) rfl
theorem q510 : (Jvm.Cond.fieldLink "LetMill$Types" (149 : Nat) "LetMill$Types" "written" "I") ∈ lw_all := lw_g (lw_at lw_m2 60 rfl) rfl
theorem q511 : (Jvm.Cond.laysFinal "LetMill$Types" "LetMill$Types" "name" "[I") ∈ lw_all := lw_g (lw_at lw_m2 61 rfl) rfl
theorem q513 : (Jvm.Cond.laysFinal "LetMill$Types" "LetMill$Types" "first" "[I") ∈ lw_all := lw_g (lw_at lw_m2 63 rfl) rfl
theorem q515 : (Jvm.Cond.laysFinal "LetMill$Types" "LetMill$Types" "same" "[I") ∈ lw_all := lw_g (lw_at lw_m2 65 rfl) rfl
theorem q517 : (Jvm.Cond.laysFinal "LetMill$Types" "LetMill$Types" "mark" "[I") ∈ lw_all := lw_g (lw_at lw_m2 67 rfl) rfl
theorem q519 : (Jvm.Cond.laysFinal "LetMill$Types" "LetMill$Types" "copy" "[I") ∈ lw_all := lw_g (lw_at lw_m2 69 rfl) rfl
theorem q521 : (Jvm.Cond.laysFinal "LetMill$Types" "LetMill$Types" "part" "[I") ∈ lw_all := lw_g (lw_at lw_m2 71 rfl) rfl
theorem q523 : (Jvm.Cond.lays "LetMill$Types" "LetMill$Types" "many" "I") ∈ lw_all := lw_g (lw_at lw_m2 73 rfl) rfl
theorem q525 : (Jvm.Cond.lays "LetMill$Types" "LetMill$Types" "parts" "I") ∈ lw_all := lw_g (lw_at lw_m2 75 rfl) rfl
theorem q527 : (Jvm.Cond.lays "LetMill$Types" "LetMill$Types" "marks" "I") ∈ lw_all := lw_g (lw_at lw_m2 77 rfl) rfl
theorem q529 : (Jvm.Cond.laysFinal "LetMill$Types" "LetMill$Types" "pile" "[I") ∈ lw_all := lw_g (lw_at lw_m2 79 rfl) rfl
theorem q531 : (Jvm.Cond.laysFinal "LetMill$Types" "LetMill$Types" "names" "[LLetMill$TypeName;") ∈ lw_all := lw_g (lw_at lw_m2 81 rfl) rfl
theorem q533 : (Jvm.Cond.lays "LetMill$Types" "LetMill$Types" "namesMany" "I") ∈ lw_all := lw_g (lw_at lw_m2 83 rfl) rfl
theorem q535 : (Jvm.Cond.laysFinal "LetMill$Types" "LetMill$Types" "whole" "I") ∈ lw_all := lw_g (lw_at lw_m2 85 rfl) rfl
theorem q537 : (Jvm.Cond.laysFinal "LetMill$Types" "LetMill$Types" "truth" "I") ∈ lw_all := lw_g (lw_at lw_m2 87 rfl) rfl
theorem q539 : (Jvm.Cond.laysFinal "LetMill$Types" "LetMill$Types" "unit" "I") ∈ lw_all := lw_g (lw_at lw_m2 89 rfl) rfl
theorem q541 : (Jvm.Cond.lays "LetMill$Types" "LetMill$Types" "at" "I") ∈ lw_all := lw_g (lw_at lw_m2 91 rfl) rfl
theorem q543 : (Jvm.Cond.laysFinal "LetMill$Types" "LetMill$Types" "made" "[I") ∈ lw_all := lw_g (lw_at lw_m2 93 rfl) rfl
theorem q545 : (Jvm.Cond.lays "LetMill$Types" "LetMill$Types" "wrote" "I") ∈ lw_all := lw_g (lw_at lw_m2 95 rfl) rfl
theorem q547 : (Jvm.Cond.lays "LetMill$Types" "LetMill$Types" "written" "I") ∈ lw_all := lw_g (lw_at lw_m2 97 rfl) rfl
theorem q1032 : (Jvm.Cond.instanceMethod ({ cls := "LetMill$Types", name := "back", desc := "(I)V" } : Jvm.MethodName)) ∈ lw_all := lw_g (lw_at lw_m4 102 rfl) rfl
theorem q1033 : (Jvm.Cond.selects "LetMill$Types" ({ cls := "LetMill$Types", name := "back", desc := "(I)V" } : Jvm.MethodName) ({ cls := "LetMill$Types", name := "back", desc := "(I)V" } : Jvm.MethodName)) ∈ lw_all := lw_g (lw_at lw_m4 103 rfl) rfl
theorem q1034 : (Jvm.Cond.code ({ cls := "LetMill$Types", name := "back", desc := "(I)V" } : Jvm.MethodName) prog_54_method_7_code (2 : Nat) (Option.none : Option Jvm.ClassFile.FieldType)) ∈ lw_all := lw_g (lw_at lw_m4 104 rfl) rfl
theorem q2069 : (Jvm.Cond.instanceMethod ({ cls := "LetMill$Types", name := "isFull", desc := "()Z" } : Jvm.MethodName)) ∈ lw_all := lw_g (lw_at lw_m8 179 rfl) rfl
theorem q2070 : (Jvm.Cond.selects "LetMill$Types" ({ cls := "LetMill$Types", name := "isFull", desc := "()Z" } : Jvm.MethodName) ({ cls := "LetMill$Types", name := "isFull", desc := "()Z" } : Jvm.MethodName)) ∈ lw_all := lw_g (lw_at lw_m8 180 rfl) rfl
theorem q2071 : (Jvm.Cond.code ({ cls := "LetMill$Types", name := "isFull", desc := "()Z" } : Jvm.MethodName) prog_54_method_4_code (1 : Nat) (Option.some Jvm.ClassFile.FieldType.boolean)) ∈ lw_all := lw_g (lw_at lw_m8 181 rfl) rfl
theorem q2107 : (Jvm.Cond.instanceMethod ({ cls := "LetMill$Types", name := "name", desc := "(I)LLetMill$TypeName;" } : Jvm.MethodName)) ∈ lw_all := lw_g (lw_at lw_m8 217 rfl) rfl
theorem q2108 : (Jvm.Cond.selects "LetMill$Types" ({ cls := "LetMill$Types", name := "name", desc := "(I)LLetMill$TypeName;" } : Jvm.MethodName) ({ cls := "LetMill$Types", name := "name", desc := "(I)LLetMill$TypeName;" } : Jvm.MethodName)) ∈ lw_all := lw_g (lw_at lw_m8 218 rfl) rfl
theorem q2109 : (Jvm.Cond.code ({ cls := "LetMill$Types", name := "name", desc := "(I)LLetMill$TypeName;" } : Jvm.MethodName) prog_54_method_5_code (2 : Nat) (Option.some (Jvm.ClassFile.FieldType.object "LetMill$TypeName"))) ∈ lw_all := lw_g (lw_at lw_m8 219 rfl) rfl
theorem q2341 : (Jvm.Cond.instanceMethod ({ cls := "LetMill$Types", name := "variable", desc := "()I" } : Jvm.MethodName)) ∈ lw_all := lw_g (lw_at lw_m9 211 rfl) rfl
theorem q2342 : (Jvm.Cond.selects "LetMill$Types" ({ cls := "LetMill$Types", name := "variable", desc := "()I" } : Jvm.MethodName) ({ cls := "LetMill$Types", name := "variable", desc := "()I" } : Jvm.MethodName)) ∈ lw_all := lw_g (lw_at lw_m9 212 rfl) rfl
theorem q2343 : (Jvm.Cond.code ({ cls := "LetMill$Types", name := "variable", desc := "()I" } : Jvm.MethodName) prog_54_method_9_code (1 : Nat) (Option.some Jvm.ClassFile.FieldType.int)) ∈ lw_all := lw_g (lw_at lw_m9 213 rfl) rfl
theorem q2349 : (Jvm.Cond.instanceMethod ({ cls := "LetMill$Types", name := "built", desc := "(I[III)I" } : Jvm.MethodName)) ∈ lw_all := lw_g (lw_at lw_m9 219 rfl) rfl
theorem q2350 : (Jvm.Cond.selects "LetMill$Types" ({ cls := "LetMill$Types", name := "built", desc := "(I[III)I" } : Jvm.MethodName) ({ cls := "LetMill$Types", name := "built", desc := "(I[III)I" } : Jvm.MethodName)) ∈ lw_all := lw_g (lw_at lw_m9 220 rfl) rfl
theorem q2351 : (Jvm.Cond.code ({ cls := "LetMill$Types", name := "built", desc := "(I[III)I" } : Jvm.MethodName) prog_54_method_13_code (7 : Nat) (Option.some Jvm.ClassFile.FieldType.int)) ∈ lw_all := lw_g (lw_at lw_m9 221 rfl) rfl
theorem q2374 : (Jvm.Cond.instanceMethod ({ cls := "LetMill$Types", name := "fun", desc := "(II)I" } : Jvm.MethodName)) ∈ lw_all := lw_g (lw_at lw_m10 4 rfl) rfl
theorem q2375 : (Jvm.Cond.selects "LetMill$Types" ({ cls := "LetMill$Types", name := "fun", desc := "(II)I" } : Jvm.MethodName) ({ cls := "LetMill$Types", name := "fun", desc := "(II)I" } : Jvm.MethodName)) ∈ lw_all := lw_g (lw_at lw_m10 5 rfl) rfl
theorem q2376 : (Jvm.Cond.code ({ cls := "LetMill$Types", name := "fun", desc := "(II)I" } : Jvm.MethodName) prog_54_method_12_code (4 : Nat) (Option.some Jvm.ClassFile.FieldType.int)) ∈ lw_all := lw_g (lw_at lw_m10 6 rfl) rfl
theorem q2377 : (Jvm.Cond.methodLink "LetMill$Types" (98 : Nat) ({ cls := "LetMill$Types", name := "built", desc := "(II)I" } : Jvm.MethodName)) ∈ lw_all := lw_g (lw_at lw_m10 7 rfl) rfl
theorem q2378 : (Jvm.Cond.instanceMethod ({ cls := "LetMill$Types", name := "built", desc := "(II)I" } : Jvm.MethodName)) ∈ lw_all := lw_g (lw_at lw_m10 8 rfl) rfl
theorem q2379 : (Jvm.Cond.selects "LetMill$Types" ({ cls := "LetMill$Types", name := "built", desc := "(II)I" } : Jvm.MethodName) ({ cls := "LetMill$Types", name := "built", desc := "(II)I" } : Jvm.MethodName)) ∈ lw_all := lw_g (lw_at lw_m10 9 rfl) rfl
theorem q2380 : (Jvm.Cond.code ({ cls := "LetMill$Types", name := "built", desc := "(II)I" } : Jvm.MethodName) prog_54_method_11_code (4 : Nat) (Option.some Jvm.ClassFile.FieldType.int)) ∈ lw_all := lw_g (lw_at lw_m10 10 rfl) rfl
theorem q2385 : (Jvm.Cond.instanceMethod ({ cls := "LetMill$Types", name := "size", desc := "(II)I" } : Jvm.MethodName)) ∈ lw_all := lw_g (lw_at lw_m10 15 rfl) rfl
theorem q2386 : (Jvm.Cond.selects "LetMill$Types" ({ cls := "LetMill$Types", name := "size", desc := "(II)I" } : Jvm.MethodName) ({ cls := "LetMill$Types", name := "size", desc := "(II)I" } : Jvm.MethodName)) ∈ lw_all := lw_g (lw_at lw_m10 16 rfl) rfl
theorem q2387 : (Jvm.Cond.code ({ cls := "LetMill$Types", name := "size", desc := "(II)I" } : Jvm.MethodName) prog_54_method_34_code (7 : Nat) (Option.some Jvm.ClassFile.FieldType.int)) ∈ lw_all := lw_g (lw_at lw_m10 17 rfl) rfl
theorem q2388 : (Jvm.Cond.methodLink "LetMill$Types" (104 : Nat) ({ cls := "LetMill$Types", name := "found", desc := "(I)I" } : Jvm.MethodName)) ∈ lw_all := lw_g (lw_at lw_m10 18 rfl) rfl
theorem q2389 : (Jvm.Cond.instanceMethod ({ cls := "LetMill$Types", name := "found", desc := "(I)I" } : Jvm.MethodName)) ∈ lw_all := lw_g (lw_at lw_m10 19 rfl) rfl
theorem q2390 : (Jvm.Cond.selects "LetMill$Types" ({ cls := "LetMill$Types", name := "found", desc := "(I)I" } : Jvm.MethodName) ({ cls := "LetMill$Types", name := "found", desc := "(I)I" } : Jvm.MethodName)) ∈ lw_all := lw_g (lw_at lw_m10 20 rfl) rfl
theorem q2391 : (Jvm.Cond.code ({ cls := "LetMill$Types", name := "found", desc := "(I)I" } : Jvm.MethodName) prog_54_method_14_code (3 : Nat) (Option.some Jvm.ClassFile.FieldType.int)) ∈ lw_all := lw_g (lw_at lw_m10 21 rfl) rfl
theorem q2392 : (Jvm.Cond.methodLink "LetMill$Types" (118 : Nat) ({ cls := "LetMill$Types", name := "howMany", desc := "(I)I" } : Jvm.MethodName)) ∈ lw_all := lw_g (lw_at lw_m10 22 rfl) rfl
theorem q2393 : (Jvm.Cond.instanceMethod ({ cls := "LetMill$Types", name := "howMany", desc := "(I)I" } : Jvm.MethodName)) ∈ lw_all := lw_g (lw_at lw_m10 23 rfl) rfl
theorem q2394 : (Jvm.Cond.selects "LetMill$Types" ({ cls := "LetMill$Types", name := "howMany", desc := "(I)I" } : Jvm.MethodName) ({ cls := "LetMill$Types", name := "howMany", desc := "(I)I" } : Jvm.MethodName)) ∈ lw_all := lw_g (lw_at lw_m10 24 rfl) rfl
theorem q2395 : (Jvm.Cond.code ({ cls := "LetMill$Types", name := "howMany", desc := "(I)I" } : Jvm.MethodName) prog_54_method_18_code (2 : Nat) (Option.some Jvm.ClassFile.FieldType.int)) ∈ lw_all := lw_g (lw_at lw_m10 25 rfl) rfl
theorem q2396 : (Jvm.Cond.methodLink "LetMill$Types" (124 : Nat) ({ cls := "LetMill$Types", name := "part", desc := "(II)I" } : Jvm.MethodName)) ∈ lw_all := lw_g (lw_at lw_m10 26 rfl) rfl
theorem q2397 : (Jvm.Cond.instanceMethod ({ cls := "LetMill$Types", name := "part", desc := "(II)I" } : Jvm.MethodName)) ∈ lw_all := lw_g (lw_at lw_m10 27 rfl) rfl
theorem q2398 : (Jvm.Cond.selects "LetMill$Types" ({ cls := "LetMill$Types", name := "part", desc := "(II)I" } : Jvm.MethodName) ({ cls := "LetMill$Types", name := "part", desc := "(II)I" } : Jvm.MethodName)) ∈ lw_all := lw_g (lw_at lw_m10 28 rfl) rfl
theorem q2399 : (Jvm.Cond.code ({ cls := "LetMill$Types", name := "part", desc := "(II)I" } : Jvm.MethodName) prog_54_method_19_code (3 : Nat) (Option.some Jvm.ClassFile.FieldType.int)) ∈ lw_all := lw_g (lw_at lw_m10 29 rfl) rfl
theorem q2400 : (Jvm.Cond.methodLink "LetMill$Types" (143 : Nat) ({ cls := "LetMill$Types", name := "size", desc := "(II)I" } : Jvm.MethodName)) ∈ lw_all := lw_g (lw_at lw_m10 30 rfl) rfl
theorem q2402 : (Jvm.Cond.instanceMethod ({ cls := "LetMill$Types", name := "write", desc := "(I)[I" } : Jvm.MethodName)) ∈ lw_all := lw_g (lw_at lw_m10 32 rfl) rfl
theorem q2403 : (Jvm.Cond.selects "LetMill$Types" ({ cls := "LetMill$Types", name := "write", desc := "(I)[I" } : Jvm.MethodName) ({ cls := "LetMill$Types", name := "write", desc := "(I)[I" } : Jvm.MethodName)) ∈ lw_all := lw_g (lw_at lw_m10 33 rfl) rfl
theorem q2404 : (Jvm.Cond.code ({ cls := "LetMill$Types", name := "write", desc := "(I)[I" } : Jvm.MethodName) prog_54_method_30_code (3 : Nat) (Option.some (Jvm.ClassFile.FieldType.array Jvm.ClassFile.FieldType.int))) ∈ lw_all := lw_g (lw_at lw_m10 34 rfl) rfl
theorem q2405 : (Jvm.Cond.methodLink "LetMill$Types" (121 : Nat) ({ cls := "LetMill$Types", name := "mark", desc := "()I" } : Jvm.MethodName)) ∈ lw_all := lw_g (lw_at lw_m10 35 rfl) rfl
theorem q2406 : (Jvm.Cond.instanceMethod ({ cls := "LetMill$Types", name := "mark", desc := "()I" } : Jvm.MethodName)) ∈ lw_all := lw_g (lw_at lw_m10 36 rfl) rfl
theorem q2407 : (Jvm.Cond.selects "LetMill$Types" ({ cls := "LetMill$Types", name := "mark", desc := "()I" } : Jvm.MethodName) ({ cls := "LetMill$Types", name := "mark", desc := "()I" } : Jvm.MethodName)) ∈ lw_all := lw_g (lw_at lw_m10 37 rfl) rfl
theorem q2408 : (Jvm.Cond.code ({ cls := "LetMill$Types", name := "mark", desc := "()I" } : Jvm.MethodName) prog_54_method_20_code (1 : Nat) (Option.some Jvm.ClassFile.FieldType.int)) ∈ lw_all := lw_g (lw_at lw_m10 38 rfl) rfl
theorem q2409 : (Jvm.Cond.methodLink "LetMill$Types" (152 : Nat) ({ cls := "LetMill$Types", name := "put", desc := "(I[I)V" } : Jvm.MethodName)) ∈ lw_all := lw_g (lw_at lw_m10 39 rfl) rfl
theorem q2411 : (Jvm.Cond.instanceMethod ({ cls := "LetMill$Types", name := "put", desc := "(I[I)V" } : Jvm.MethodName)) ∈ lw_all := lw_g (lw_at lw_m10 41 rfl) rfl
theorem q2412 : (Jvm.Cond.code ({ cls := "LetMill$Types", name := "put", desc := "(I[I)V" } : Jvm.MethodName) prog_54_method_32_code (6 : Nat) (Option.none : Option Jvm.ClassFile.FieldType)) ∈ lw_all := lw_g (lw_at lw_m10 42 rfl) rfl
theorem q2414 : (Jvm.Cond.instanceMethod ({ cls := "LetMill$Types", name := "writeOn", desc := "(I)[I" } : Jvm.MethodName)) ∈ lw_all := lw_g (lw_at lw_m10 44 rfl) rfl
theorem q2415 : (Jvm.Cond.selects "LetMill$Types" ({ cls := "LetMill$Types", name := "writeOn", desc := "(I)[I" } : Jvm.MethodName) ({ cls := "LetMill$Types", name := "writeOn", desc := "(I)[I" } : Jvm.MethodName)) ∈ lw_all := lw_g (lw_at lw_m10 45 rfl) rfl
theorem q2416 : (Jvm.Cond.code ({ cls := "LetMill$Types", name := "writeOn", desc := "(I)[I" } : Jvm.MethodName) prog_54_method_31_code (3 : Nat) (Option.some (Jvm.ClassFile.FieldType.array Jvm.ClassFile.FieldType.int))) ∈ lw_all := lw_g (lw_at lw_m10 46 rfl) rfl
theorem q2445 : (Jvm.Cond.instanceMethod ({ cls := "LetMill$Types", name := "read", desc := "([I)I" } : Jvm.MethodName)) ∈ lw_all := lw_g (lw_at lw_m10 75 rfl) rfl
theorem q2446 : (Jvm.Cond.selects "LetMill$Types" ({ cls := "LetMill$Types", name := "read", desc := "([I)I" } : Jvm.MethodName) ({ cls := "LetMill$Types", name := "read", desc := "([I)I" } : Jvm.MethodName)) ∈ lw_all := lw_g (lw_at lw_m10 76 rfl) rfl
theorem q2447 : (Jvm.Cond.code ({ cls := "LetMill$Types", name := "read", desc := "([I)I" } : Jvm.MethodName) prog_54_method_27_code (3 : Nat) (Option.some Jvm.ClassFile.FieldType.int)) ∈ lw_all := lw_g (lw_at lw_m10 77 rfl) rfl
theorem q2448 : (Jvm.Cond.methodLink "LetMill$Types" (139 : Nat) ({ cls := "LetMill$Types", name := "next", desc := "([I)I" } : Jvm.MethodName)) ∈ lw_all := lw_g (lw_at lw_m10 78 rfl) rfl
theorem q2450 : (Jvm.Cond.instanceMethod ({ cls := "LetMill$Types", name := "next", desc := "([I)I" } : Jvm.MethodName)) ∈ lw_all := lw_g (lw_at lw_m10 80 rfl) rfl
theorem q2451 : (Jvm.Cond.code ({ cls := "LetMill$Types", name := "next", desc := "([I)I" } : Jvm.MethodName) prog_54_method_29_code (7 : Nat) (Option.some Jvm.ClassFile.FieldType.int)) ∈ lw_all := lw_g (lw_at lw_m10 81 rfl) rfl
theorem q2452 : (Jvm.Cond.methodLink "LetMill$Types" (130 : Nat) ({ cls := "LetMill$Types", name := "variable", desc := "()I" } : Jvm.MethodName)) ∈ lw_all := lw_g (lw_at lw_m10 82 rfl) rfl
theorem q2454 : (Jvm.Cond.instanceMethod ({ cls := "LetMill$Types", name := "readOn", desc := "([I)I" } : Jvm.MethodName)) ∈ lw_all := lw_g (lw_at lw_m10 84 rfl) rfl
theorem q2455 : (Jvm.Cond.selects "LetMill$Types" ({ cls := "LetMill$Types", name := "readOn", desc := "([I)I" } : Jvm.MethodName) ({ cls := "LetMill$Types", name := "readOn", desc := "([I)I" } : Jvm.MethodName)) ∈ lw_all := lw_g (lw_at lw_m10 85 rfl) rfl
theorem q2456 : (Jvm.Cond.code ({ cls := "LetMill$Types", name := "readOn", desc := "([I)I" } : Jvm.MethodName) prog_54_method_28_code (2 : Nat) (Option.some Jvm.ClassFile.FieldType.int)) ∈ lw_all := lw_g (lw_at lw_m10 86 rfl) rfl
theorem q2487 : (Jvm.Cond.instanceMethod ({ cls := "LetMill$Types", name := "same", desc := "(II)Z" } : Jvm.MethodName)) ∈ lw_all := lw_g (lw_at lw_m10 117 rfl) rfl
theorem q2488 : (Jvm.Cond.selects "LetMill$Types" ({ cls := "LetMill$Types", name := "same", desc := "(II)Z" } : Jvm.MethodName) ({ cls := "LetMill$Types", name := "same", desc := "(II)Z" } : Jvm.MethodName)) ∈ lw_all := lw_g (lw_at lw_m10 118 rfl) rfl
theorem q2489 : (Jvm.Cond.code ({ cls := "LetMill$Types", name := "same", desc := "(II)Z" } : Jvm.MethodName) prog_54_method_21_code (3 : Nat) (Option.some Jvm.ClassFile.FieldType.boolean)) ∈ lw_all := lw_g (lw_at lw_m10 119 rfl) rfl
theorem q2490 : (Jvm.Cond.methodLink "LetMill$Types" (110 : Nat) ({ cls := "LetMill$Types", name := "joined", desc := "(II)Z" } : Jvm.MethodName)) ∈ lw_all := lw_g (lw_at lw_m10 120 rfl) rfl
theorem q2492 : (Jvm.Cond.instanceMethod ({ cls := "LetMill$Types", name := "joined", desc := "(II)Z" } : Jvm.MethodName)) ∈ lw_all := lw_g (lw_at lw_m10 122 rfl) rfl
theorem q2493 : (Jvm.Cond.code ({ cls := "LetMill$Types", name := "joined", desc := "(II)Z" } : Jvm.MethodName) prog_54_method_22_code (8 : Nat) (Option.some Jvm.ClassFile.FieldType.boolean)) ∈ lw_all := lw_g (lw_at lw_m10 123 rfl) rfl
theorem q2494 : (Jvm.Cond.methodLink "LetMill$Types" (114 : Nat) ({ cls := "LetMill$Types", name := "isFinite", desc := "(I)Z" } : Jvm.MethodName)) ∈ lw_all := lw_g (lw_at lw_m10 124 rfl) rfl
theorem q2496 : (Jvm.Cond.instanceMethod ({ cls := "LetMill$Types", name := "isFinite", desc := "(I)Z" } : Jvm.MethodName)) ∈ lw_all := lw_g (lw_at lw_m10 126 rfl) rfl
theorem q2497 : (Jvm.Cond.code ({ cls := "LetMill$Types", name := "isFinite", desc := "(I)Z" } : Jvm.MethodName) prog_54_method_23_code (8 : Nat) (Option.some Jvm.ClassFile.FieldType.boolean)) ∈ lw_all := lw_g (lw_at lw_m10 127 rfl) rfl
theorem q2664 : (Jvm.Cond.instanceMethod ({ cls := "LetMill$Types", name := "copied", desc := "(II)I" } : Jvm.MethodName)) ∈ lw_all := lw_g (lw_at lw_m11 54 rfl) rfl
theorem q2665 : (Jvm.Cond.selects "LetMill$Types" ({ cls := "LetMill$Types", name := "copied", desc := "(II)I" } : Jvm.MethodName) ({ cls := "LetMill$Types", name := "copied", desc := "(II)I" } : Jvm.MethodName)) ∈ lw_all := lw_g (lw_at lw_m11 55 rfl) rfl
theorem q2666 : (Jvm.Cond.code ({ cls := "LetMill$Types", name := "copied", desc := "(II)I" } : Jvm.MethodName) prog_54_method_26_code (8 : Nat) (Option.some Jvm.ClassFile.FieldType.int)) ∈ lw_all := lw_g (lw_at lw_m11 56 rfl) rfl
theorem q2667 : (Jvm.Cond.methodLink "LetMill$Types" (133 : Nat) ({ cls := "LetMill$Types", name := "copied", desc := "(II)I" } : Jvm.MethodName)) ∈ lw_all := lw_g (lw_at lw_m11 57 rfl) rfl
theorem q2747 : (Jvm.Cond.instanceMethod ({ cls := "LetMill$Types", name := "touch", desc := "(II)V" } : Jvm.MethodName)) ∈ lw_all := lw_g (lw_at lw_m11 137 rfl) rfl
theorem q2748 : (Jvm.Cond.selects "LetMill$Types" ({ cls := "LetMill$Types", name := "touch", desc := "(II)V" } : Jvm.MethodName) ({ cls := "LetMill$Types", name := "touch", desc := "(II)V" } : Jvm.MethodName)) ∈ lw_all := lw_g (lw_at lw_m11 138 rfl) rfl
theorem q2749 : (Jvm.Cond.code ({ cls := "LetMill$Types", name := "touch", desc := "(II)V" } : Jvm.MethodName) prog_54_method_24_code (8 : Nat) (Option.none : Option Jvm.ClassFile.FieldType)) ∈ lw_all := lw_g (lw_at lw_m11 139 rfl) rfl
theorem q2751 : (Jvm.Cond.instanceMethod ({ cls := "LetMill$Types", name := "generalise", desc := "(III)Z" } : Jvm.MethodName)) ∈ lw_all := lw_g (lw_at lw_m11 141 rfl) rfl
theorem q2752 : (Jvm.Cond.selects "LetMill$Types" ({ cls := "LetMill$Types", name := "generalise", desc := "(III)Z" } : Jvm.MethodName) ({ cls := "LetMill$Types", name := "generalise", desc := "(III)Z" } : Jvm.MethodName)) ∈ lw_all := lw_g (lw_at lw_m11 142 rfl) rfl
theorem q2753 : (Jvm.Cond.code ({ cls := "LetMill$Types", name := "generalise", desc := "(III)Z" } : Jvm.MethodName) prog_54_method_25_code (8 : Nat) (Option.some Jvm.ClassFile.FieldType.boolean)) ∈ lw_all := lw_g (lw_at lw_m11 143 rfl) rfl
theorem q2754 : (Jvm.Cond.methodLink "LetMill$Types" (126 : Nat) ({ cls := "LetMill$Types", name := "generalise", desc := "(III)Z" } : Jvm.MethodName)) ∈ lw_all := lw_g (lw_at lw_m11 144 rfl) rfl
theorem q2816 : (Jvm.Cond.instanceMethod ({ cls := "LetMill$Types", name := "settle", desc := "(I)V" } : Jvm.MethodName)) ∈ lw_all := lw_g (lw_at lw_m11 206 rfl) rfl
theorem q2817 : (Jvm.Cond.selects "LetMill$Types" ({ cls := "LetMill$Types", name := "settle", desc := "(I)V" } : Jvm.MethodName) ({ cls := "LetMill$Types", name := "settle", desc := "(I)V" } : Jvm.MethodName)) ∈ lw_all := lw_g (lw_at lw_m11 207 rfl) rfl
theorem q2818 : (Jvm.Cond.code ({ cls := "LetMill$Types", name := "settle", desc := "(I)V" } : Jvm.MethodName) prog_54_method_33_code (5 : Nat) (Option.none : Option Jvm.ClassFile.FieldType)) ∈ lw_all := lw_g (lw_at lw_m11 208 rfl) rfl
theorem q2819 : (Jvm.Cond.methodLink "LetMill$Types" (156 : Nat) ({ cls := "LetMill$Types", name := "settle", desc := "(I)V" } : Jvm.MethodName)) ∈ lw_all := lw_g (lw_at lw_m11 209 rfl) rfl
def RX4 : String := "LetMill$Names"
abbrev cX4_spelled : ByteArray := prog_31_method_2_code
def yX4_spelled : MethodName := ⟨RX4, "spelled", "(Ljava/lang/String;)J"⟩
theorem q214 : (Jvm.Cond.initialized "LetMill$Names") ∈ lw_all := lw_g (lw_at lw_m1 4 rfl) rfl
theorem q378 : (Jvm.Cond.static ({ cls := "LetMill$Names", name := "spelled", desc := "(Ljava/lang/String;)J" } : Jvm.MethodName)) ∈ lw_all := lw_g (lw_at lw_m1 168 rfl) rfl
theorem q379 : (Jvm.Cond.code ({ cls := "LetMill$Names", name := "spelled", desc := "(Ljava/lang/String;)J" } : Jvm.MethodName) prog_31_method_2_code (4 : Nat) (Option.some Jvm.ClassFile.FieldType.long)) ∈ lw_all := lw_g (lw_at lw_m1 169 rfl) rfl
theorem q380 : (Jvm.Cond.methodLink "LetMill$Names" (7 : Nat) ({ cls := "java/lang/String", name := "length", desc := "()I" } : Jvm.MethodName)) ∈ lw_all := lw_g (lw_at lw_m1 170 rfl) rfl
theorem q390 : (Jvm.Cond.methodLink "LetMill$Names" (13 : Nat) ({ cls := "java/lang/String", name := "charAt", desc := "(I)C" } : Jvm.MethodName)) ∈ lw_all := lw_g (lw_at lw_m1 180 rfl) rfl
def RJ0 : String := "java/lang/String"
abbrev cJ0_length : ByteArray := prog_68_method_54_code
def yJ0_length : MethodName := ⟨RJ0, "length", "()I"⟩
abbrev cJ0_coder : ByteArray := prog_68_method_152_code
def yJ0_coder : MethodName := ⟨RJ0, "coder", "()B"⟩
abbrev cJ0_charAt : ByteArray := prog_68_method_56_code
def yJ0_charAt : MethodName := ⟨RJ0, "charAt", "(I)C"⟩
abbrev cJ0_isLatin1 : ByteArray := prog_68_method_154_code
def yJ0_isLatin1 : MethodName := ⟨RJ0, "isLatin1", "()Z"⟩
abbrev cJ0_checkIndex : ByteArray := prog_68_method_155_code
def yJ0_checkIndex : MethodName := ⟨RJ0, "checkIndex", "(II)V"⟩
abbrev cJ0_indexOf : ByteArray := prog_68_method_79_code
def yJ0_indexOf : MethodName := ⟨RJ0, "indexOf", "(I)I"⟩
abbrev cJ0_indexOf_2 : ByteArray := prog_68_method_80_code
def yJ0_indexOf_2 : MethodName := ⟨RJ0, "indexOf", "(II)I"⟩
abbrev cJ0_checkBoundsBeginEnd : ByteArray := prog_68_method_158_code
def yJ0_checkBoundsBeginEnd : MethodName := ⟨RJ0, "checkBoundsBeginEnd", "(III)V"⟩
theorem q215 : (Jvm.Cond.initialized "java/lang/String") ∈ lw_all := lw_g (lw_at lw_m1 5 rfl) rfl
theorem q381 : (Jvm.Cond.instanceMethod ({ cls := "java/lang/String", name := "length", desc := "()I" } : Jvm.MethodName)) ∈ lw_all := lw_g (lw_at lw_m1 171 rfl) rfl
theorem q382 : (Jvm.Cond.selects "java/lang/String" ({ cls := "java/lang/String", name := "length", desc := "()I" } : Jvm.MethodName) ({ cls := "java/lang/String", name := "length", desc := "()I" } : Jvm.MethodName)) ∈ lw_all := lw_g (lw_at lw_m1 172 rfl) rfl
theorem q383 : (Jvm.Cond.code ({ cls := "java/lang/String", name := "length", desc := "()I" } : Jvm.MethodName) prog_68_method_54_code (1 : Nat) (Option.some Jvm.ClassFile.FieldType.int)) ∈ lw_all := lw_g (lw_at lw_m1 173 rfl) rfl
theorem q384 : (Jvm.Cond.methodLink "java/lang/String" (335 : Nat) ({ cls := "java/lang/String", name := "coder", desc := "()B" } : Jvm.MethodName)) ∈ lw_all := lw_g (lw_at lw_m1 174 rfl) rfl
theorem q385 : (Jvm.Cond.instanceMethod ({ cls := "java/lang/String", name := "coder", desc := "()B" } : Jvm.MethodName)) ∈ lw_all := lw_g (lw_at lw_m1 175 rfl) rfl
theorem q386 : (Jvm.Cond.selects "java/lang/String" ({ cls := "java/lang/String", name := "coder", desc := "()B" } : Jvm.MethodName) ({ cls := "java/lang/String", name := "coder", desc := "()B" } : Jvm.MethodName)) ∈ lw_all := lw_g (lw_at lw_m1 176 rfl) rfl
theorem q387 : (Jvm.Cond.code ({ cls := "java/lang/String", name := "coder", desc := "()B" } : Jvm.MethodName) prog_68_method_152_code (1 : Nat) (Option.some Jvm.ClassFile.FieldType.byte)) ∈ lw_all := lw_g (lw_at lw_m1 177 rfl) rfl
theorem q388 : (Jvm.Cond.fieldLink "java/lang/String" (38 : Nat) "java/lang/String" "COMPACT_STRINGS" "Z") ∈ lw_all := lw_g (lw_at lw_m1 178 rfl) rfl
theorem q391 : (Jvm.Cond.instanceMethod ({ cls := "java/lang/String", name := "charAt", desc := "(I)C" } : Jvm.MethodName)) ∈ lw_all := lw_g (lw_at lw_m1 181 rfl) rfl
theorem q392 : (Jvm.Cond.selects "java/lang/String" ({ cls := "java/lang/String", name := "charAt", desc := "(I)C" } : Jvm.MethodName) ({ cls := "java/lang/String", name := "charAt", desc := "(I)C" } : Jvm.MethodName)) ∈ lw_all := lw_g (lw_at lw_m1 182 rfl) rfl
theorem q393 : (Jvm.Cond.code ({ cls := "java/lang/String", name := "charAt", desc := "(I)C" } : Jvm.MethodName) prog_68_method_56_code (2 : Nat) (Option.some Jvm.ClassFile.FieldType.char)) ∈ lw_all := lw_g (lw_at lw_m1 183 rfl) rfl
theorem q394 : (Jvm.Cond.methodLink "java/lang/String" (492 : Nat) ({ cls := "java/lang/String", name := "isLatin1", desc := "()Z" } : Jvm.MethodName)) ∈ lw_all := lw_g (lw_at lw_m1 184 rfl) rfl
theorem q395 : (Jvm.Cond.instanceMethod ({ cls := "java/lang/String", name := "isLatin1", desc := "()Z" } : Jvm.MethodName)) ∈ lw_all := lw_g (lw_at lw_m1 185 rfl) rfl
theorem q396 : (Jvm.Cond.selects "java/lang/String" ({ cls := "java/lang/String", name := "isLatin1", desc := "()Z" } : Jvm.MethodName) ({ cls := "java/lang/String", name := "isLatin1", desc := "()Z" } : Jvm.MethodName)) ∈ lw_all := lw_g (lw_at lw_m1 186 rfl) rfl
theorem q397 : (Jvm.Cond.code ({ cls := "java/lang/String", name := "isLatin1", desc := "()Z" } : Jvm.MethodName) prog_68_method_154_code (1 : Nat) (Option.some Jvm.ClassFile.FieldType.boolean)) ∈ lw_all := lw_g (lw_at lw_m1 187 rfl) rfl
theorem q398 : (Jvm.Cond.methodLink "java/lang/String" (495 : Nat) ({ cls := "java/lang/StringLatin1", name := "charAt", desc := "([BI)C" } : Jvm.MethodName)) ∈ lw_all := lw_g (lw_at lw_m1 188 rfl) rfl
theorem q402 : (Jvm.Cond.static ({ cls := "java/lang/String", name := "checkIndex", desc := "(II)V" } : Jvm.MethodName)) ∈ lw_all := lw_g (lw_at lw_m1 192 rfl) rfl
theorem q403 : (Jvm.Cond.code ({ cls := "java/lang/String", name := "checkIndex", desc := "(II)V" } : Jvm.MethodName) prog_68_method_155_code (2 : Nat) (Option.none : Option Jvm.ClassFile.FieldType)) ∈ lw_all := lw_g (lw_at lw_m1 193 rfl) rfl
theorem q404 : (Jvm.Cond.fieldLink "java/lang/String" (1053 : Nat) "jdk/internal/util/Preconditions" "SIOOBE_FORMATTER" "Ljava/util/function/BiFunction;") ∈ lw_all := lw_g (lw_at lw_m1 194 rfl) rfl
theorem q406 : (Jvm.Cond.methodLink "java/lang/String" (1059 : Nat) ({ cls := "jdk/internal/util/Preconditions", name := "checkIndex", desc := "(IILjava/util/function/BiFunction;)I" } : Jvm.MethodName)) ∈ lw_all := lw_g (lw_at lw_m1 196 rfl) rfl
theorem q409 : (Jvm.Cond.methodLink "java/lang/String" (498 : Nat) ({ cls := "java/lang/StringUTF16", name := "charAt", desc := "([BI)C" } : Jvm.MethodName)) ∈ lw_all := lw_g (lw_at lw_m1 199 rfl) rfl
theorem q1203 : (Jvm.Cond.instanceMethod ({ cls := "java/lang/String", name := "indexOf", desc := "(I)I" } : Jvm.MethodName)) ∈ lw_all := lw_g (lw_at lw_m5 33 rfl) rfl
theorem q1204 : (Jvm.Cond.selects "java/lang/String" ({ cls := "java/lang/String", name := "indexOf", desc := "(I)I" } : Jvm.MethodName) ({ cls := "java/lang/String", name := "indexOf", desc := "(I)I" } : Jvm.MethodName)) ∈ lw_all := lw_g (lw_at lw_m5 34 rfl) rfl
theorem q1205 : (Jvm.Cond.code ({ cls := "java/lang/String", name := "indexOf", desc := "(I)I" } : Jvm.MethodName) prog_68_method_79_code (2 : Nat) (Option.some Jvm.ClassFile.FieldType.int)) ∈ lw_all := lw_g (lw_at lw_m5 35 rfl) rfl
theorem q1206 : (Jvm.Cond.methodLink "java/lang/String" (633 : Nat) ({ cls := "java/lang/String", name := "indexOf", desc := "(II)I" } : Jvm.MethodName)) ∈ lw_all := lw_g (lw_at lw_m5 36 rfl) rfl
theorem q1207 : (Jvm.Cond.instanceMethod ({ cls := "java/lang/String", name := "indexOf", desc := "(II)I" } : Jvm.MethodName)) ∈ lw_all := lw_g (lw_at lw_m5 37 rfl) rfl
theorem q1208 : (Jvm.Cond.selects "java/lang/String" ({ cls := "java/lang/String", name := "indexOf", desc := "(II)I" } : Jvm.MethodName) ({ cls := "java/lang/String", name := "indexOf", desc := "(II)I" } : Jvm.MethodName)) ∈ lw_all := lw_g (lw_at lw_m5 38 rfl) rfl
theorem q1209 : (Jvm.Cond.code ({ cls := "java/lang/String", name := "indexOf", desc := "(II)I" } : Jvm.MethodName) prog_68_method_80_code (3 : Nat) (Option.some Jvm.ClassFile.FieldType.int)) ∈ lw_all := lw_g (lw_at lw_m5 39 rfl) rfl
theorem q1210 : (Jvm.Cond.methodLink "java/lang/String" (505 : Nat) ({ cls := "java/lang/String", name := "length", desc := "()I" } : Jvm.MethodName)) ∈ lw_all := lw_g (lw_at lw_m5 40 rfl) rfl
theorem q1211 : (Jvm.Cond.methodLink "java/lang/String" (637 : Nat) ({ cls := "java/lang/StringLatin1", name := "indexOf", desc := "([BIII)I" } : Jvm.MethodName)) ∈ lw_all := lw_g (lw_at lw_m5 41 rfl) rfl
theorem q1226 : (Jvm.Cond.methodLink "java/lang/String" (640 : Nat) ({ cls := "java/lang/StringUTF16", name := "indexOf", desc := "([BIII)I" } : Jvm.MethodName)) ∈ lw_all := lw_g (lw_at lw_m5 56 rfl) rfl
theorem q1239 : (Jvm.Cond.static ({ cls := "java/lang/String", name := "checkBoundsBeginEnd", desc := "(III)V" } : Jvm.MethodName)) ∈ lw_all := lw_g (lw_at lw_m5 69 rfl) rfl
theorem q1240 : (Jvm.Cond.code ({ cls := "java/lang/String", name := "checkBoundsBeginEnd", desc := "(III)V" } : Jvm.MethodName) prog_68_method_158_code (3 : Nat) (Option.none : Option Jvm.ClassFile.FieldType)) ∈ lw_all := lw_g (lw_at lw_m5 70 rfl) rfl
theorem q1241 : (Jvm.Cond.methodLink "java/lang/String" (1062 : Nat) ({ cls := "jdk/internal/util/Preconditions", name := "checkFromToIndex", desc := "(IIILjava/util/function/BiFunction;)I" } : Jvm.MethodName)) ∈ lw_all := lw_g (lw_at lw_m5 71 rfl) rfl
theorem q4581 : (Jvm.Cond.fieldLink "java/lang/String" (9 : Nat) "java/lang/String" "value" "[B") ∈ lw_all := lw_g (lw_at lw_m19 51 rfl) rfl
theorem q4582 : (Jvm.Cond.fieldLink "java/lang/String" (15 : Nat) "java/lang/String" "coder" "B") ∈ lw_all := lw_g (lw_at lw_m19 52 rfl) rfl
def RJ1 : String := "java/lang/StringLatin1"
abbrev cJ1_charAt : ByteArray := prog_69_method_2_code
def yJ1_charAt : MethodName := ⟨RJ1, "charAt", "([BI)C"⟩
abbrev cJ1_indexOf : ByteArray := prog_69_method_22_code
def yJ1_indexOf : MethodName := ⟨RJ1, "indexOf", "([BIII)I"⟩
abbrev cJ1_canEncode : ByteArray := prog_69_method_4_code
def yJ1_canEncode : MethodName := ⟨RJ1, "canEncode", "(I)Z"⟩
abbrev cJ1_indexOfChar : ByteArray := prog_69_method_23_code
def yJ1_indexOfChar : MethodName := ⟨RJ1, "indexOfChar", "([BIII)I"⟩
theorem q216 : (Jvm.Cond.initialized "java/lang/StringLatin1") ∈ lw_all := lw_g (lw_at lw_m1 6 rfl) rfl
theorem q399 : (Jvm.Cond.static ({ cls := "java/lang/StringLatin1", name := "charAt", desc := "([BI)C" } : Jvm.MethodName)) ∈ lw_all := lw_g (lw_at lw_m1 189 rfl) rfl
theorem q400 : (Jvm.Cond.code ({ cls := "java/lang/StringLatin1", name := "charAt", desc := "([BI)C" } : Jvm.MethodName) prog_69_method_2_code (2 : Nat) (Option.some Jvm.ClassFile.FieldType.char)) ∈ lw_all := lw_g (lw_at lw_m1 190 rfl) rfl
theorem q401 : (Jvm.Cond.methodLink "java/lang/StringLatin1" (9 : Nat) ({ cls := "java/lang/String", name := "checkIndex", desc := "(II)V" } : Jvm.MethodName)) ∈ lw_all := lw_g (lw_at lw_m1 191 rfl) rfl
theorem q1212 : (Jvm.Cond.static ({ cls := "java/lang/StringLatin1", name := "indexOf", desc := "([BIII)I" } : Jvm.MethodName)) ∈ lw_all := lw_g (lw_at lw_m5 42 rfl) rfl
theorem q1213 : (Jvm.Cond.code ({ cls := "java/lang/StringLatin1", name := "indexOf", desc := "([BIII)I" } : Jvm.MethodName) prog_69_method_22_code (4 : Nat) (Option.some Jvm.ClassFile.FieldType.int)) ∈ lw_all := lw_g (lw_at lw_m5 43 rfl) rfl
theorem q1214 : (Jvm.Cond.methodLink "java/lang/StringLatin1" (88 : Nat) ({ cls := "java/lang/StringLatin1", name := "canEncode", desc := "(I)Z" } : Jvm.MethodName)) ∈ lw_all := lw_g (lw_at lw_m5 44 rfl) rfl
theorem q1215 : (Jvm.Cond.static ({ cls := "java/lang/StringLatin1", name := "canEncode", desc := "(I)Z" } : Jvm.MethodName)) ∈ lw_all := lw_g (lw_at lw_m5 45 rfl) rfl
theorem q1216 : (Jvm.Cond.code ({ cls := "java/lang/StringLatin1", name := "canEncode", desc := "(I)Z" } : Jvm.MethodName) prog_69_method_4_code (1 : Nat) (Option.some Jvm.ClassFile.FieldType.boolean)) ∈ lw_all := lw_g (lw_at lw_m5 46 rfl) rfl
theorem q1217 : (Jvm.Cond.methodLink "java/lang/StringLatin1" (92 : Nat) ({ cls := "java/lang/Math", name := "max", desc := "(II)I" } : Jvm.MethodName)) ∈ lw_all := lw_g (lw_at lw_m5 47 rfl) rfl
theorem q1220 : (Jvm.Cond.methodLink "java/lang/StringLatin1" (38 : Nat) ({ cls := "java/lang/Math", name := "min", desc := "(II)I" } : Jvm.MethodName)) ∈ lw_all := lw_g (lw_at lw_m5 50 rfl) rfl
theorem q1223 : (Jvm.Cond.methodLink "java/lang/StringLatin1" (95 : Nat) ({ cls := "java/lang/StringLatin1", name := "indexOfChar", desc := "([BIII)I" } : Jvm.MethodName)) ∈ lw_all := lw_g (lw_at lw_m5 53 rfl) rfl
theorem q1224 : (Jvm.Cond.static ({ cls := "java/lang/StringLatin1", name := "indexOfChar", desc := "([BIII)I" } : Jvm.MethodName)) ∈ lw_all := lw_g (lw_at lw_m5 54 rfl) rfl
theorem q1225 : (Jvm.Cond.code ({ cls := "java/lang/StringLatin1", name := "indexOfChar", desc := "([BIII)I" } : Jvm.MethodName) prog_69_method_23_code (6 : Nat) (Option.some Jvm.ClassFile.FieldType.int)) ∈ lw_all := lw_g (lw_at lw_m5 55 rfl) rfl
def RJ2 : String := "jdk/internal/util/Preconditions"
abbrev cJ2_checkIndex : ByteArray := prog_73_method_11_code
def yJ2_checkIndex : MethodName := ⟨RJ2, "checkIndex", "(IILjava/util/function/BiFunction;)I"⟩
abbrev cJ2_checkFromToIndex : ByteArray := prog_73_method_12_code
def yJ2_checkFromToIndex : MethodName := ⟨RJ2, "checkFromToIndex", "(IIILjava/util/function/BiFunction;)I"⟩
theorem q217 : (Jvm.Cond.initialized "jdk/internal/util/Preconditions") ∈ lw_all := lw_g (lw_at lw_m1 7 rfl) rfl
theorem q407 : (Jvm.Cond.static ({ cls := "jdk/internal/util/Preconditions", name := "checkIndex", desc := "(IILjava/util/function/BiFunction;)I" } : Jvm.MethodName)) ∈ lw_all := lw_g (lw_at lw_m1 197 rfl) rfl
theorem q408 : (Jvm.Cond.code ({ cls := "jdk/internal/util/Preconditions", name := "checkIndex", desc := "(IILjava/util/function/BiFunction;)I" } : Jvm.MethodName) prog_73_method_11_code (3 : Nat) (Option.some Jvm.ClassFile.FieldType.int)) ∈ lw_all := lw_g (lw_at lw_m1 198 rfl) rfl
theorem q1242 : (Jvm.Cond.static ({ cls := "jdk/internal/util/Preconditions", name := "checkFromToIndex", desc := "(IIILjava/util/function/BiFunction;)I" } : Jvm.MethodName)) ∈ lw_all := lw_g (lw_at lw_m5 72 rfl) rfl
theorem q1243 : (Jvm.Cond.code ({ cls := "jdk/internal/util/Preconditions", name := "checkFromToIndex", desc := "(IIILjava/util/function/BiFunction;)I" } : Jvm.MethodName) prog_73_method_12_code (4 : Nat) (Option.some Jvm.ClassFile.FieldType.int)) ∈ lw_all := lw_g (lw_at lw_m5 73 rfl) rfl
def RJ3 : String := "java/lang/StringUTF16"
abbrev cJ3_charAt : ByteArray := prog_70_method_83_code
def yJ3_charAt : MethodName := ⟨RJ3, "charAt", "([BI)C"⟩
abbrev cJ3_checkIndex : ByteArray := prog_70_method_91_code
def yJ3_checkIndex : MethodName := ⟨RJ3, "checkIndex", "(I[B)V"⟩
abbrev cJ3_length : ByteArray := prog_70_method_6_code
def yJ3_length : MethodName := ⟨RJ3, "length", "([B)I"⟩
abbrev cJ3_getChar : ByteArray := prog_70_method_5_code
def yJ3_getChar : MethodName := ⟨RJ3, "getChar", "([BI)C"⟩
abbrev cJ3_indexOf : ByteArray := prog_70_method_40_code
def yJ3_indexOf : MethodName := ⟨RJ3, "indexOf", "([BIII)I"⟩
abbrev cJ3_indexOfChar : ByteArray := prog_70_method_47_code
def yJ3_indexOfChar : MethodName := ⟨RJ3, "indexOfChar", "([BIII)I"⟩
abbrev cJ3_checkBoundsBeginEnd : ByteArray := prog_70_method_93_code
def yJ3_checkBoundsBeginEnd : MethodName := ⟨RJ3, "checkBoundsBeginEnd", "(II[B)V"⟩
abbrev cJ3_indexOfCharUnsafe : ByteArray := prog_70_method_48_code
def yJ3_indexOfCharUnsafe : MethodName := ⟨RJ3, "indexOfCharUnsafe", "([BIII)I"⟩
abbrev cJ3_indexOfSupplementary : ByteArray := prog_70_method_49_code
def yJ3_indexOfSupplementary : MethodName := ⟨RJ3, "indexOfSupplementary", "([BIII)I"⟩
theorem q218 : (Jvm.Cond.initialized "java/lang/StringUTF16") ∈ lw_all := lw_g (lw_at lw_m1 8 rfl) rfl
theorem q410 : (Jvm.Cond.static ({ cls := "java/lang/StringUTF16", name := "charAt", desc := "([BI)C" } : Jvm.MethodName)) ∈ lw_all := lw_g (lw_at lw_m1 200 rfl) rfl
theorem q411 : (Jvm.Cond.code ({ cls := "java/lang/StringUTF16", name := "charAt", desc := "([BI)C" } : Jvm.MethodName) prog_70_method_83_code (2 : Nat) (Option.some Jvm.ClassFile.FieldType.char)) ∈ lw_all := lw_g (lw_at lw_m1 201 rfl) rfl
theorem q412 : (Jvm.Cond.methodLink "java/lang/StringUTF16" (67 : Nat) ({ cls := "java/lang/StringUTF16", name := "checkIndex", desc := "(I[B)V" } : Jvm.MethodName)) ∈ lw_all := lw_g (lw_at lw_m1 202 rfl) rfl
theorem q413 : (Jvm.Cond.static ({ cls := "java/lang/StringUTF16", name := "checkIndex", desc := "(I[B)V" } : Jvm.MethodName)) ∈ lw_all := lw_g (lw_at lw_m1 203 rfl) rfl
theorem q414 : (Jvm.Cond.code ({ cls := "java/lang/StringUTF16", name := "checkIndex", desc := "(I[B)V" } : Jvm.MethodName) prog_70_method_91_code (2 : Nat) (Option.none : Option Jvm.ClassFile.FieldType)) ∈ lw_all := lw_g (lw_at lw_m1 204 rfl) rfl
theorem q415 : (Jvm.Cond.methodLink "java/lang/StringUTF16" (48 : Nat) ({ cls := "java/lang/StringUTF16", name := "length", desc := "([B)I" } : Jvm.MethodName)) ∈ lw_all := lw_g (lw_at lw_m1 205 rfl) rfl
theorem q416 : (Jvm.Cond.static ({ cls := "java/lang/StringUTF16", name := "length", desc := "([B)I" } : Jvm.MethodName)) ∈ lw_all := lw_g (lw_at lw_m1 206 rfl) rfl
theorem q417 : (Jvm.Cond.code ({ cls := "java/lang/StringUTF16", name := "length", desc := "([B)I" } : Jvm.MethodName) prog_70_method_6_code (1 : Nat) (Option.some Jvm.ClassFile.FieldType.int)) ∈ lw_all := lw_g (lw_at lw_m1 207 rfl) rfl
theorem q418 : (Jvm.Cond.methodLink "java/lang/StringUTF16" (414 : Nat) ({ cls := "java/lang/String", name := "checkIndex", desc := "(II)V" } : Jvm.MethodName)) ∈ lw_all := lw_g (lw_at lw_m1 208 rfl) rfl
theorem q419 : (Jvm.Cond.methodLink "java/lang/StringUTF16" (71 : Nat) ({ cls := "java/lang/StringUTF16", name := "getChar", desc := "([BI)C" } : Jvm.MethodName)) ∈ lw_all := lw_g (lw_at lw_m1 209 rfl) rfl
theorem q420 : (Jvm.Cond.static ({ cls := "java/lang/StringUTF16", name := "getChar", desc := "([BI)C" } : Jvm.MethodName)) ∈ lw_all := lw_g (lw_at lw_m1 210 rfl) rfl
theorem q421 : (Jvm.Cond.code ({ cls := "java/lang/StringUTF16", name := "getChar", desc := "([BI)C" } : Jvm.MethodName) prog_70_method_5_code (2 : Nat) (Option.some Jvm.ClassFile.FieldType.char)) ∈ lw_all := lw_g (lw_at lw_m1 211 rfl) rfl
theorem q422 : (Jvm.Cond.fieldLink "java/lang/StringUTF16" (44 : Nat) "java/lang/StringUTF16" "$assertionsDisabled" "Z") ∈ lw_all := lw_g (lw_at lw_m1 212 rfl) rfl
theorem q424 : (Jvm.Cond.fieldLink "java/lang/StringUTF16" (59 : Nat) "java/lang/StringUTF16" "HI_BYTE_SHIFT" "I") ∈ lw_all := lw_g (lw_at lw_m1 214 rfl) rfl
theorem q426 : (Jvm.Cond.fieldLink "java/lang/StringUTF16" (63 : Nat) "java/lang/StringUTF16" "LO_BYTE_SHIFT" "I") ∈ lw_all := lw_g (lw_at lw_m1 216 rfl) rfl
theorem q1227 : (Jvm.Cond.static ({ cls := "java/lang/StringUTF16", name := "indexOf", desc := "([BIII)I" } : Jvm.MethodName)) ∈ lw_all := lw_g (lw_at lw_m5 57 rfl) rfl
theorem q1228 : (Jvm.Cond.code ({ cls := "java/lang/StringUTF16", name := "indexOf", desc := "([BIII)I" } : Jvm.MethodName) prog_70_method_40_code (4 : Nat) (Option.some Jvm.ClassFile.FieldType.int)) ∈ lw_all := lw_g (lw_at lw_m5 58 rfl) rfl
theorem q1229 : (Jvm.Cond.methodLink "java/lang/StringUTF16" (224 : Nat) ({ cls := "java/lang/Math", name := "max", desc := "(II)I" } : Jvm.MethodName)) ∈ lw_all := lw_g (lw_at lw_m5 59 rfl) rfl
theorem q1230 : (Jvm.Cond.methodLink "java/lang/StringUTF16" (183 : Nat) ({ cls := "java/lang/Math", name := "min", desc := "(II)I" } : Jvm.MethodName)) ∈ lw_all := lw_g (lw_at lw_m5 60 rfl) rfl
theorem q1231 : (Jvm.Cond.constant "java/lang/StringUTF16" (227 : Nat) (65536 : Int32)) ∈ lw_all := lw_g (lw_at lw_m5 61 rfl) rfl
theorem q1232 : (Jvm.Cond.methodLink "java/lang/StringUTF16" (228 : Nat) ({ cls := "java/lang/StringUTF16", name := "indexOfChar", desc := "([BIII)I" } : Jvm.MethodName)) ∈ lw_all := lw_g (lw_at lw_m5 62 rfl) rfl
theorem q1233 : (Jvm.Cond.static ({ cls := "java/lang/StringUTF16", name := "indexOfChar", desc := "([BIII)I" } : Jvm.MethodName)) ∈ lw_all := lw_g (lw_at lw_m5 63 rfl) rfl
theorem q1234 : (Jvm.Cond.code ({ cls := "java/lang/StringUTF16", name := "indexOfChar", desc := "([BIII)I" } : Jvm.MethodName) prog_70_method_47_code (4 : Nat) (Option.some Jvm.ClassFile.FieldType.int)) ∈ lw_all := lw_g (lw_at lw_m5 64 rfl) rfl
theorem q1235 : (Jvm.Cond.methodLink "java/lang/StringUTF16" (96 : Nat) ({ cls := "java/lang/StringUTF16", name := "checkBoundsBeginEnd", desc := "(II[B)V" } : Jvm.MethodName)) ∈ lw_all := lw_g (lw_at lw_m5 65 rfl) rfl
theorem q1236 : (Jvm.Cond.static ({ cls := "java/lang/StringUTF16", name := "checkBoundsBeginEnd", desc := "(II[B)V" } : Jvm.MethodName)) ∈ lw_all := lw_g (lw_at lw_m5 66 rfl) rfl
theorem q1237 : (Jvm.Cond.code ({ cls := "java/lang/StringUTF16", name := "checkBoundsBeginEnd", desc := "(II[B)V" } : Jvm.MethodName) prog_70_method_93_code (3 : Nat) (Option.none : Option Jvm.ClassFile.FieldType)) ∈ lw_all := lw_g (lw_at lw_m5 67 rfl) rfl
theorem q1238 : (Jvm.Cond.methodLink "java/lang/StringUTF16" (241 : Nat) ({ cls := "java/lang/String", name := "checkBoundsBeginEnd", desc := "(III)V" } : Jvm.MethodName)) ∈ lw_all := lw_g (lw_at lw_m5 68 rfl) rfl
theorem q1244 : (Jvm.Cond.methodLink "java/lang/StringUTF16" (244 : Nat) ({ cls := "java/lang/StringUTF16", name := "indexOfCharUnsafe", desc := "([BIII)I" } : Jvm.MethodName)) ∈ lw_all := lw_g (lw_at lw_m5 74 rfl) rfl
theorem q1245 : (Jvm.Cond.static ({ cls := "java/lang/StringUTF16", name := "indexOfCharUnsafe", desc := "([BIII)I" } : Jvm.MethodName)) ∈ lw_all := lw_g (lw_at lw_m5 75 rfl) rfl
theorem q1246 : (Jvm.Cond.code ({ cls := "java/lang/StringUTF16", name := "indexOfCharUnsafe", desc := "([BIII)I" } : Jvm.MethodName) prog_70_method_48_code (5 : Nat) (Option.some Jvm.ClassFile.FieldType.int)) ∈ lw_all := lw_g (lw_at lw_m5 76 rfl) rfl
theorem q1247 : (Jvm.Cond.methodLink "java/lang/StringUTF16" (232 : Nat) ({ cls := "java/lang/StringUTF16", name := "indexOfSupplementary", desc := "([BIII)I" } : Jvm.MethodName)) ∈ lw_all := lw_g (lw_at lw_m5 77 rfl) rfl
theorem q1248 : (Jvm.Cond.static ({ cls := "java/lang/StringUTF16", name := "indexOfSupplementary", desc := "([BIII)I" } : Jvm.MethodName)) ∈ lw_all := lw_g (lw_at lw_m5 78 rfl) rfl
theorem q1249 : (Jvm.Cond.code ({ cls := "java/lang/StringUTF16", name := "indexOfSupplementary", desc := "([BIII)I" } : Jvm.MethodName) prog_70_method_49_code (7 : Nat) (Option.some Jvm.ClassFile.FieldType.int)) ∈ lw_all := lw_g (lw_at lw_m5 79 rfl) rfl
theorem q1250 : (Jvm.Cond.methodLink "java/lang/StringUTF16" (164 : Nat) ({ cls := "java/lang/Character", name := "isValidCodePoint", desc := "(I)Z" } : Jvm.MethodName)) ∈ lw_all := lw_g (lw_at lw_m5 80 rfl) rfl
theorem q1253 : (Jvm.Cond.methodLink "java/lang/StringUTF16" (157 : Nat) ({ cls := "java/lang/Character", name := "highSurrogate", desc := "(I)C" } : Jvm.MethodName)) ∈ lw_all := lw_g (lw_at lw_m5 83 rfl) rfl
theorem q1257 : (Jvm.Cond.methodLink "java/lang/StringUTF16" (161 : Nat) ({ cls := "java/lang/Character", name := "lowSurrogate", desc := "(I)C" } : Jvm.MethodName)) ∈ lw_all := lw_g (lw_at lw_m5 87 rfl) rfl
def RX5 : String := "LetMill$TypeName"
abbrev cX5_init : ByteArray := prog_52_method_1_code
def yX5_init : MethodName := ⟨RX5, "<init>", "(JJII)V"⟩
theorem q219 : (Jvm.Cond.initialized "LetMill$TypeName") ∈ lw_all := lw_g (lw_at lw_m1 9 rfl) rfl
theorem q432 : (Jvm.Cond.instantiable "LetMill$TypeName" (6 : Nat)) ∈ lw_all := lw_g (lw_at lw_m1 222 rfl) rfl
theorem q434 : (Jvm.Cond.instanceMethod ({ cls := "LetMill$TypeName", name := "<init>", desc := "(JJII)V" } : Jvm.MethodName)) ∈ lw_all := lw_g (lw_at lw_m1 224 rfl) rfl
theorem q435 : (Jvm.Cond.code ({ cls := "LetMill$TypeName", name := "<init>", desc := "(JJII)V" } : Jvm.MethodName) prog_52_method_1_code (7 : Nat) (Option.none : Option Jvm.ClassFile.FieldType)) ∈ lw_all := lw_g (lw_at lw_m1 225 rfl) rfl
theorem q436 : (Jvm.Cond.methodLink "LetMill$TypeName" (1 : Nat) ({ cls := "java/lang/Object", name := "<init>", desc := "()V" } : Jvm.MethodName)) ∈ lw_all := lw_g (lw_at lw_m1 226 rfl) rfl
theorem q437 : (Jvm.Cond.fieldLink "LetMill$TypeName" (7 : Nat) "LetMill$TypeName" "name" "J") ∈ lw_all := lw_g (lw_at lw_m1 227 rfl) rfl
theorem q440 : (Jvm.Cond.fieldLink "LetMill$TypeName" (13 : Nat) "LetMill$TypeName" "more" "J") ∈ lw_all := lw_g (lw_at lw_m1 230 rfl) rfl
theorem q443 : (Jvm.Cond.fieldLink "LetMill$TypeName" (16 : Nat) "LetMill$TypeName" "arguments" "I") ∈ lw_all := lw_g (lw_at lw_m1 233 rfl) rfl
theorem q447 : (Jvm.Cond.fieldLink "LetMill$TypeName" (20 : Nat) "LetMill$TypeName" "id" "I") ∈ lw_all := lw_g (lw_at lw_m1 237 rfl) rfl
theorem q453 : (Jvm.Cond.laysFinal "LetMill$TypeName" "LetMill$TypeName" "name" "J") ∈ lw_all := lw_g (lw_at lw_m2 3 rfl) rfl
theorem q455 : (Jvm.Cond.laysFinal "LetMill$TypeName" "LetMill$TypeName" "more" "J") ∈ lw_all := lw_g (lw_at lw_m2 5 rfl) rfl
theorem q457 : (Jvm.Cond.laysFinal "LetMill$TypeName" "LetMill$TypeName" "arguments" "I") ∈ lw_all := lw_g (lw_at lw_m2 7 rfl) rfl
theorem q459 : (Jvm.Cond.laysFinal "LetMill$TypeName" "LetMill$TypeName" "id" "I") ∈ lw_all := lw_g (lw_at lw_m2 9 rfl) rfl
theorem q461 : (Jvm.Cond.lays "LetMill$TypeName" "LetMill$TypeName" "first" "LLetMill$Con;") ∈ lw_all := lw_g (lw_at lw_m2 11 rfl) rfl
theorem q463 : (Jvm.Cond.lays "LetMill$TypeName" "LetMill$TypeName" "cons" "I") ∈ lw_all := lw_g (lw_at lw_m2 13 rfl) rfl
theorem q4574 : (Jvm.Cond.castable "LetMill$TypeName" "LetMill$TypeName") ∈ lw_tbl := lw_at lw_m19 44 rfl
def RX6 : String := "LetMill$Machine"
abbrev cX6_init : ByteArray := prog_28_method_1_code
def yX6_init : MethodName := ⟨RX6, "<init>", "()V"⟩
abbrev cX6_clear : ByteArray := prog_28_method_2_code
def yX6_clear : MethodName := ⟨RX6, "clear", "()V"⟩
abbrev cX6_builtIn : ByteArray := prog_28_method_3_code
def yX6_builtIn : MethodName := ⟨RX6, "builtIn", "(I)I"⟩
abbrev cX6_run : ByteArray := prog_28_method_34_code
def yX6_run : MethodName := ⟨RX6, "run", "(LLetMill$Exp;I)I"⟩
abbrev cX6_next : ByteArray := prog_28_method_31_code
def yX6_next : MethodName := ⟨RX6, "next", "(LLetMill$Exp;I)V"⟩
abbrev cX6_pay : ByteArray := prog_28_method_4_code
def yX6_pay : MethodName := ⟨RX6, "pay", "(I)Z"⟩
abbrev cX6_fail : ByteArray := prog_28_method_5_code
def yX6_fail : MethodName := ⟨RX6, "fail", "(I)V"⟩
abbrev cX6_frame : ByteArray := prog_28_method_30_code
def yX6_frame : MethodName := ⟨RX6, "frame", "(LLetMill$Exp;II)V"⟩
abbrev cX6_number : ByteArray := prog_28_method_27_code
def yX6_number : MethodName := ⟨RX6, "number", "(LLetMill$Exp;)V"⟩
abbrev cX6_give : ByteArray := prog_28_method_32_code
def yX6_give : MethodName := ⟨RX6, "give", "(I)V"⟩
abbrev cX6_made : ByteArray := prog_28_method_7_code
def yX6_made : MethodName := ⟨RX6, "made", "(II)I"⟩
abbrev cX6_truth : ByteArray := prog_28_method_14_code
def yX6_truth : MethodName := ⟨RX6, "truth", "(Z)I"⟩
abbrev cX6_code : ByteArray := prog_28_method_26_code
def yX6_code : MethodName := ⟨RX6, "code", "(LLetMill$Row;)I"⟩
abbrev cX6_closure : ByteArray := prog_28_method_10_code
def yX6_closure : MethodName := ⟨RX6, "closure", "(IIII)I"⟩
abbrev cX6_isOver : ByteArray := prog_28_method_6_code
def yX6_isOver : MethodName := ⟨RX6, "isOver", "()Z"⟩
abbrev cX6_bound : ByteArray := prog_28_method_23_code
def yX6_bound : MethodName := ⟨RX6, "bound", "(II)I"⟩
abbrev cX6_made_2 : ByteArray := prog_28_method_8_code
def yX6_made_2 : MethodName := ⟨RX6, "made", "(III)I"⟩
abbrev cX6_rebound : ByteArray := prog_28_method_24_code
def yX6_rebound : MethodName := ⟨RX6, "rebound", "(II)I"⟩
abbrev cX6_done : ByteArray := prog_28_method_33_code
def yX6_done : MethodName := ⟨RX6, "done", "(I)V"⟩
abbrev cX6_known : ByteArray := prog_28_method_25_code
def yX6_known : MethodName := ⟨RX6, "known", "(II)I"⟩
abbrev cX6_push : ByteArray := prog_28_method_28_code
def yX6_push : MethodName := ⟨RX6, "push", "(I)V"⟩
abbrev cX6_pop : ByteArray := prog_28_method_29_code
def yX6_pop : MethodName := ⟨RX6, "pop", "()I"⟩
abbrev cX6_call : ByteArray := prog_28_method_36_code
def yX6_call : MethodName := ⟨RX6, "call", "(II)V"⟩
abbrev cX6_tag : ByteArray := prog_28_method_12_code
def yX6_tag : MethodName := ⟨RX6, "tag", "(I)I"⟩
abbrev cX6_must : ByteArray := prog_28_method_11_code
def yX6_must : MethodName := ⟨RX6, "must", "(Z)V"⟩
abbrev cX6_built : ByteArray := prog_28_method_39_code
def yX6_built : MethodName := ⟨RX6, "built", "(II)I"⟩
abbrev cX6_isTrue : ByteArray := prog_28_method_13_code
def yX6_isTrue : MethodName := ⟨RX6, "isTrue", "(I)Z"⟩
abbrev cX6_whole : ByteArray := prog_28_method_15_code
def yX6_whole : MethodName := ⟨RX6, "whole", "(I)I"⟩
abbrev cX6_part : ByteArray := prog_28_method_16_code
def yX6_part : MethodName := ⟨RX6, "part", "(II)I"⟩
abbrev cX6_chosen : ByteArray := prog_28_method_38_code
def yX6_chosen : MethodName := ⟨RX6, "chosen", "(LLetMill$Row;II)V"⟩
abbrev cX6_con : ByteArray := prog_28_method_21_code
def yX6_con : MethodName := ⟨RX6, "con", "(I)LLetMill$Con;"⟩
abbrev cX6_has : ByteArray := prog_28_method_22_code
def yX6_has : MethodName := ⟨RX6, "has", "(I)I"⟩
abbrev cX6_isPair : ByteArray := prog_28_method_18_code
def yX6_isPair : MethodName := ⟨RX6, "isPair", "(I)Z"⟩
abbrev cX6_head : ByteArray := prog_28_method_19_code
def yX6_head : MethodName := ⟨RX6, "head", "(I)I"⟩
abbrev cX6_tail : ByteArray := prog_28_method_20_code
def yX6_tail : MethodName := ⟨RX6, "tail", "(I)I"⟩
abbrev cX6_choose : ByteArray := prog_28_method_37_code
def yX6_choose : MethodName := ⟨RX6, "choose", "(LLetMill$Row;II)V"⟩
abbrev cX6_set : ByteArray := prog_28_method_40_code
def yX6_set : MethodName := ⟨RX6, "set", "(II)I"⟩
abbrev cX6_reckoned : ByteArray := prog_28_method_42_code
def yX6_reckoned : MethodName := ⟨RX6, "reckoned", "(III)I"⟩
abbrev cX6_tuple : ByteArray := prog_28_method_9_code
def yX6_tuple : MethodName := ⟨RX6, "tuple", "(I)I"⟩
abbrev cX6_append : ByteArray := prog_28_method_41_code
def yX6_append : MethodName := ⟨RX6, "append", "(II)V"⟩
abbrev cX6_end : ByteArray := prog_28_method_35_code
def yX6_end : MethodName := ⟨RX6, "end", "()I"⟩
abbrev cX6_parts : ByteArray := prog_28_method_17_code
def yX6_parts : MethodName := ⟨RX6, "parts", "(I)I"⟩
theorem q220 : (Jvm.Cond.initialized "LetMill$Machine") ∈ lw_all := lw_g (lw_at lw_m1 10 rfl) rfl
theorem q551 : (Jvm.Cond.instantiable "LetMill$Machine" (22 : Nat)) ∈ lw_all := lw_g (lw_at lw_m2 101 rfl) rfl
theorem q553 : (Jvm.Cond.instanceMethod ({ cls := "LetMill$Machine", name := "<init>", desc := "()V" } : Jvm.MethodName)) ∈ lw_all := lw_g (lw_at lw_m2 103 rfl) rfl
theorem q554 : (Jvm.Cond.code ({ cls := "LetMill$Machine", name := "<init>", desc := "()V" } : Jvm.MethodName) prog_28_method_1_code (1 : Nat) (Option.none : Option Jvm.ClassFile.FieldType)) ∈ lw_all := lw_g (lw_at lw_m2 104 rfl) rfl
theorem q555 : (Jvm.Cond.methodLink "LetMill$Machine" (3 : Nat) ({ cls := "java/lang/Object", name := "<init>", desc := "()V" } : Jvm.MethodName)) ∈ lw_all := lw_g (lw_at lw_m2 105 rfl) rfl
theorem q556 : (Jvm.Cond.constant "LetMill$Machine" (9 : Nat) (960100 : Int32)) ∈ lw_all := lw_g (lw_at lw_m2 106 rfl) rfl
theorem q557 : (Jvm.Cond.classLink "LetMill$Machine" (14 : Nat) "LetMill$Row") ∈ lw_all := lw_g (lw_at lw_m2 107 rfl) rfl
theorem q559 : (Jvm.Cond.methodLinkNest "LetMill$Machine" (16 : Nat) ({ cls := "LetMill$Row", name := "<init>", desc := "()V" } : Jvm.MethodName) "LetMill") ∈ lw_tbl := lw_at lw_m2 109 rfl
theorem q574 : (Jvm.Cond.fieldLink "LetMill$Machine" (49 : Nat) "LetMill$Row" "many" "I") ∈ lw_all := lw_g (lw_at lw_m2 124 rfl) rfl
theorem q585 : (Jvm.Cond.methodLink "LetMill$Machine" (42 : Nat) ({ cls := "LetMill$Machine", name := "clear", desc := "()V" } : Jvm.MethodName)) ∈ lw_all := lw_g (lw_at lw_m2 135 rfl) rfl
theorem q586 : (Jvm.Cond.instanceMethod ({ cls := "LetMill$Machine", name := "clear", desc := "()V" } : Jvm.MethodName)) ∈ lw_all := lw_g (lw_at lw_m2 136 rfl) rfl
theorem q587 : (Jvm.Cond.selects "LetMill$Machine" ({ cls := "LetMill$Machine", name := "clear", desc := "()V" } : Jvm.MethodName) ({ cls := "LetMill$Machine", name := "clear", desc := "()V" } : Jvm.MethodName)) ∈ lw_all := lw_g (lw_at lw_m2 137 rfl) rfl
theorem q588 : (Jvm.Cond.code ({ cls := "LetMill$Machine", name := "clear", desc := "()V" } : Jvm.MethodName) prog_28_method_2_code (2 : Nat) (Option.none : Option Jvm.ClassFile.FieldType)) ∈ lw_all := lw_g (lw_at lw_m2 138 rfl) rfl
theorem q589 : (Jvm.Cond.methodLink "LetMill$Machine" (52 : Nat) ({ cls := "LetMill$Row", name := "add", desc := "(Ljava/lang/Object;)V" } : Jvm.MethodName)) ∈ lw_all := lw_g (lw_at lw_m2 139 rfl) rfl
theorem q603 : (Jvm.Cond.fieldLink "LetMill$Machine" (10 : Nat) "LetMill$Machine" "heap" "[I") ∈ lw_all := lw_g (lw_at lw_m2 153 rfl) rfl
theorem q604 : (Jvm.Cond.fieldLink "LetMill$Machine" (45 : Nat) "LetMill$Machine" "top" "I") ∈ lw_all := lw_g (lw_at lw_m2 154 rfl) rfl
theorem q605 : (Jvm.Cond.fieldLink "LetMill$Machine" (17 : Nat) "LetMill$Machine" "exps" "LLetMill$Row;") ∈ lw_all := lw_g (lw_at lw_m2 155 rfl) rfl
theorem q606 : (Jvm.Cond.fieldLink "LetMill$Machine" (21 : Nat) "LetMill$Machine" "codes" "LLetMill$Row;") ∈ lw_all := lw_g (lw_at lw_m2 156 rfl) rfl
theorem q607 : (Jvm.Cond.fieldLink "LetMill$Machine" (24 : Nat) "LetMill$Machine" "cons" "LLetMill$Row;") ∈ lw_all := lw_g (lw_at lw_m2 157 rfl) rfl
theorem q609 : (Jvm.Cond.fieldLink "LetMill$Machine" (27 : Nat) "LetMill$Machine" "frameExp" "[I") ∈ lw_all := lw_g (lw_at lw_m2 159 rfl) rfl
theorem q610 : (Jvm.Cond.fieldLink "LetMill$Machine" (30 : Nat) "LetMill$Machine" "frameState" "[I") ∈ lw_all := lw_g (lw_at lw_m2 160 rfl) rfl
theorem q611 : (Jvm.Cond.fieldLink "LetMill$Machine" (33 : Nat) "LetMill$Machine" "frameEnv" "[I") ∈ lw_all := lw_g (lw_at lw_m2 161 rfl) rfl
theorem q612 : (Jvm.Cond.fieldLink "LetMill$Machine" (113 : Nat) "LetMill$Machine" "frames" "I") ∈ lw_all := lw_g (lw_at lw_m2 162 rfl) rfl
theorem q613 : (Jvm.Cond.fieldLink "LetMill$Machine" (36 : Nat) "LetMill$Machine" "pile" "[I") ∈ lw_all := lw_g (lw_at lw_m2 163 rfl) rfl
theorem q614 : (Jvm.Cond.fieldLink "LetMill$Machine" (106 : Nat) "LetMill$Machine" "piled" "I") ∈ lw_all := lw_g (lw_at lw_m2 164 rfl) rfl
theorem q615 : (Jvm.Cond.fieldLink "LetMill$Machine" (39 : Nat) "LetMill$Machine" "given" "[I") ∈ lw_all := lw_g (lw_at lw_m2 165 rfl) rfl
theorem q616 : (Jvm.Cond.fieldLink "LetMill$Machine" (116 : Nat) "LetMill$Machine" "todo" "LLetMill$Exp;") ∈ lw_all := lw_g (lw_at lw_m2 166 rfl) rfl
theorem q617 : (Jvm.Cond.fieldLink "LetMill$Machine" (120 : Nat) "LetMill$Machine" "todoEnv" "I") ∈ lw_all := lw_g (lw_at lw_m2 167 rfl) rfl
theorem q618 : (Jvm.Cond.fieldLink "LetMill$Machine" (123 : Nat) "LetMill$Machine" "value" "I") ∈ lw_all := lw_g (lw_at lw_m2 168 rfl) rfl
theorem q619 : (Jvm.Cond.fieldLink "LetMill$Machine" (56 : Nat) "LetMill$Machine" "cost" "I") ∈ lw_all := lw_g (lw_at lw_m2 169 rfl) rfl
theorem q621 : (Jvm.Cond.fieldLink "LetMill$Machine" (59 : Nat) "LetMill$Machine" "costAll" "I") ∈ lw_all := lw_g (lw_at lw_m2 171 rfl) rfl
theorem q623 : (Jvm.Cond.fieldLink "LetMill$Machine" (65 : Nat) "LetMill$Machine" "most" "I") ∈ lw_all := lw_g (lw_at lw_m2 173 rfl) rfl
theorem q624 : (Jvm.Cond.fieldLink "LetMill$Machine" (72 : Nat) "LetMill$Machine" "error" "I") ∈ lw_all := lw_g (lw_at lw_m2 174 rfl) rfl
theorem q625 : (Jvm.Cond.fieldLink "LetMill$Machine" (126 : Nat) "LetMill$Machine" "isDone" "Z") ∈ lw_all := lw_g (lw_at lw_m2 175 rfl) rfl
theorem q626 : (Jvm.Cond.fieldLink "LetMill$Machine" (130 : Nat) "LetMill$Machine" "end" "I") ∈ lw_all := lw_g (lw_at lw_m2 176 rfl) rfl
theorem q627 : (Jvm.Cond.fieldLink "LetMill$Machine" (62 : Nat) "LetMill$Machine" "never" "I") ∈ lw_all := lw_g (lw_at lw_m2 177 rfl) rfl
theorem q629 : (Jvm.Cond.laysFinal "LetMill$Machine" "LetMill$Machine" "heap" "[I") ∈ lw_all := lw_g (lw_at lw_m2 179 rfl) rfl
theorem q631 : (Jvm.Cond.lays "LetMill$Machine" "LetMill$Machine" "top" "I") ∈ lw_all := lw_g (lw_at lw_m2 181 rfl) rfl
theorem q633 : (Jvm.Cond.laysFinal "LetMill$Machine" "LetMill$Machine" "exps" "LLetMill$Row;") ∈ lw_all := lw_g (lw_at lw_m2 183 rfl) rfl
theorem q635 : (Jvm.Cond.laysFinal "LetMill$Machine" "LetMill$Machine" "codes" "LLetMill$Row;") ∈ lw_all := lw_g (lw_at lw_m2 185 rfl) rfl
theorem q637 : (Jvm.Cond.laysFinal "LetMill$Machine" "LetMill$Machine" "cons" "LLetMill$Row;") ∈ lw_all := lw_g (lw_at lw_m2 187 rfl) rfl
theorem q639 : (Jvm.Cond.laysFinal "LetMill$Machine" "LetMill$Machine" "frameExp" "[I") ∈ lw_all := lw_g (lw_at lw_m2 189 rfl) rfl
theorem q641 : (Jvm.Cond.laysFinal "LetMill$Machine" "LetMill$Machine" "frameState" "[I") ∈ lw_all := lw_g (lw_at lw_m2 191 rfl) rfl
theorem q643 : (Jvm.Cond.laysFinal "LetMill$Machine" "LetMill$Machine" "frameEnv" "[I") ∈ lw_all := lw_g (lw_at lw_m2 193 rfl) rfl
theorem q645 : (Jvm.Cond.lays "LetMill$Machine" "LetMill$Machine" "frames" "I") ∈ lw_all := lw_g (lw_at lw_m2 195 rfl) rfl
theorem q647 : (Jvm.Cond.laysFinal "LetMill$Machine" "LetMill$Machine" "pile" "[I") ∈ lw_all := lw_g (lw_at lw_m2 197 rfl) rfl
theorem q649 : (Jvm.Cond.lays "LetMill$Machine" "LetMill$Machine" "piled" "I") ∈ lw_all := lw_g (lw_at lw_m2 199 rfl) rfl
theorem q651 : (Jvm.Cond.laysFinal "LetMill$Machine" "LetMill$Machine" "given" "[I") ∈ lw_all := lw_g (lw_at lw_m2 201 rfl) rfl
theorem q653 : (Jvm.Cond.lays "LetMill$Machine" "LetMill$Machine" "todo" "LLetMill$Exp;") ∈ lw_all := lw_g (lw_at lw_m2 203 rfl) rfl
theorem q655 : (Jvm.Cond.lays "LetMill$Machine" "LetMill$Machine" "todoEnv" "I") ∈ lw_all := lw_g (lw_at lw_m2 205 rfl) rfl
theorem q657 : (Jvm.Cond.lays "LetMill$Machine" "LetMill$Machine" "value" "I") ∈ lw_all := lw_g (lw_at lw_m2 207 rfl) rfl
theorem q659 : (Jvm.Cond.lays "LetMill$Machine" "LetMill$Machine" "cost" "I") ∈ lw_all := lw_g (lw_at lw_m2 209 rfl) rfl
theorem q661 : (Jvm.Cond.lays "LetMill$Machine" "LetMill$Machine" "costAll" "I") ∈ lw_all := lw_g (lw_at lw_m2 211 rfl) rfl
theorem q663 : (Jvm.Cond.lays "LetMill$Machine" "LetMill$Machine" "most" "I") ∈ lw_all := lw_g (lw_at lw_m2 213 rfl) rfl
theorem q665 : (Jvm.Cond.lays "LetMill$Machine" "LetMill$Machine" "error" "I") ∈ lw_all := lw_g (lw_at lw_m2 215 rfl) rfl
theorem q667 : (Jvm.Cond.lays "LetMill$Machine" "LetMill$Machine" "isDone" "Z") ∈ lw_all := lw_g (lw_at lw_m2 217 rfl) rfl
theorem q669 : (Jvm.Cond.lays "LetMill$Machine" "LetMill$Machine" "end" "I") ∈ lw_all := lw_g (lw_at lw_m2 219 rfl) rfl
theorem q671 : (Jvm.Cond.lays "LetMill$Machine" "LetMill$Machine" "never" "I") ∈ lw_all := lw_g (lw_at lw_m2 221 rfl) rfl
theorem q904 : (Jvm.Cond.instanceMethod ({ cls := "LetMill$Machine", name := "builtIn", desc := "(I)I" } : Jvm.MethodName)) ∈ lw_all := lw_g (lw_at lw_m3 214 rfl) rfl
theorem q905 : (Jvm.Cond.selects "LetMill$Machine" ({ cls := "LetMill$Machine", name := "builtIn", desc := "(I)I" } : Jvm.MethodName) ({ cls := "LetMill$Machine", name := "builtIn", desc := "(I)I" } : Jvm.MethodName)) ∈ lw_all := lw_g (lw_at lw_m3 215 rfl) rfl
theorem q906 : (Jvm.Cond.code ({ cls := "LetMill$Machine", name := "builtIn", desc := "(I)I" } : Jvm.MethodName) prog_28_method_3_code (2 : Nat) (Option.some Jvm.ClassFile.FieldType.int)) ∈ lw_all := lw_g (lw_at lw_m3 216 rfl) rfl
theorem q1499 : (Jvm.Cond.fieldLink "LetMill$Machine" (156 : Nat) "LetMill$Clause" "pats" "[LLetMill$Pat;") ∈ lw_all := lw_g (lw_at lw_m6 89 rfl) rfl
theorem q1503 : (Jvm.Cond.fieldLink "LetMill$Machine" (184 : Nat) "LetMill$Clause" "body" "LLetMill$Exp;") ∈ lw_all := lw_g (lw_at lw_m6 93 rfl) rfl
theorem q1546 : (Jvm.Cond.fieldLink "LetMill$Machine" (101 : Nat) "LetMill$Exp" "id" "I") ∈ lw_all := lw_g (lw_at lw_m6 136 rfl) rfl
theorem q2877 : (Jvm.Cond.instanceMethod ({ cls := "LetMill$Machine", name := "run", desc := "(LLetMill$Exp;I)I" } : Jvm.MethodName)) ∈ lw_all := lw_g (lw_at lw_m12 27 rfl) rfl
theorem q2878 : (Jvm.Cond.selects "LetMill$Machine" ({ cls := "LetMill$Machine", name := "run", desc := "(LLetMill$Exp;I)I" } : Jvm.MethodName) ({ cls := "LetMill$Machine", name := "run", desc := "(LLetMill$Exp;I)I" } : Jvm.MethodName)) ∈ lw_all := lw_g (lw_at lw_m12 28 rfl) rfl
theorem q2879 : (Jvm.Cond.code ({ cls := "LetMill$Machine", name := "run", desc := "(LLetMill$Exp;I)I" } : Jvm.MethodName) prog_28_method_34_code (4 : Nat) (Option.some Jvm.ClassFile.FieldType.int)) ∈ lw_all := lw_g (lw_at lw_m12 29 rfl) rfl
theorem q2880 : (Jvm.Cond.methodLink "LetMill$Machine" (133 : Nat) ({ cls := "LetMill$Machine", name := "next", desc := "(LLetMill$Exp;I)V" } : Jvm.MethodName)) ∈ lw_all := lw_g (lw_at lw_m12 30 rfl) rfl
theorem q2881 : (Jvm.Cond.instanceMethod ({ cls := "LetMill$Machine", name := "next", desc := "(LLetMill$Exp;I)V" } : Jvm.MethodName)) ∈ lw_all := lw_g (lw_at lw_m12 31 rfl) rfl
theorem q2882 : (Jvm.Cond.selects "LetMill$Machine" ({ cls := "LetMill$Machine", name := "next", desc := "(LLetMill$Exp;I)V" } : Jvm.MethodName) ({ cls := "LetMill$Machine", name := "next", desc := "(LLetMill$Exp;I)V" } : Jvm.MethodName)) ∈ lw_all := lw_g (lw_at lw_m12 32 rfl) rfl
theorem q2883 : (Jvm.Cond.code ({ cls := "LetMill$Machine", name := "next", desc := "(LLetMill$Exp;I)V" } : Jvm.MethodName) prog_28_method_31_code (3 : Nat) (Option.none : Option Jvm.ClassFile.FieldType)) ∈ lw_all := lw_g (lw_at lw_m12 33 rfl) rfl
theorem q2884 : (Jvm.Cond.methodLink "LetMill$Machine" (137 : Nat) ({ cls := "LetMill$Exp", name := "begin", desc := "(LLetMill$Machine;I)V" } : Jvm.MethodName)) ∈ lw_all := lw_g (lw_at lw_m12 34 rfl) rfl
theorem q2891 : (Jvm.Cond.instanceMethod ({ cls := "LetMill$Machine", name := "pay", desc := "(I)Z" } : Jvm.MethodName)) ∈ lw_all := lw_g (lw_at lw_m12 41 rfl) rfl
theorem q2892 : (Jvm.Cond.selects "LetMill$Machine" ({ cls := "LetMill$Machine", name := "pay", desc := "(I)Z" } : Jvm.MethodName) ({ cls := "LetMill$Machine", name := "pay", desc := "(I)Z" } : Jvm.MethodName)) ∈ lw_all := lw_g (lw_at lw_m12 42 rfl) rfl
theorem q2893 : (Jvm.Cond.code ({ cls := "LetMill$Machine", name := "pay", desc := "(I)Z" } : Jvm.MethodName) prog_28_method_4_code (2 : Nat) (Option.some Jvm.ClassFile.FieldType.boolean)) ∈ lw_all := lw_g (lw_at lw_m12 43 rfl) rfl
theorem q2894 : (Jvm.Cond.methodLink "LetMill$Machine" (68 : Nat) ({ cls := "LetMill$Machine", name := "fail", desc := "(I)V" } : Jvm.MethodName)) ∈ lw_all := lw_g (lw_at lw_m12 44 rfl) rfl
theorem q2895 : (Jvm.Cond.instanceMethod ({ cls := "LetMill$Machine", name := "fail", desc := "(I)V" } : Jvm.MethodName)) ∈ lw_all := lw_g (lw_at lw_m12 45 rfl) rfl
theorem q2896 : (Jvm.Cond.selects "LetMill$Machine" ({ cls := "LetMill$Machine", name := "fail", desc := "(I)V" } : Jvm.MethodName) ({ cls := "LetMill$Machine", name := "fail", desc := "(I)V" } : Jvm.MethodName)) ∈ lw_all := lw_g (lw_at lw_m12 46 rfl) rfl
theorem q2897 : (Jvm.Cond.code ({ cls := "LetMill$Machine", name := "fail", desc := "(I)V" } : Jvm.MethodName) prog_28_method_5_code (2 : Nat) (Option.none : Option Jvm.ClassFile.FieldType)) ∈ lw_all := lw_g (lw_at lw_m12 47 rfl) rfl
theorem q2899 : (Jvm.Cond.instanceMethod ({ cls := "LetMill$Machine", name := "frame", desc := "(LLetMill$Exp;II)V" } : Jvm.MethodName)) ∈ lw_all := lw_g (lw_at lw_m12 49 rfl) rfl
theorem q2900 : (Jvm.Cond.selects "LetMill$Machine" ({ cls := "LetMill$Machine", name := "frame", desc := "(LLetMill$Exp;II)V" } : Jvm.MethodName) ({ cls := "LetMill$Machine", name := "frame", desc := "(LLetMill$Exp;II)V" } : Jvm.MethodName)) ∈ lw_all := lw_g (lw_at lw_m12 50 rfl) rfl
theorem q2901 : (Jvm.Cond.code ({ cls := "LetMill$Machine", name := "frame", desc := "(LLetMill$Exp;II)V" } : Jvm.MethodName) prog_28_method_30_code (4 : Nat) (Option.none : Option Jvm.ClassFile.FieldType)) ∈ lw_all := lw_g (lw_at lw_m12 51 rfl) rfl
theorem q2902 : (Jvm.Cond.methodLink "LetMill$Machine" (109 : Nat) ({ cls := "LetMill$Machine", name := "number", desc := "(LLetMill$Exp;)V" } : Jvm.MethodName)) ∈ lw_all := lw_g (lw_at lw_m12 52 rfl) rfl
theorem q2903 : (Jvm.Cond.instanceMethod ({ cls := "LetMill$Machine", name := "number", desc := "(LLetMill$Exp;)V" } : Jvm.MethodName)) ∈ lw_all := lw_g (lw_at lw_m12 53 rfl) rfl
theorem q2904 : (Jvm.Cond.selects "LetMill$Machine" ({ cls := "LetMill$Machine", name := "number", desc := "(LLetMill$Exp;)V" } : Jvm.MethodName) ({ cls := "LetMill$Machine", name := "number", desc := "(LLetMill$Exp;)V" } : Jvm.MethodName)) ∈ lw_all := lw_g (lw_at lw_m12 54 rfl) rfl
theorem q2905 : (Jvm.Cond.code ({ cls := "LetMill$Machine", name := "number", desc := "(LLetMill$Exp;)V" } : Jvm.MethodName) prog_28_method_27_code (2 : Nat) (Option.none : Option Jvm.ClassFile.FieldType)) ∈ lw_all := lw_g (lw_at lw_m12 55 rfl) rfl
theorem q2913 : (Jvm.Cond.instanceMethod ({ cls := "LetMill$Machine", name := "give", desc := "(I)V" } : Jvm.MethodName)) ∈ lw_all := lw_g (lw_at lw_m12 63 rfl) rfl
theorem q2914 : (Jvm.Cond.selects "LetMill$Machine" ({ cls := "LetMill$Machine", name := "give", desc := "(I)V" } : Jvm.MethodName) ({ cls := "LetMill$Machine", name := "give", desc := "(I)V" } : Jvm.MethodName)) ∈ lw_all := lw_g (lw_at lw_m12 64 rfl) rfl
theorem q2915 : (Jvm.Cond.code ({ cls := "LetMill$Machine", name := "give", desc := "(I)V" } : Jvm.MethodName) prog_28_method_32_code (2 : Nat) (Option.none : Option Jvm.ClassFile.FieldType)) ∈ lw_all := lw_g (lw_at lw_m12 65 rfl) rfl
theorem q2933 : (Jvm.Cond.instanceMethod ({ cls := "LetMill$Machine", name := "made", desc := "(II)I" } : Jvm.MethodName)) ∈ lw_all := lw_g (lw_at lw_m12 83 rfl) rfl
theorem q2934 : (Jvm.Cond.selects "LetMill$Machine" ({ cls := "LetMill$Machine", name := "made", desc := "(II)I" } : Jvm.MethodName) ({ cls := "LetMill$Machine", name := "made", desc := "(II)I" } : Jvm.MethodName)) ∈ lw_all := lw_g (lw_at lw_m12 84 rfl) rfl
theorem q2935 : (Jvm.Cond.code ({ cls := "LetMill$Machine", name := "made", desc := "(II)I" } : Jvm.MethodName) prog_28_method_7_code (3 : Nat) (Option.some Jvm.ClassFile.FieldType.int)) ∈ lw_all := lw_g (lw_at lw_m12 85 rfl) rfl
theorem q2937 : (Jvm.Cond.instanceMethod ({ cls := "LetMill$Machine", name := "truth", desc := "(Z)I" } : Jvm.MethodName)) ∈ lw_all := lw_g (lw_at lw_m12 87 rfl) rfl
theorem q2938 : (Jvm.Cond.selects "LetMill$Machine" ({ cls := "LetMill$Machine", name := "truth", desc := "(Z)I" } : Jvm.MethodName) ({ cls := "LetMill$Machine", name := "truth", desc := "(Z)I" } : Jvm.MethodName)) ∈ lw_all := lw_g (lw_at lw_m12 88 rfl) rfl
theorem q2939 : (Jvm.Cond.code ({ cls := "LetMill$Machine", name := "truth", desc := "(Z)I" } : Jvm.MethodName) prog_28_method_14_code (2 : Nat) (Option.some Jvm.ClassFile.FieldType.int)) ∈ lw_all := lw_g (lw_at lw_m12 89 rfl) rfl
theorem q2946 : (Jvm.Cond.instanceMethod ({ cls := "LetMill$Machine", name := "code", desc := "(LLetMill$Row;)I" } : Jvm.MethodName)) ∈ lw_all := lw_g (lw_at lw_m12 96 rfl) rfl
theorem q2947 : (Jvm.Cond.selects "LetMill$Machine" ({ cls := "LetMill$Machine", name := "code", desc := "(LLetMill$Row;)I" } : Jvm.MethodName) ({ cls := "LetMill$Machine", name := "code", desc := "(LLetMill$Row;)I" } : Jvm.MethodName)) ∈ lw_all := lw_g (lw_at lw_m12 97 rfl) rfl
theorem q2948 : (Jvm.Cond.code ({ cls := "LetMill$Machine", name := "code", desc := "(LLetMill$Row;)I" } : Jvm.MethodName) prog_28_method_26_code (2 : Nat) (Option.some Jvm.ClassFile.FieldType.int)) ∈ lw_all := lw_g (lw_at lw_m12 98 rfl) rfl
theorem q2950 : (Jvm.Cond.instanceMethod ({ cls := "LetMill$Machine", name := "closure", desc := "(IIII)I" } : Jvm.MethodName)) ∈ lw_all := lw_g (lw_at lw_m12 100 rfl) rfl
theorem q2951 : (Jvm.Cond.selects "LetMill$Machine" ({ cls := "LetMill$Machine", name := "closure", desc := "(IIII)I" } : Jvm.MethodName) ({ cls := "LetMill$Machine", name := "closure", desc := "(IIII)I" } : Jvm.MethodName)) ∈ lw_all := lw_g (lw_at lw_m12 101 rfl) rfl
theorem q2952 : (Jvm.Cond.code ({ cls := "LetMill$Machine", name := "closure", desc := "(IIII)I" } : Jvm.MethodName) prog_28_method_10_code (5 : Nat) (Option.some Jvm.ClassFile.FieldType.int)) ∈ lw_all := lw_g (lw_at lw_m12 102 rfl) rfl
theorem q2973 : (Jvm.Cond.instanceMethod ({ cls := "LetMill$Machine", name := "isOver", desc := "()Z" } : Jvm.MethodName)) ∈ lw_all := lw_g (lw_at lw_m12 123 rfl) rfl
theorem q2974 : (Jvm.Cond.selects "LetMill$Machine" ({ cls := "LetMill$Machine", name := "isOver", desc := "()Z" } : Jvm.MethodName) ({ cls := "LetMill$Machine", name := "isOver", desc := "()Z" } : Jvm.MethodName)) ∈ lw_all := lw_g (lw_at lw_m12 124 rfl) rfl
theorem q2975 : (Jvm.Cond.code ({ cls := "LetMill$Machine", name := "isOver", desc := "()Z" } : Jvm.MethodName) prog_28_method_6_code (1 : Nat) (Option.some Jvm.ClassFile.FieldType.boolean)) ∈ lw_all := lw_g (lw_at lw_m12 125 rfl) rfl
theorem q2997 : (Jvm.Cond.instanceMethod ({ cls := "LetMill$Machine", name := "bound", desc := "(II)I" } : Jvm.MethodName)) ∈ lw_all := lw_g (lw_at lw_m12 147 rfl) rfl
theorem q2998 : (Jvm.Cond.selects "LetMill$Machine" ({ cls := "LetMill$Machine", name := "bound", desc := "(II)I" } : Jvm.MethodName) ({ cls := "LetMill$Machine", name := "bound", desc := "(II)I" } : Jvm.MethodName)) ∈ lw_all := lw_g (lw_at lw_m12 148 rfl) rfl
theorem q2999 : (Jvm.Cond.code ({ cls := "LetMill$Machine", name := "bound", desc := "(II)I" } : Jvm.MethodName) prog_28_method_23_code (3 : Nat) (Option.some Jvm.ClassFile.FieldType.int)) ∈ lw_all := lw_g (lw_at lw_m12 149 rfl) rfl
theorem q3000 : (Jvm.Cond.methodLink "LetMill$Machine" (93 : Nat) ({ cls := "LetMill$Machine", name := "pay", desc := "(I)Z" } : Jvm.MethodName)) ∈ lw_all := lw_g (lw_at lw_m12 150 rfl) rfl
theorem q3001 : (Jvm.Cond.methodLink "LetMill$Machine" (97 : Nat) ({ cls := "LetMill$Machine", name := "made", desc := "(III)I" } : Jvm.MethodName)) ∈ lw_all := lw_g (lw_at lw_m12 151 rfl) rfl
theorem q3002 : (Jvm.Cond.instanceMethod ({ cls := "LetMill$Machine", name := "made", desc := "(III)I" } : Jvm.MethodName)) ∈ lw_all := lw_g (lw_at lw_m12 152 rfl) rfl
theorem q3003 : (Jvm.Cond.selects "LetMill$Machine" ({ cls := "LetMill$Machine", name := "made", desc := "(III)I" } : Jvm.MethodName) ({ cls := "LetMill$Machine", name := "made", desc := "(III)I" } : Jvm.MethodName)) ∈ lw_all := lw_g (lw_at lw_m12 153 rfl) rfl
theorem q3004 : (Jvm.Cond.code ({ cls := "LetMill$Machine", name := "made", desc := "(III)I" } : Jvm.MethodName) prog_28_method_8_code (4 : Nat) (Option.some Jvm.ClassFile.FieldType.int)) ∈ lw_all := lw_g (lw_at lw_m12 154 rfl) rfl
theorem q3009 : (Jvm.Cond.instanceMethod ({ cls := "LetMill$Machine", name := "rebound", desc := "(II)I" } : Jvm.MethodName)) ∈ lw_all := lw_g (lw_at lw_m12 159 rfl) rfl
theorem q3010 : (Jvm.Cond.selects "LetMill$Machine" ({ cls := "LetMill$Machine", name := "rebound", desc := "(II)I" } : Jvm.MethodName) ({ cls := "LetMill$Machine", name := "rebound", desc := "(II)I" } : Jvm.MethodName)) ∈ lw_all := lw_g (lw_at lw_m12 160 rfl) rfl
theorem q3011 : (Jvm.Cond.code ({ cls := "LetMill$Machine", name := "rebound", desc := "(II)I" } : Jvm.MethodName) prog_28_method_24_code (3 : Nat) (Option.some Jvm.ClassFile.FieldType.int)) ∈ lw_all := lw_g (lw_at lw_m12 161 rfl) rfl
theorem q3016 : (Jvm.Cond.instanceMethod ({ cls := "LetMill$Machine", name := "done", desc := "(I)V" } : Jvm.MethodName)) ∈ lw_all := lw_g (lw_at lw_m12 166 rfl) rfl
theorem q3017 : (Jvm.Cond.selects "LetMill$Machine" ({ cls := "LetMill$Machine", name := "done", desc := "(I)V" } : Jvm.MethodName) ({ cls := "LetMill$Machine", name := "done", desc := "(I)V" } : Jvm.MethodName)) ∈ lw_all := lw_g (lw_at lw_m12 167 rfl) rfl
theorem q3018 : (Jvm.Cond.code ({ cls := "LetMill$Machine", name := "done", desc := "(I)V" } : Jvm.MethodName) prog_28_method_33_code (2 : Nat) (Option.none : Option Jvm.ClassFile.FieldType)) ∈ lw_all := lw_g (lw_at lw_m12 168 rfl) rfl
theorem q3039 : (Jvm.Cond.instanceMethod ({ cls := "LetMill$Machine", name := "known", desc := "(II)I" } : Jvm.MethodName)) ∈ lw_all := lw_g (lw_at lw_m12 189 rfl) rfl
theorem q3040 : (Jvm.Cond.selects "LetMill$Machine" ({ cls := "LetMill$Machine", name := "known", desc := "(II)I" } : Jvm.MethodName) ({ cls := "LetMill$Machine", name := "known", desc := "(II)I" } : Jvm.MethodName)) ∈ lw_all := lw_g (lw_at lw_m12 190 rfl) rfl
theorem q3041 : (Jvm.Cond.code ({ cls := "LetMill$Machine", name := "known", desc := "(II)I" } : Jvm.MethodName) prog_28_method_25_code (5 : Nat) (Option.some Jvm.ClassFile.FieldType.int)) ∈ lw_all := lw_g (lw_at lw_m12 191 rfl) rfl
theorem q3050 : (Jvm.Cond.methodLink "LetMill$Machine" (87 : Nat) ({ cls := "LetMill$Row", name := "get", desc := "(I)Ljava/lang/Object;" } : Jvm.MethodName)) ∈ lw_all := lw_g (lw_at lw_m12 200 rfl) rfl
theorem q3051 : (Jvm.Cond.classLink "LetMill$Machine" (102 : Nat) "LetMill$Exp") ∈ lw_all := lw_g (lw_at lw_m12 201 rfl) rfl
theorem q3052 : (Jvm.Cond.methodLink "LetMill$Machine" (141 : Nat) ({ cls := "LetMill$Exp", name := "resume", desc := "(LLetMill$Machine;III)V" } : Jvm.MethodName)) ∈ lw_all := lw_g (lw_at lw_m12 202 rfl) rfl
theorem q3059 : (Jvm.Cond.instanceMethod ({ cls := "LetMill$Machine", name := "push", desc := "(I)V" } : Jvm.MethodName)) ∈ lw_all := lw_g (lw_at lw_m12 209 rfl) rfl
theorem q3060 : (Jvm.Cond.selects "LetMill$Machine" ({ cls := "LetMill$Machine", name := "push", desc := "(I)V" } : Jvm.MethodName) ({ cls := "LetMill$Machine", name := "push", desc := "(I)V" } : Jvm.MethodName)) ∈ lw_all := lw_g (lw_at lw_m12 210 rfl) rfl
theorem q3061 : (Jvm.Cond.code ({ cls := "LetMill$Machine", name := "push", desc := "(I)V" } : Jvm.MethodName) prog_28_method_28_code (2 : Nat) (Option.none : Option Jvm.ClassFile.FieldType)) ∈ lw_all := lw_g (lw_at lw_m12 211 rfl) rfl
theorem q3063 : (Jvm.Cond.instanceMethod ({ cls := "LetMill$Machine", name := "pop", desc := "()I" } : Jvm.MethodName)) ∈ lw_all := lw_g (lw_at lw_m12 213 rfl) rfl
theorem q3064 : (Jvm.Cond.selects "LetMill$Machine" ({ cls := "LetMill$Machine", name := "pop", desc := "()I" } : Jvm.MethodName) ({ cls := "LetMill$Machine", name := "pop", desc := "()I" } : Jvm.MethodName)) ∈ lw_all := lw_g (lw_at lw_m12 214 rfl) rfl
theorem q3065 : (Jvm.Cond.code ({ cls := "LetMill$Machine", name := "pop", desc := "()I" } : Jvm.MethodName) prog_28_method_29_code (1 : Nat) (Option.some Jvm.ClassFile.FieldType.int)) ∈ lw_all := lw_g (lw_at lw_m12 215 rfl) rfl
theorem q3067 : (Jvm.Cond.instanceMethod ({ cls := "LetMill$Machine", name := "call", desc := "(II)V" } : Jvm.MethodName)) ∈ lw_all := lw_g (lw_at lw_m12 217 rfl) rfl
theorem q3068 : (Jvm.Cond.selects "LetMill$Machine" ({ cls := "LetMill$Machine", name := "call", desc := "(II)V" } : Jvm.MethodName) ({ cls := "LetMill$Machine", name := "call", desc := "(II)V" } : Jvm.MethodName)) ∈ lw_all := lw_g (lw_at lw_m12 218 rfl) rfl
theorem q3069 : (Jvm.Cond.code ({ cls := "LetMill$Machine", name := "call", desc := "(II)V" } : Jvm.MethodName) prog_28_method_36_code (9 : Nat) (Option.none : Option Jvm.ClassFile.FieldType)) ∈ lw_all := lw_g (lw_at lw_m12 219 rfl) rfl
theorem q3070 : (Jvm.Cond.methodLink "LetMill$Machine" (83 : Nat) ({ cls := "LetMill$Machine", name := "tag", desc := "(I)I" } : Jvm.MethodName)) ∈ lw_all := lw_g (lw_at lw_m12 220 rfl) rfl
theorem q3071 : (Jvm.Cond.instanceMethod ({ cls := "LetMill$Machine", name := "tag", desc := "(I)I" } : Jvm.MethodName)) ∈ lw_all := lw_g (lw_at lw_m12 221 rfl) rfl
theorem q3072 : (Jvm.Cond.selects "LetMill$Machine" ({ cls := "LetMill$Machine", name := "tag", desc := "(I)I" } : Jvm.MethodName) ({ cls := "LetMill$Machine", name := "tag", desc := "(I)I" } : Jvm.MethodName)) ∈ lw_all := lw_g (lw_at lw_m12 222 rfl) rfl
theorem q3073 : (Jvm.Cond.code ({ cls := "LetMill$Machine", name := "tag", desc := "(I)I" } : Jvm.MethodName) prog_28_method_12_code (2 : Nat) (Option.some Jvm.ClassFile.FieldType.int)) ∈ lw_all := lw_g (lw_at lw_m12 223 rfl) rfl
theorem q3074 : (Jvm.Cond.methodLink "LetMill$Machine" (145 : Nat) ({ cls := "LetMill$Machine", name := "give", desc := "(I)V" } : Jvm.MethodName)) ∈ lw_all := lw_g (lw_at lw_m12 224 rfl) rfl
theorem q3075 : (Jvm.Cond.methodLink "LetMill$Machine" (79 : Nat) ({ cls := "LetMill$Machine", name := "must", desc := "(Z)V" } : Jvm.MethodName)) ∈ lw_all := lw_g (lw_at lw_m12 225 rfl) rfl
theorem q3077 : (Jvm.Cond.instanceMethod ({ cls := "LetMill$Machine", name := "must", desc := "(Z)V" } : Jvm.MethodName)) ∈ lw_all := lw_g (lw_at lw_m12 227 rfl) rfl
theorem q3078 : (Jvm.Cond.code ({ cls := "LetMill$Machine", name := "must", desc := "(Z)V" } : Jvm.MethodName) prog_28_method_11_code (2 : Nat) (Option.none : Option Jvm.ClassFile.FieldType)) ∈ lw_all := lw_g (lw_at lw_m12 228 rfl) rfl
theorem q3079 : (Jvm.Cond.methodLink "LetMill$Machine" (148 : Nat) ({ cls := "LetMill$Machine", name := "built", desc := "(II)I" } : Jvm.MethodName)) ∈ lw_all := lw_g (lw_at lw_m12 229 rfl) rfl
theorem q3081 : (Jvm.Cond.instanceMethod ({ cls := "LetMill$Machine", name := "built", desc := "(II)I" } : Jvm.MethodName)) ∈ lw_all := lw_g (lw_at lw_m12 231 rfl) rfl
theorem q3082 : (Jvm.Cond.code ({ cls := "LetMill$Machine", name := "built", desc := "(II)I" } : Jvm.MethodName) prog_28_method_39_code (3 : Nat) (Option.some Jvm.ClassFile.FieldType.int)) ∈ lw_all := lw_g (lw_at lw_m12 232 rfl) rfl
theorem q3083 : (Jvm.Cond.methodLink "LetMill$Machine" (187 : Nat) ({ cls := "LetMill$Machine", name := "isTrue", desc := "(I)Z" } : Jvm.MethodName)) ∈ lw_all := lw_g (lw_at lw_m12 233 rfl) rfl
theorem q3084 : (Jvm.Cond.instanceMethod ({ cls := "LetMill$Machine", name := "isTrue", desc := "(I)Z" } : Jvm.MethodName)) ∈ lw_all := lw_g (lw_at lw_m12 234 rfl) rfl
theorem q3085 : (Jvm.Cond.selects "LetMill$Machine" ({ cls := "LetMill$Machine", name := "isTrue", desc := "(I)Z" } : Jvm.MethodName) ({ cls := "LetMill$Machine", name := "isTrue", desc := "(I)Z" } : Jvm.MethodName)) ∈ lw_all := lw_g (lw_at lw_m12 235 rfl) rfl
theorem q3086 : (Jvm.Cond.code ({ cls := "LetMill$Machine", name := "isTrue", desc := "(I)Z" } : Jvm.MethodName) prog_28_method_13_code (2 : Nat) (Option.some Jvm.ClassFile.FieldType.boolean)) ∈ lw_all := lw_g (lw_at lw_m12 236 rfl) rfl
theorem q3087 : (Jvm.Cond.methodLink "LetMill$Machine" (190 : Nat) ({ cls := "LetMill$Machine", name := "truth", desc := "(Z)I" } : Jvm.MethodName)) ∈ lw_all := lw_g (lw_at lw_m12 237 rfl) rfl
theorem q3088 : (Jvm.Cond.methodLink "LetMill$Machine" (194 : Nat) ({ cls := "LetMill$Machine", name := "made", desc := "(II)I" } : Jvm.MethodName)) ∈ lw_all := lw_g (lw_at lw_m12 238 rfl) rfl
theorem q3089 : (Jvm.Cond.methodLink "LetMill$Machine" (196 : Nat) ({ cls := "LetMill$Machine", name := "whole", desc := "(I)I" } : Jvm.MethodName)) ∈ lw_all := lw_g (lw_at lw_m12 239 rfl) rfl
theorem q3090 : (Jvm.Cond.instanceMethod ({ cls := "LetMill$Machine", name := "whole", desc := "(I)I" } : Jvm.MethodName)) ∈ lw_all := lw_g (lw_at lw_m13 0 rfl) rfl
theorem q3091 : (Jvm.Cond.selects "LetMill$Machine" ({ cls := "LetMill$Machine", name := "whole", desc := "(I)I" } : Jvm.MethodName) ({ cls := "LetMill$Machine", name := "whole", desc := "(I)I" } : Jvm.MethodName)) ∈ lw_all := lw_g (lw_at lw_m13 1 rfl) rfl
theorem q3092 : (Jvm.Cond.code ({ cls := "LetMill$Machine", name := "whole", desc := "(I)I" } : Jvm.MethodName) prog_28_method_15_code (2 : Nat) (Option.some Jvm.ClassFile.FieldType.int)) ∈ lw_all := lw_g (lw_at lw_m13 2 rfl) rfl
theorem q3093 : (Jvm.Cond.methodLink "LetMill$Machine" (199 : Nat) ({ cls := "LetMill$Machine", name := "part", desc := "(II)I" } : Jvm.MethodName)) ∈ lw_all := lw_g (lw_at lw_m13 3 rfl) rfl
theorem q3094 : (Jvm.Cond.instanceMethod ({ cls := "LetMill$Machine", name := "part", desc := "(II)I" } : Jvm.MethodName)) ∈ lw_all := lw_g (lw_at lw_m13 4 rfl) rfl
theorem q3095 : (Jvm.Cond.selects "LetMill$Machine" ({ cls := "LetMill$Machine", name := "part", desc := "(II)I" } : Jvm.MethodName) ({ cls := "LetMill$Machine", name := "part", desc := "(II)I" } : Jvm.MethodName)) ∈ lw_all := lw_g (lw_at lw_m13 5 rfl) rfl
theorem q3096 : (Jvm.Cond.code ({ cls := "LetMill$Machine", name := "part", desc := "(II)I" } : Jvm.MethodName) prog_28_method_16_code (3 : Nat) (Option.some Jvm.ClassFile.FieldType.int)) ∈ lw_all := lw_g (lw_at lw_m13 6 rfl) rfl
theorem q3097 : (Jvm.Cond.methodLink "LetMill$Machine" (152 : Nat) ({ cls := "LetMill$Row", name := "clause", desc := "(I)LLetMill$Clause;" } : Jvm.MethodName)) ∈ lw_all := lw_g (lw_at lw_m13 7 rfl) rfl
theorem q3098 : (Jvm.Cond.methodLink "LetMill$Machine" (162 : Nat) ({ cls := "LetMill$Machine", name := "closure", desc := "(IIII)I" } : Jvm.MethodName)) ∈ lw_all := lw_g (lw_at lw_m13 8 rfl) rfl
theorem q3099 : (Jvm.Cond.methodLink "LetMill$Machine" (166 : Nat) ({ cls := "LetMill$Machine", name := "chosen", desc := "(LLetMill$Row;II)V" } : Jvm.MethodName)) ∈ lw_all := lw_g (lw_at lw_m13 9 rfl) rfl
theorem q3101 : (Jvm.Cond.instanceMethod ({ cls := "LetMill$Machine", name := "chosen", desc := "(LLetMill$Row;II)V" } : Jvm.MethodName)) ∈ lw_all := lw_g (lw_at lw_m13 11 rfl) rfl
theorem q3102 : (Jvm.Cond.code ({ cls := "LetMill$Machine", name := "chosen", desc := "(LLetMill$Row;II)V" } : Jvm.MethodName) prog_28_method_38_code (9 : Nat) (Option.none : Option Jvm.ClassFile.FieldType)) ∈ lw_all := lw_g (lw_at lw_m13 12 rfl) rfl
theorem q3103 : (Jvm.Cond.methodLink "LetMill$Machine" (170 : Nat) ({ cls := "LetMill$Pat", name := "fits", desc := "(LLetMill$Machine;I)Z" } : Jvm.MethodName)) ∈ lw_all := lw_g (lw_at lw_m13 13 rfl) rfl
theorem q3113 : (Jvm.Cond.instanceMethod ({ cls := "LetMill$Machine", name := "con", desc := "(I)LLetMill$Con;" } : Jvm.MethodName)) ∈ lw_all := lw_g (lw_at lw_m13 23 rfl) rfl
theorem q3114 : (Jvm.Cond.selects "LetMill$Machine" ({ cls := "LetMill$Machine", name := "con", desc := "(I)LLetMill$Con;" } : Jvm.MethodName) ({ cls := "LetMill$Machine", name := "con", desc := "(I)LLetMill$Con;" } : Jvm.MethodName)) ∈ lw_all := lw_g (lw_at lw_m13 24 rfl) rfl
theorem q3115 : (Jvm.Cond.code ({ cls := "LetMill$Machine", name := "con", desc := "(I)LLetMill$Con;" } : Jvm.MethodName) prog_28_method_21_code (2 : Nat) (Option.some (Jvm.ClassFile.FieldType.object "LetMill$Con"))) ∈ lw_all := lw_g (lw_at lw_m13 25 rfl) rfl
theorem q3116 : (Jvm.Cond.classLink "LetMill$Machine" (91 : Nat) "LetMill$Con") ∈ lw_all := lw_g (lw_at lw_m13 26 rfl) rfl
theorem q3118 : (Jvm.Cond.instanceMethod ({ cls := "LetMill$Machine", name := "has", desc := "(I)I" } : Jvm.MethodName)) ∈ lw_all := lw_g (lw_at lw_m13 28 rfl) rfl
theorem q3119 : (Jvm.Cond.selects "LetMill$Machine" ({ cls := "LetMill$Machine", name := "has", desc := "(I)I" } : Jvm.MethodName) ({ cls := "LetMill$Machine", name := "has", desc := "(I)I" } : Jvm.MethodName)) ∈ lw_all := lw_g (lw_at lw_m13 29 rfl) rfl
theorem q3120 : (Jvm.Cond.code ({ cls := "LetMill$Machine", name := "has", desc := "(I)I" } : Jvm.MethodName) prog_28_method_22_code (2 : Nat) (Option.some Jvm.ClassFile.FieldType.int)) ∈ lw_all := lw_g (lw_at lw_m13 30 rfl) rfl
theorem q3128 : (Jvm.Cond.instanceMethod ({ cls := "LetMill$Machine", name := "isPair", desc := "(I)Z" } : Jvm.MethodName)) ∈ lw_all := lw_g (lw_at lw_m13 38 rfl) rfl
theorem q3129 : (Jvm.Cond.selects "LetMill$Machine" ({ cls := "LetMill$Machine", name := "isPair", desc := "(I)Z" } : Jvm.MethodName) ({ cls := "LetMill$Machine", name := "isPair", desc := "(I)Z" } : Jvm.MethodName)) ∈ lw_all := lw_g (lw_at lw_m13 39 rfl) rfl
theorem q3130 : (Jvm.Cond.code ({ cls := "LetMill$Machine", name := "isPair", desc := "(I)Z" } : Jvm.MethodName) prog_28_method_18_code (2 : Nat) (Option.some Jvm.ClassFile.FieldType.boolean)) ∈ lw_all := lw_g (lw_at lw_m13 40 rfl) rfl
theorem q3132 : (Jvm.Cond.instanceMethod ({ cls := "LetMill$Machine", name := "head", desc := "(I)I" } : Jvm.MethodName)) ∈ lw_all := lw_g (lw_at lw_m13 42 rfl) rfl
theorem q3133 : (Jvm.Cond.selects "LetMill$Machine" ({ cls := "LetMill$Machine", name := "head", desc := "(I)I" } : Jvm.MethodName) ({ cls := "LetMill$Machine", name := "head", desc := "(I)I" } : Jvm.MethodName)) ∈ lw_all := lw_g (lw_at lw_m13 43 rfl) rfl
theorem q3134 : (Jvm.Cond.code ({ cls := "LetMill$Machine", name := "head", desc := "(I)I" } : Jvm.MethodName) prog_28_method_19_code (2 : Nat) (Option.some Jvm.ClassFile.FieldType.int)) ∈ lw_all := lw_g (lw_at lw_m13 44 rfl) rfl
theorem q3154 : (Jvm.Cond.instanceMethod ({ cls := "LetMill$Machine", name := "tail", desc := "(I)I" } : Jvm.MethodName)) ∈ lw_all := lw_g (lw_at lw_m13 64 rfl) rfl
theorem q3155 : (Jvm.Cond.selects "LetMill$Machine" ({ cls := "LetMill$Machine", name := "tail", desc := "(I)I" } : Jvm.MethodName) ({ cls := "LetMill$Machine", name := "tail", desc := "(I)I" } : Jvm.MethodName)) ∈ lw_all := lw_g (lw_at lw_m13 65 rfl) rfl
theorem q3156 : (Jvm.Cond.code ({ cls := "LetMill$Machine", name := "tail", desc := "(I)I" } : Jvm.MethodName) prog_28_method_20_code (2 : Nat) (Option.some Jvm.ClassFile.FieldType.int)) ∈ lw_all := lw_g (lw_at lw_m13 66 rfl) rfl
theorem q3165 : (Jvm.Cond.methodLink "LetMill$Machine" (176 : Nat) ({ cls := "LetMill$Pat", name := "bind", desc := "(LLetMill$Machine;II)I" } : Jvm.MethodName)) ∈ lw_all := lw_g (lw_at lw_m13 75 rfl) rfl
theorem q3196 : (Jvm.Cond.methodLink "LetMill$Machine" (180 : Nat) ({ cls := "LetMill$Machine", name := "isOver", desc := "()Z" } : Jvm.MethodName)) ∈ lw_all := lw_g (lw_at lw_m13 106 rfl) rfl
theorem q3202 : (Jvm.Cond.instanceMethod ({ cls := "LetMill$Machine", name := "choose", desc := "(LLetMill$Row;II)V" } : Jvm.MethodName)) ∈ lw_all := lw_g (lw_at lw_m13 112 rfl) rfl
theorem q3203 : (Jvm.Cond.selects "LetMill$Machine" ({ cls := "LetMill$Machine", name := "choose", desc := "(LLetMill$Row;II)V" } : Jvm.MethodName) ({ cls := "LetMill$Machine", name := "choose", desc := "(LLetMill$Row;II)V" } : Jvm.MethodName)) ∈ lw_all := lw_g (lw_at lw_m13 113 rfl) rfl
theorem q3204 : (Jvm.Cond.code ({ cls := "LetMill$Machine", name := "choose", desc := "(LLetMill$Row;II)V" } : Jvm.MethodName) prog_28_method_37_code (4 : Nat) (Option.none : Option Jvm.ClassFile.FieldType)) ∈ lw_all := lw_g (lw_at lw_m13 114 rfl) rfl
theorem q3210 : (Jvm.Cond.instanceMethod ({ cls := "LetMill$Machine", name := "set", desc := "(II)I" } : Jvm.MethodName)) ∈ lw_all := lw_g (lw_at lw_m13 120 rfl) rfl
theorem q3211 : (Jvm.Cond.selects "LetMill$Machine" ({ cls := "LetMill$Machine", name := "set", desc := "(II)I" } : Jvm.MethodName) ({ cls := "LetMill$Machine", name := "set", desc := "(II)I" } : Jvm.MethodName)) ∈ lw_all := lw_g (lw_at lw_m13 121 rfl) rfl
theorem q3212 : (Jvm.Cond.code ({ cls := "LetMill$Machine", name := "set", desc := "(II)I" } : Jvm.MethodName) prog_28_method_40_code (3 : Nat) (Option.some Jvm.ClassFile.FieldType.int)) ∈ lw_all := lw_g (lw_at lw_m13 122 rfl) rfl
theorem q3215 : (Jvm.Cond.instanceMethod ({ cls := "LetMill$Machine", name := "reckoned", desc := "(III)I" } : Jvm.MethodName)) ∈ lw_all := lw_g (lw_at lw_m13 125 rfl) rfl
theorem q3216 : (Jvm.Cond.selects "LetMill$Machine" ({ cls := "LetMill$Machine", name := "reckoned", desc := "(III)I" } : Jvm.MethodName) ({ cls := "LetMill$Machine", name := "reckoned", desc := "(III)I" } : Jvm.MethodName)) ∈ lw_all := lw_g (lw_at lw_m13 126 rfl) rfl
theorem q3217 : (Jvm.Cond.code ({ cls := "LetMill$Machine", name := "reckoned", desc := "(III)I" } : Jvm.MethodName) prog_28_method_42_code (4 : Nat) (Option.some Jvm.ClassFile.FieldType.int)) ∈ lw_all := lw_g (lw_at lw_m13 127 rfl) rfl
theorem q3218 : (Jvm.Cond.methodLink "LetMill$Machine" (213 : Nat) ({ cls := "java/lang/Math", name := "floorDiv", desc := "(II)I" } : Jvm.MethodName)) ∈ lw_all := lw_g (lw_at lw_m13 128 rfl) rfl
theorem q3221 : (Jvm.Cond.methodLink "LetMill$Machine" (218 : Nat) ({ cls := "java/lang/Math", name := "floorMod", desc := "(II)I" } : Jvm.MethodName)) ∈ lw_all := lw_g (lw_at lw_m13 131 rfl) rfl
theorem q3261 : (Jvm.Cond.instanceMethod ({ cls := "LetMill$Machine", name := "tuple", desc := "(I)I" } : Jvm.MethodName)) ∈ lw_all := lw_g (lw_at lw_m13 171 rfl) rfl
theorem q3262 : (Jvm.Cond.selects "LetMill$Machine" ({ cls := "LetMill$Machine", name := "tuple", desc := "(I)I" } : Jvm.MethodName) ({ cls := "LetMill$Machine", name := "tuple", desc := "(I)I" } : Jvm.MethodName)) ∈ lw_all := lw_g (lw_at lw_m13 172 rfl) rfl
theorem q3263 : (Jvm.Cond.code ({ cls := "LetMill$Machine", name := "tuple", desc := "(I)I" } : Jvm.MethodName) prog_28_method_9_code (3 : Nat) (Option.some Jvm.ClassFile.FieldType.int)) ∈ lw_all := lw_g (lw_at lw_m13 173 rfl) rfl
theorem q3264 : (Jvm.Cond.methodLink "LetMill$Machine" (75 : Nat) ({ cls := "LetMill$Machine", name := "pop", desc := "()I" } : Jvm.MethodName)) ∈ lw_all := lw_g (lw_at lw_m13 174 rfl) rfl
theorem q3278 : (Jvm.Cond.instanceMethod ({ cls := "LetMill$Machine", name := "append", desc := "(II)V" } : Jvm.MethodName)) ∈ lw_all := lw_g (lw_at lw_m13 188 rfl) rfl
theorem q3279 : (Jvm.Cond.selects "LetMill$Machine" ({ cls := "LetMill$Machine", name := "append", desc := "(II)V" } : Jvm.MethodName) ({ cls := "LetMill$Machine", name := "append", desc := "(II)V" } : Jvm.MethodName)) ∈ lw_all := lw_g (lw_at lw_m13 189 rfl) rfl
theorem q3280 : (Jvm.Cond.code ({ cls := "LetMill$Machine", name := "append", desc := "(II)V" } : Jvm.MethodName) prog_28_method_41_code (8 : Nat) (Option.none : Option Jvm.ClassFile.FieldType)) ∈ lw_all := lw_g (lw_at lw_m13 190 rfl) rfl
theorem q3281 : (Jvm.Cond.methodLink "LetMill$Machine" (202 : Nat) ({ cls := "LetMill$Machine", name := "isPair", desc := "(I)Z" } : Jvm.MethodName)) ∈ lw_all := lw_g (lw_at lw_m13 191 rfl) rfl
theorem q3282 : (Jvm.Cond.methodLink "LetMill$Machine" (205 : Nat) ({ cls := "LetMill$Machine", name := "tail", desc := "(I)I" } : Jvm.MethodName)) ∈ lw_all := lw_g (lw_at lw_m13 192 rfl) rfl
theorem q3283 : (Jvm.Cond.methodLink "LetMill$Machine" (208 : Nat) ({ cls := "LetMill$Machine", name := "head", desc := "(I)I" } : Jvm.MethodName)) ∈ lw_all := lw_g (lw_at lw_m13 193 rfl) rfl
theorem q3289 : (Jvm.Cond.instanceMethod ({ cls := "LetMill$Machine", name := "end", desc := "()I" } : Jvm.MethodName)) ∈ lw_all := lw_g (lw_at lw_m13 199 rfl) rfl
theorem q3290 : (Jvm.Cond.selects "LetMill$Machine" ({ cls := "LetMill$Machine", name := "end", desc := "()I" } : Jvm.MethodName) ({ cls := "LetMill$Machine", name := "end", desc := "()I" } : Jvm.MethodName)) ∈ lw_all := lw_g (lw_at lw_m13 200 rfl) rfl
theorem q3291 : (Jvm.Cond.code ({ cls := "LetMill$Machine", name := "end", desc := "()I" } : Jvm.MethodName) prog_28_method_35_code (1 : Nat) (Option.some Jvm.ClassFile.FieldType.int)) ∈ lw_all := lw_g (lw_at lw_m13 201 rfl) rfl
theorem q3384 : (Jvm.Cond.instanceMethod ({ cls := "LetMill$Machine", name := "parts", desc := "(I)I" } : Jvm.MethodName)) ∈ lw_all := lw_g (lw_at lw_m14 54 rfl) rfl
theorem q3385 : (Jvm.Cond.selects "LetMill$Machine" ({ cls := "LetMill$Machine", name := "parts", desc := "(I)I" } : Jvm.MethodName) ({ cls := "LetMill$Machine", name := "parts", desc := "(I)I" } : Jvm.MethodName)) ∈ lw_all := lw_g (lw_at lw_m14 55 rfl) rfl
theorem q3386 : (Jvm.Cond.code ({ cls := "LetMill$Machine", name := "parts", desc := "(I)I" } : Jvm.MethodName) prog_28_method_17_code (2 : Nat) (Option.some Jvm.ClassFile.FieldType.int)) ∈ lw_all := lw_g (lw_at lw_m14 56 rfl) rfl
def RX7 : String := "LetMill$Row"
abbrev cX7_init : ByteArray := prog_38_method_1_code
def yX7_init : MethodName := ⟨RX7, "<init>", "()V"⟩
abbrev cX7_add : ByteArray := prog_38_method_2_code
def yX7_add : MethodName := ⟨RX7, "add", "(Ljava/lang/Object;)V"⟩
abbrev cX7_pat : ByteArray := prog_38_method_6_code
def yX7_pat : MethodName := ⟨RX7, "pat", "(I)LLetMill$Pat;"⟩
abbrev cX7_get : ByteArray := prog_38_method_3_code
def yX7_get : MethodName := ⟨RX7, "get", "(I)Ljava/lang/Object;"⟩
abbrev cX7_exp : ByteArray := prog_38_method_5_code
def yX7_exp : MethodName := ⟨RX7, "exp", "(I)LLetMill$Exp;"⟩
abbrev cX7_ty : ByteArray := prog_38_method_9_code
def yX7_ty : MethodName := ⟨RX7, "ty", "(I)LLetMill$Ty;"⟩
abbrev cX7_dec : ByteArray := prog_38_method_8_code
def yX7_dec : MethodName := ⟨RX7, "dec", "(I)LLetMill$Dec;"⟩
abbrev cX7_data : ByteArray := prog_38_method_11_code
def yX7_data : MethodName := ⟨RX7, "data", "(I)LLetMill$Data;"⟩
abbrev cX7_con : ByteArray := prog_38_method_12_code
def yX7_con : MethodName := ⟨RX7, "con", "(I)LLetMill$ConDec;"⟩
abbrev cX7_fun : ByteArray := prog_38_method_10_code
def yX7_fun : MethodName := ⟨RX7, "fun", "(I)LLetMill$Fun;"⟩
abbrev cX7_clause : ByteArray := prog_38_method_7_code
def yX7_clause : MethodName := ⟨RX7, "clause", "(I)LLetMill$Clause;"⟩
abbrev cX7_set : ByteArray := prog_38_method_4_code
def yX7_set : MethodName := ⟨RX7, "set", "(ILjava/lang/Object;)V"⟩
theorem q221 : (Jvm.Cond.initialized "LetMill$Row") ∈ lw_all := lw_g (lw_at lw_m1 11 rfl) rfl
theorem q558 : (Jvm.Cond.instantiable "LetMill$Row" (2 : Nat)) ∈ lw_all := lw_g (lw_at lw_m2 108 rfl) rfl
theorem q560 : (Jvm.Cond.instanceMethod ({ cls := "LetMill$Row", name := "<init>", desc := "()V" } : Jvm.MethodName)) ∈ lw_all := lw_g (lw_at lw_m2 110 rfl) rfl
theorem q561 : (Jvm.Cond.code ({ cls := "LetMill$Row", name := "<init>", desc := "()V" } : Jvm.MethodName) prog_38_method_1_code (1 : Nat) (Option.none : Option Jvm.ClassFile.FieldType)) ∈ lw_all := lw_g (lw_at lw_m2 111 rfl) rfl
theorem q562 : (Jvm.Cond.methodLink "LetMill$Row" (1 : Nat) ({ cls := "java/lang/Object", name := "<init>", desc := "()V" } : Jvm.MethodName)) ∈ lw_all := lw_g (lw_at lw_m2 112 rfl) rfl
theorem q563 : (Jvm.Cond.classLink "LetMill$Row" (7 : Nat) "LetMill$Spot") ∈ lw_all := lw_g (lw_at lw_m2 113 rfl) rfl
theorem q565 : (Jvm.Cond.fieldLink "LetMill$Row" (9 : Nat) "LetMill$Row" "of" "[LLetMill$Spot;") ∈ lw_all := lw_g (lw_at lw_m2 115 rfl) rfl
theorem q566 : (Jvm.Cond.fieldLink "LetMill$Row" (15 : Nat) "LetMill$Row" "many" "I") ∈ lw_all := lw_g (lw_at lw_m2 116 rfl) rfl
theorem q580 : (Jvm.Cond.lays "LetMill$Row" "LetMill$Row" "of" "[LLetMill$Spot;") ∈ lw_all := lw_g (lw_at lw_m2 130 rfl) rfl
theorem q582 : (Jvm.Cond.lays "LetMill$Row" "LetMill$Row" "many" "I") ∈ lw_all := lw_g (lw_at lw_m2 132 rfl) rfl
theorem q590 : (Jvm.Cond.instanceMethod ({ cls := "LetMill$Row", name := "add", desc := "(Ljava/lang/Object;)V" } : Jvm.MethodName)) ∈ lw_all := lw_g (lw_at lw_m2 140 rfl) rfl
theorem q591 : (Jvm.Cond.selects "LetMill$Row" ({ cls := "LetMill$Row", name := "add", desc := "(Ljava/lang/Object;)V" } : Jvm.MethodName) ({ cls := "LetMill$Row", name := "add", desc := "(Ljava/lang/Object;)V" } : Jvm.MethodName)) ∈ lw_all := lw_g (lw_at lw_m2 141 rfl) rfl
theorem q592 : (Jvm.Cond.code ({ cls := "LetMill$Row", name := "add", desc := "(Ljava/lang/Object;)V" } : Jvm.MethodName) prog_38_method_2_code (4 : Nat) (Option.none : Option Jvm.ClassFile.FieldType)) ∈ lw_all := lw_g (lw_at lw_m2 142 rfl) rfl
theorem q594 : (Jvm.Cond.methodLink "LetMill$Row" (19 : Nat) ({ cls := "LetMill$Spot", name := "<init>", desc := "(Ljava/lang/Object;)V" } : Jvm.MethodName)) ∈ lw_all := lw_g (lw_at lw_m2 144 rfl) rfl
theorem q599 : (Jvm.Cond.fieldLink "LetMill$Row" (22 : Nat) "LetMill$Spot" "part" "Ljava/lang/Object;") ∈ lw_all := lw_g (lw_at lw_m2 149 rfl) rfl
theorem q1410 : (Jvm.Cond.instanceMethod ({ cls := "LetMill$Row", name := "pat", desc := "(I)LLetMill$Pat;" } : Jvm.MethodName)) ∈ lw_all := lw_g (lw_at lw_m6 0 rfl) rfl
theorem q1411 : (Jvm.Cond.selects "LetMill$Row" ({ cls := "LetMill$Row", name := "pat", desc := "(I)LLetMill$Pat;" } : Jvm.MethodName) ({ cls := "LetMill$Row", name := "pat", desc := "(I)LLetMill$Pat;" } : Jvm.MethodName)) ∈ lw_all := lw_g (lw_at lw_m6 1 rfl) rfl
theorem q1412 : (Jvm.Cond.code ({ cls := "LetMill$Row", name := "pat", desc := "(I)LLetMill$Pat;" } : Jvm.MethodName) prog_38_method_6_code (2 : Nat) (Option.some (Jvm.ClassFile.FieldType.object "LetMill$Pat"))) ∈ lw_all := lw_g (lw_at lw_m6 2 rfl) rfl
theorem q1413 : (Jvm.Cond.methodLink "LetMill$Row" (26 : Nat) ({ cls := "LetMill$Row", name := "get", desc := "(I)Ljava/lang/Object;" } : Jvm.MethodName)) ∈ lw_all := lw_g (lw_at lw_m6 3 rfl) rfl
theorem q1414 : (Jvm.Cond.instanceMethod ({ cls := "LetMill$Row", name := "get", desc := "(I)Ljava/lang/Object;" } : Jvm.MethodName)) ∈ lw_all := lw_g (lw_at lw_m6 4 rfl) rfl
theorem q1415 : (Jvm.Cond.selects "LetMill$Row" ({ cls := "LetMill$Row", name := "get", desc := "(I)Ljava/lang/Object;" } : Jvm.MethodName) ({ cls := "LetMill$Row", name := "get", desc := "(I)Ljava/lang/Object;" } : Jvm.MethodName)) ∈ lw_all := lw_g (lw_at lw_m6 5 rfl) rfl
theorem q1416 : (Jvm.Cond.code ({ cls := "LetMill$Row", name := "get", desc := "(I)Ljava/lang/Object;" } : Jvm.MethodName) prog_38_method_3_code (2 : Nat) (Option.some (Jvm.ClassFile.FieldType.object "java/lang/Object"))) ∈ lw_all := lw_g (lw_at lw_m6 6 rfl) rfl
theorem q1417 : (Jvm.Cond.classLink "LetMill$Row" (32 : Nat) "LetMill$Pat") ∈ lw_all := lw_g (lw_at lw_m6 7 rfl) rfl
theorem q1662 : (Jvm.Cond.instanceMethod ({ cls := "LetMill$Row", name := "exp", desc := "(I)LLetMill$Exp;" } : Jvm.MethodName)) ∈ lw_all := lw_g (lw_at lw_m7 12 rfl) rfl
theorem q1663 : (Jvm.Cond.selects "LetMill$Row" ({ cls := "LetMill$Row", name := "exp", desc := "(I)LLetMill$Exp;" } : Jvm.MethodName) ({ cls := "LetMill$Row", name := "exp", desc := "(I)LLetMill$Exp;" } : Jvm.MethodName)) ∈ lw_all := lw_g (lw_at lw_m7 13 rfl) rfl
theorem q1664 : (Jvm.Cond.code ({ cls := "LetMill$Row", name := "exp", desc := "(I)LLetMill$Exp;" } : Jvm.MethodName) prog_38_method_5_code (2 : Nat) (Option.some (Jvm.ClassFile.FieldType.object "LetMill$Exp"))) ∈ lw_all := lw_g (lw_at lw_m7 14 rfl) rfl
theorem q1665 : (Jvm.Cond.classLink "LetMill$Row" (30 : Nat) "LetMill$Exp") ∈ lw_all := lw_g (lw_at lw_m7 15 rfl) rfl
theorem q1928 : (Jvm.Cond.instanceMethod ({ cls := "LetMill$Row", name := "ty", desc := "(I)LLetMill$Ty;" } : Jvm.MethodName)) ∈ lw_all := lw_g (lw_at lw_m8 38 rfl) rfl
theorem q1929 : (Jvm.Cond.selects "LetMill$Row" ({ cls := "LetMill$Row", name := "ty", desc := "(I)LLetMill$Ty;" } : Jvm.MethodName) ({ cls := "LetMill$Row", name := "ty", desc := "(I)LLetMill$Ty;" } : Jvm.MethodName)) ∈ lw_all := lw_g (lw_at lw_m8 39 rfl) rfl
theorem q1930 : (Jvm.Cond.code ({ cls := "LetMill$Row", name := "ty", desc := "(I)LLetMill$Ty;" } : Jvm.MethodName) prog_38_method_9_code (2 : Nat) (Option.some (Jvm.ClassFile.FieldType.object "LetMill$Ty"))) ∈ lw_all := lw_g (lw_at lw_m8 40 rfl) rfl
theorem q1931 : (Jvm.Cond.classLink "LetMill$Row" (38 : Nat) "LetMill$Ty") ∈ lw_all := lw_g (lw_at lw_m8 41 rfl) rfl
theorem q2037 : (Jvm.Cond.instanceMethod ({ cls := "LetMill$Row", name := "dec", desc := "(I)LLetMill$Dec;" } : Jvm.MethodName)) ∈ lw_all := lw_g (lw_at lw_m8 147 rfl) rfl
theorem q2038 : (Jvm.Cond.selects "LetMill$Row" ({ cls := "LetMill$Row", name := "dec", desc := "(I)LLetMill$Dec;" } : Jvm.MethodName) ({ cls := "LetMill$Row", name := "dec", desc := "(I)LLetMill$Dec;" } : Jvm.MethodName)) ∈ lw_all := lw_g (lw_at lw_m8 148 rfl) rfl
theorem q2039 : (Jvm.Cond.code ({ cls := "LetMill$Row", name := "dec", desc := "(I)LLetMill$Dec;" } : Jvm.MethodName) prog_38_method_8_code (2 : Nat) (Option.some (Jvm.ClassFile.FieldType.object "LetMill$Dec"))) ∈ lw_all := lw_g (lw_at lw_m8 149 rfl) rfl
theorem q2040 : (Jvm.Cond.classLink "LetMill$Row" (36 : Nat) "LetMill$Dec") ∈ lw_all := lw_g (lw_at lw_m8 150 rfl) rfl
theorem q2048 : (Jvm.Cond.instanceMethod ({ cls := "LetMill$Row", name := "data", desc := "(I)LLetMill$Data;" } : Jvm.MethodName)) ∈ lw_all := lw_g (lw_at lw_m8 158 rfl) rfl
theorem q2049 : (Jvm.Cond.selects "LetMill$Row" ({ cls := "LetMill$Row", name := "data", desc := "(I)LLetMill$Data;" } : Jvm.MethodName) ({ cls := "LetMill$Row", name := "data", desc := "(I)LLetMill$Data;" } : Jvm.MethodName)) ∈ lw_all := lw_g (lw_at lw_m8 159 rfl) rfl
theorem q2050 : (Jvm.Cond.code ({ cls := "LetMill$Row", name := "data", desc := "(I)LLetMill$Data;" } : Jvm.MethodName) prog_38_method_11_code (2 : Nat) (Option.some (Jvm.ClassFile.FieldType.object "LetMill$Data"))) ∈ lw_all := lw_g (lw_at lw_m8 160 rfl) rfl
theorem q2051 : (Jvm.Cond.classLink "LetMill$Row" (42 : Nat) "LetMill$Data") ∈ lw_all := lw_g (lw_at lw_m8 161 rfl) rfl
theorem q2084 : (Jvm.Cond.instanceMethod ({ cls := "LetMill$Row", name := "con", desc := "(I)LLetMill$ConDec;" } : Jvm.MethodName)) ∈ lw_all := lw_g (lw_at lw_m8 194 rfl) rfl
theorem q2085 : (Jvm.Cond.selects "LetMill$Row" ({ cls := "LetMill$Row", name := "con", desc := "(I)LLetMill$ConDec;" } : Jvm.MethodName) ({ cls := "LetMill$Row", name := "con", desc := "(I)LLetMill$ConDec;" } : Jvm.MethodName)) ∈ lw_all := lw_g (lw_at lw_m8 195 rfl) rfl
theorem q2086 : (Jvm.Cond.code ({ cls := "LetMill$Row", name := "con", desc := "(I)LLetMill$ConDec;" } : Jvm.MethodName) prog_38_method_12_code (2 : Nat) (Option.some (Jvm.ClassFile.FieldType.object "LetMill$ConDec"))) ∈ lw_all := lw_g (lw_at lw_m8 196 rfl) rfl
theorem q2087 : (Jvm.Cond.classLink "LetMill$Row" (44 : Nat) "LetMill$ConDec") ∈ lw_all := lw_g (lw_at lw_m8 197 rfl) rfl
theorem q2188 : (Jvm.Cond.instanceMethod ({ cls := "LetMill$Row", name := "fun", desc := "(I)LLetMill$Fun;" } : Jvm.MethodName)) ∈ lw_all := lw_g (lw_at lw_m9 58 rfl) rfl
theorem q2189 : (Jvm.Cond.selects "LetMill$Row" ({ cls := "LetMill$Row", name := "fun", desc := "(I)LLetMill$Fun;" } : Jvm.MethodName) ({ cls := "LetMill$Row", name := "fun", desc := "(I)LLetMill$Fun;" } : Jvm.MethodName)) ∈ lw_all := lw_g (lw_at lw_m9 59 rfl) rfl
theorem q2190 : (Jvm.Cond.code ({ cls := "LetMill$Row", name := "fun", desc := "(I)LLetMill$Fun;" } : Jvm.MethodName) prog_38_method_10_code (2 : Nat) (Option.some (Jvm.ClassFile.FieldType.object "LetMill$Fun"))) ∈ lw_all := lw_g (lw_at lw_m9 60 rfl) rfl
theorem q2191 : (Jvm.Cond.classLink "LetMill$Row" (40 : Nat) "LetMill$Fun") ∈ lw_all := lw_g (lw_at lw_m9 61 rfl) rfl
theorem q2197 : (Jvm.Cond.instanceMethod ({ cls := "LetMill$Row", name := "clause", desc := "(I)LLetMill$Clause;" } : Jvm.MethodName)) ∈ lw_all := lw_g (lw_at lw_m9 67 rfl) rfl
theorem q2198 : (Jvm.Cond.selects "LetMill$Row" ({ cls := "LetMill$Row", name := "clause", desc := "(I)LLetMill$Clause;" } : Jvm.MethodName) ({ cls := "LetMill$Row", name := "clause", desc := "(I)LLetMill$Clause;" } : Jvm.MethodName)) ∈ lw_all := lw_g (lw_at lw_m9 68 rfl) rfl
theorem q2199 : (Jvm.Cond.code ({ cls := "LetMill$Row", name := "clause", desc := "(I)LLetMill$Clause;" } : Jvm.MethodName) prog_38_method_7_code (2 : Nat) (Option.some (Jvm.ClassFile.FieldType.object "LetMill$Clause"))) ∈ lw_all := lw_g (lw_at lw_m9 69 rfl) rfl
theorem q2200 : (Jvm.Cond.classLink "LetMill$Row" (34 : Nat) "LetMill$Clause") ∈ lw_all := lw_g (lw_at lw_m9 70 rfl) rfl
theorem q3298 : (Jvm.Cond.instanceMethod ({ cls := "LetMill$Row", name := "set", desc := "(ILjava/lang/Object;)V" } : Jvm.MethodName)) ∈ lw_all := lw_g (lw_at lw_m13 208 rfl) rfl
theorem q3299 : (Jvm.Cond.selects "LetMill$Row" ({ cls := "LetMill$Row", name := "set", desc := "(ILjava/lang/Object;)V" } : Jvm.MethodName) ({ cls := "LetMill$Row", name := "set", desc := "(ILjava/lang/Object;)V" } : Jvm.MethodName)) ∈ lw_all := lw_g (lw_at lw_m13 209 rfl) rfl
theorem q3300 : (Jvm.Cond.code ({ cls := "LetMill$Row", name := "set", desc := "(ILjava/lang/Object;)V" } : Jvm.MethodName) prog_38_method_4_code (3 : Nat) (Option.none : Option Jvm.ClassFile.FieldType)) ∈ lw_all := lw_g (lw_at lw_m13 210 rfl) rfl
theorem q4579 : (Jvm.Cond.castable "LetMill$Row" "LetMill$Row") ∈ lw_tbl := lw_at lw_m19 49 rfl
def RX8 : String := "LetMill$Spot"
abbrev cX8_init : ByteArray := prog_43_method_1_code
def yX8_init : MethodName := ⟨RX8, "<init>", "(Ljava/lang/Object;)V"⟩
theorem q222 : (Jvm.Cond.initialized "LetMill$Spot") ∈ lw_all := lw_g (lw_at lw_m1 12 rfl) rfl
theorem q593 : (Jvm.Cond.instantiable "LetMill$Spot" (1 : Nat)) ∈ lw_all := lw_g (lw_at lw_m2 143 rfl) rfl
theorem q595 : (Jvm.Cond.instanceMethod ({ cls := "LetMill$Spot", name := "<init>", desc := "(Ljava/lang/Object;)V" } : Jvm.MethodName)) ∈ lw_all := lw_g (lw_at lw_m2 145 rfl) rfl
theorem q596 : (Jvm.Cond.code ({ cls := "LetMill$Spot", name := "<init>", desc := "(Ljava/lang/Object;)V" } : Jvm.MethodName) prog_43_method_1_code (2 : Nat) (Option.none : Option Jvm.ClassFile.FieldType)) ∈ lw_all := lw_g (lw_at lw_m2 146 rfl) rfl
theorem q597 : (Jvm.Cond.methodLink "LetMill$Spot" (1 : Nat) ({ cls := "java/lang/Object", name := "<init>", desc := "()V" } : Jvm.MethodName)) ∈ lw_all := lw_g (lw_at lw_m2 147 rfl) rfl
theorem q598 : (Jvm.Cond.fieldLink "LetMill$Spot" (7 : Nat) "LetMill$Spot" "part" "Ljava/lang/Object;") ∈ lw_all := lw_g (lw_at lw_m2 148 rfl) rfl
theorem q600 : (Jvm.Cond.lays "LetMill$Spot" "LetMill$Spot" "part" "Ljava/lang/Object;") ∈ lw_all := lw_g (lw_at lw_m2 150 rfl) rfl
def RX9 : String := "LetMill$Scope"
abbrev cX9_init : ByteArray := prog_39_method_1_code
def yX9_init : MethodName := ⟨RX9, "<init>", "(LLetMill$Tokens;LLetMill$Types;LLetMill$Row;)V"⟩
abbrev cX9_builtIn : ByteArray := prog_39_method_2_code
def yX9_builtIn : MethodName := ⟨RX9, "builtIn", "(Ljava/lang/String;I[I)V"⟩
abbrev cX9_clear : ByteArray := prog_39_method_3_code
def yX9_clear : MethodName := ⟨RX9, "clear", "()V"⟩
abbrev cX9_begin : ByteArray := prog_39_method_4_code
def yX9_begin : MethodName := ⟨RX9, "begin", "()V"⟩
abbrev cX9_namesMany : ByteArray := prog_39_method_20_code
def yX9_namesMany : MethodName := ⟨RX9, "namesMany", "()I"⟩
abbrev cX9_consMany : ByteArray := prog_39_method_21_code
def yX9_consMany : MethodName := ⟨RX9, "consMany", "()I"⟩
abbrev cX9_isTwice : ByteArray := prog_39_method_22_code
def yX9_isTwice : MethodName := ⟨RX9, "isTwice", "(II)Z"⟩
abbrev cX9_is : ByteArray := prog_39_method_8_code
def yX9_is : MethodName := ⟨RX9, "is", "(JJI)Z"⟩
abbrev cX9_found : ByteArray := prog_39_method_7_code
def yX9_found : MethodName := ⟨RX9, "found", "(II)V"⟩
abbrev cX9_declare : ByteArray := prog_39_method_12_code
def yX9_declare : MethodName := ⟨RX9, "declare", "(II)LLetMill$TypeName;"⟩
abbrev cX9_isFull : ByteArray := prog_39_method_13_code
def yX9_isFull : MethodName := ⟨RX9, "isFull", "()Z"⟩
abbrev cX9_addName : ByteArray := prog_39_method_14_code
def yX9_addName : MethodName := ⟨RX9, "addName", "(LLetMill$TypeName;)V"⟩
abbrev cX9_typeName : ByteArray := prog_39_method_11_code
def yX9_typeName : MethodName := ⟨RX9, "typeName", "(I)LLetMill$TypeName;"⟩
abbrev cX9_part : ByteArray := prog_39_method_23_code
def yX9_part : MethodName := ⟨RX9, "part", "(II)J"⟩
abbrev cX9_number : ByteArray := prog_39_method_16_code
def yX9_number : MethodName := ⟨RX9, "number", "(LLetMill$Con;)V"⟩
abbrev cX9_addCon : ByteArray := prog_39_method_15_code
def yX9_addCon : MethodName := ⟨RX9, "addCon", "(LLetMill$Con;)V"⟩
abbrev cX9_bind : ByteArray := prog_39_method_24_code
def yX9_bind : MethodName := ⟨RX9, "bind", "(II)LLetMill$Binding;"⟩
abbrev cX9_clause : ByteArray := prog_39_method_28_code
def yX9_clause : MethodName := ⟨RX9, "clause", "(LLetMill$Clause;)V"⟩
abbrev cX9_con : ByteArray := prog_39_method_10_code
def yX9_con : MethodName := ⟨RX9, "con", "(I)LLetMill$Con;"⟩
abbrev cX9_name : ByteArray := prog_39_method_9_code
def yX9_name : MethodName := ⟨RX9, "name", "(I)LLetMill$Binding;"⟩
abbrev cX9_back : ByteArray := prog_39_method_26_code
def yX9_back : MethodName := ⟨RX9, "back", "(I)V"⟩
abbrev cX9_backTypes : ByteArray := prog_39_method_27_code
def yX9_backTypes : MethodName := ⟨RX9, "backTypes", "(II)V"⟩
abbrev cX9_bound : ByteArray := prog_39_method_25_code
def yX9_bound : MethodName := ⟨RX9, "bound", "(I)LLetMill$Binding;"⟩
abbrev cX9_typeAt : ByteArray := prog_39_method_18_code
def yX9_typeAt : MethodName := ⟨RX9, "typeAt", "(I)LLetMill$TypeName;"⟩
abbrev cX9_conAt : ByteArray := prog_39_method_17_code
def yX9_conAt : MethodName := ⟨RX9, "conAt", "(I)LLetMill$Con;"⟩
abbrev cX9_forget : ByteArray := prog_39_method_6_code
def yX9_forget : MethodName := ⟨RX9, "forget", "()V"⟩
abbrev cX9_drop : ByteArray := prog_39_method_5_code
def yX9_drop : MethodName := ⟨RX9, "drop", "()V"⟩
abbrev cX9_keep : ByteArray := prog_39_method_19_code
def yX9_keep : MethodName := ⟨RX9, "keep", "(LLetMill$Binding;)V"⟩
theorem q223 : (Jvm.Cond.initialized "LetMill$Scope") ∈ lw_all := lw_g (lw_at lw_m1 13 rfl) rfl
theorem q329 : (Jvm.Cond.fieldLink "LetMill$Scope" (88 : Nat) "LetMill$Tokens" "from" "[I") ∈ lw_all := lw_g (lw_at lw_m1 119 rfl) rfl
theorem q333 : (Jvm.Cond.fieldLink "LetMill$Scope" (96 : Nat) "LetMill$Tokens" "value" "[J") ∈ lw_all := lw_g (lw_at lw_m1 123 rfl) rfl
theorem q336 : (Jvm.Cond.fieldLink "LetMill$Scope" (99 : Nat) "LetMill$Tokens" "more" "[J") ∈ lw_all := lw_g (lw_at lw_m1 126 rfl) rfl
theorem q439 : (Jvm.Cond.fieldLink "LetMill$Scope" (126 : Nat) "LetMill$TypeName" "name" "J") ∈ lw_all := lw_g (lw_at lw_m1 229 rfl) rfl
theorem q442 : (Jvm.Cond.fieldLink "LetMill$Scope" (127 : Nat) "LetMill$TypeName" "more" "J") ∈ lw_all := lw_g (lw_at lw_m1 232 rfl) rfl
theorem q575 : (Jvm.Cond.fieldLink "LetMill$Scope" (66 : Nat) "LetMill$Row" "many" "I") ∈ lw_all := lw_g (lw_at lw_m2 125 rfl) rfl
theorem q675 : (Jvm.Cond.instantiable "LetMill$Scope" (16 : Nat)) ∈ lw_all := lw_g (lw_at lw_m2 225 rfl) rfl
theorem q677 : (Jvm.Cond.instanceMethod ({ cls := "LetMill$Scope", name := "<init>", desc := "(LLetMill$Tokens;LLetMill$Types;LLetMill$Row;)V" } : Jvm.MethodName)) ∈ lw_all := lw_g (lw_at lw_m2 227 rfl) rfl
theorem q678 : (Jvm.Cond.code ({ cls := "LetMill$Scope", name := "<init>", desc := "(LLetMill$Tokens;LLetMill$Types;LLetMill$Row;)V" } : Jvm.MethodName) prog_39_method_1_code (4 : Nat) (Option.none : Option Jvm.ClassFile.FieldType)) ∈ lw_all := lw_g (lw_at lw_m2 228 rfl) rfl
theorem q679 : (Jvm.Cond.methodLink "LetMill$Scope" (1 : Nat) ({ cls := "java/lang/Object", name := "<init>", desc := "()V" } : Jvm.MethodName)) ∈ lw_all := lw_g (lw_at lw_m2 229 rfl) rfl
theorem q680 : (Jvm.Cond.classLink "LetMill$Scope" (7 : Nat) "LetMill$Binding") ∈ lw_all := lw_g (lw_at lw_m2 230 rfl) rfl
theorem q682 : (Jvm.Cond.classLink "LetMill$Scope" (15 : Nat) "LetMill$Row") ∈ lw_all := lw_g (lw_at lw_m2 232 rfl) rfl
theorem q683 : (Jvm.Cond.methodLinkNest "LetMill$Scope" (17 : Nat) ({ cls := "LetMill$Row", name := "<init>", desc := "()V" } : Jvm.MethodName) "LetMill") ∈ lw_tbl := lw_at lw_m2 233 rfl
theorem q684 : (Jvm.Cond.fieldLink "LetMill$Scope" (31 : Nat) "LetMill$Scope" "k" "LLetMill$Tokens;") ∈ lw_all := lw_g (lw_at lw_m2 234 rfl) rfl
theorem q685 : (Jvm.Cond.fieldLink "LetMill$Scope" (35 : Nat) "LetMill$Scope" "types" "LLetMill$Types;") ∈ lw_all := lw_g (lw_at lw_m2 235 rfl) rfl
theorem q686 : (Jvm.Cond.fieldLink "LetMill$Scope" (9 : Nat) "LetMill$Scope" "bound" "[LLetMill$Binding;") ∈ lw_all := lw_g (lw_at lw_m2 236 rfl) rfl
theorem q690 : (Jvm.Cond.fieldLink "LetMill$Scope" (69 : Nat) "LetMill$Scope" "many" "I") ∈ lw_all := lw_g (lw_at lw_m3 0 rfl) rfl
theorem q693 : (Jvm.Cond.fieldLink "LetMill$Scope" (70 : Nat) "LetMill$Scope" "depth" "I") ∈ lw_all := lw_g (lw_at lw_m3 3 rfl) rfl
theorem q695 : (Jvm.Cond.fieldLink "LetMill$Scope" (18 : Nat) "LetMill$Scope" "names" "LLetMill$Row;") ∈ lw_all := lw_g (lw_at lw_m3 5 rfl) rfl
theorem q696 : (Jvm.Cond.fieldLink "LetMill$Scope" (22 : Nat) "LetMill$Scope" "cons" "LLetMill$Row;") ∈ lw_all := lw_g (lw_at lw_m3 6 rfl) rfl
theorem q697 : (Jvm.Cond.fieldLink "LetMill$Scope" (25 : Nat) "LetMill$Scope" "session" "LLetMill$Row;") ∈ lw_all := lw_g (lw_at lw_m3 7 rfl) rfl
theorem q699 : (Jvm.Cond.fieldLink "LetMill$Scope" (28 : Nat) "LetMill$Scope" "built" "LLetMill$Row;") ∈ lw_all := lw_g (lw_at lw_m3 9 rfl) rfl
theorem q700 : (Jvm.Cond.fieldLink "LetMill$Scope" (39 : Nat) "LetMill$Scope" "numbered" "LLetMill$Row;") ∈ lw_all := lw_g (lw_at lw_m3 10 rfl) rfl
theorem q701 : (Jvm.Cond.fieldLink "LetMill$Scope" (82 : Nat) "LetMill$Scope" "numberedBefore" "I") ∈ lw_all := lw_g (lw_at lw_m3 11 rfl) rfl
theorem q702 : (Jvm.Cond.fieldLink "LetMill$Scope" (73 : Nat) "LetMill$Scope" "fault" "I") ∈ lw_all := lw_g (lw_at lw_m3 12 rfl) rfl
theorem q704 : (Jvm.Cond.fieldLink "LetMill$Scope" (93 : Nat) "LetMill$Scope" "place" "I") ∈ lw_all := lw_g (lw_at lw_m3 14 rfl) rfl
theorem q706 : (Jvm.Cond.fieldLink "LetMill$Scope" (79 : Nat) "LetMill$Scope" "consBefore" "I") ∈ lw_all := lw_g (lw_at lw_m3 16 rfl) rfl
theorem q708 : (Jvm.Cond.fieldLink "LetMill$Scope" (76 : Nat) "LetMill$Scope" "namesBefore" "I") ∈ lw_all := lw_g (lw_at lw_m3 18 rfl) rfl
theorem q710 : (Jvm.Cond.fieldLink "LetMill$Scope" (137 : Nat) "LetMill$Scope" "isFull" "Z") ∈ lw_all := lw_g (lw_at lw_m3 20 rfl) rfl
theorem q711 : (Jvm.Cond.laysFinal "LetMill$Scope" "LetMill$Scope" "k" "LLetMill$Tokens;") ∈ lw_all := lw_g (lw_at lw_m3 21 rfl) rfl
theorem q713 : (Jvm.Cond.laysFinal "LetMill$Scope" "LetMill$Scope" "types" "LLetMill$Types;") ∈ lw_all := lw_g (lw_at lw_m3 23 rfl) rfl
theorem q715 : (Jvm.Cond.lays "LetMill$Scope" "LetMill$Scope" "bound" "[LLetMill$Binding;") ∈ lw_all := lw_g (lw_at lw_m3 25 rfl) rfl
theorem q717 : (Jvm.Cond.lays "LetMill$Scope" "LetMill$Scope" "many" "I") ∈ lw_all := lw_g (lw_at lw_m3 27 rfl) rfl
theorem q719 : (Jvm.Cond.lays "LetMill$Scope" "LetMill$Scope" "depth" "I") ∈ lw_all := lw_g (lw_at lw_m3 29 rfl) rfl
theorem q721 : (Jvm.Cond.laysFinal "LetMill$Scope" "LetMill$Scope" "names" "LLetMill$Row;") ∈ lw_all := lw_g (lw_at lw_m3 31 rfl) rfl
theorem q723 : (Jvm.Cond.laysFinal "LetMill$Scope" "LetMill$Scope" "cons" "LLetMill$Row;") ∈ lw_all := lw_g (lw_at lw_m3 33 rfl) rfl
theorem q725 : (Jvm.Cond.laysFinal "LetMill$Scope" "LetMill$Scope" "session" "LLetMill$Row;") ∈ lw_all := lw_g (lw_at lw_m3 35 rfl) rfl
theorem q727 : (Jvm.Cond.laysFinal "LetMill$Scope" "LetMill$Scope" "built" "LLetMill$Row;") ∈ lw_all := lw_g (lw_at lw_m3 37 rfl) rfl
theorem q729 : (Jvm.Cond.laysFinal "LetMill$Scope" "LetMill$Scope" "numbered" "LLetMill$Row;") ∈ lw_all := lw_g (lw_at lw_m3 39 rfl) rfl
theorem q731 : (Jvm.Cond.lays "LetMill$Scope" "LetMill$Scope" "numberedBefore" "I") ∈ lw_all := lw_g (lw_at lw_m3 41 rfl) rfl
theorem q733 : (Jvm.Cond.lays "LetMill$Scope" "LetMill$Scope" "fault" "I") ∈ lw_all := lw_g (lw_at lw_m3 43 rfl) rfl
theorem q735 : (Jvm.Cond.lays "LetMill$Scope" "LetMill$Scope" "place" "I") ∈ lw_all := lw_g (lw_at lw_m3 45 rfl) rfl
theorem q737 : (Jvm.Cond.lays "LetMill$Scope" "LetMill$Scope" "consBefore" "I") ∈ lw_all := lw_g (lw_at lw_m3 47 rfl) rfl
theorem q739 : (Jvm.Cond.lays "LetMill$Scope" "LetMill$Scope" "namesBefore" "I") ∈ lw_all := lw_g (lw_at lw_m3 49 rfl) rfl
theorem q741 : (Jvm.Cond.lays "LetMill$Scope" "LetMill$Scope" "isFull" "Z") ∈ lw_all := lw_g (lw_at lw_m3 51 rfl) rfl
theorem q908 : (Jvm.Cond.instanceMethod ({ cls := "LetMill$Scope", name := "builtIn", desc := "(Ljava/lang/String;I[I)V" } : Jvm.MethodName)) ∈ lw_all := lw_g (lw_at lw_m3 218 rfl) rfl
theorem q909 : (Jvm.Cond.selects "LetMill$Scope" ({ cls := "LetMill$Scope", name := "builtIn", desc := "(Ljava/lang/String;I[I)V" } : Jvm.MethodName) ({ cls := "LetMill$Scope", name := "builtIn", desc := "(Ljava/lang/String;I[I)V" } : Jvm.MethodName)) ∈ lw_all := lw_g (lw_at lw_m3 219 rfl) rfl
theorem q910 : (Jvm.Cond.code ({ cls := "LetMill$Scope", name := "builtIn", desc := "(Ljava/lang/String;I[I)V" } : Jvm.MethodName) prog_39_method_2_code (5 : Nat) (Option.none : Option Jvm.ClassFile.FieldType)) ∈ lw_all := lw_g (lw_at lw_m3 220 rfl) rfl
theorem q912 : (Jvm.Cond.methodLink "LetMill$Scope" (42 : Nat) ({ cls := "LetMill$Names", name := "spelled", desc := "(Ljava/lang/String;)J" } : Jvm.MethodName)) ∈ lw_all := lw_g (lw_at lw_m3 222 rfl) rfl
theorem q913 : (Jvm.Cond.methodLink "LetMill$Scope" (48 : Nat) ({ cls := "LetMill$Binding", name := "<init>", desc := "(JJ)V" } : Jvm.MethodName)) ∈ lw_all := lw_g (lw_at lw_m3 223 rfl) rfl
theorem q918 : (Jvm.Cond.fieldLink "LetMill$Scope" (102 : Nat) "LetMill$Binding" "name" "J") ∈ lw_all := lw_g (lw_at lw_m3 228 rfl) rfl
theorem q921 : (Jvm.Cond.fieldLink "LetMill$Scope" (106 : Nat) "LetMill$Binding" "more" "J") ∈ lw_all := lw_g (lw_at lw_m3 231 rfl) rfl
theorem q928 : (Jvm.Cond.fieldLink "LetMill$Scope" (51 : Nat) "LetMill$Binding" "level" "I") ∈ lw_all := lw_g (lw_at lw_m3 238 rfl) rfl
theorem q932 : (Jvm.Cond.fieldLink "LetMill$Scope" (58 : Nat) "LetMill$Binding" "written" "[I") ∈ lw_all := lw_g (lw_at lw_m4 2 rfl) rfl
theorem q935 : (Jvm.Cond.fieldLink "LetMill$Scope" (55 : Nat) "LetMill$Binding" "value" "I") ∈ lw_all := lw_g (lw_at lw_m4 5 rfl) rfl
theorem q953 : (Jvm.Cond.methodLink "LetMill$Scope" (62 : Nat) ({ cls := "LetMill$Row", name := "add", desc := "(Ljava/lang/Object;)V" } : Jvm.MethodName)) ∈ lw_all := lw_g (lw_at lw_m4 23 rfl) rfl
theorem q1027 : (Jvm.Cond.instanceMethod ({ cls := "LetMill$Scope", name := "clear", desc := "()V" } : Jvm.MethodName)) ∈ lw_all := lw_g (lw_at lw_m4 97 rfl) rfl
theorem q1028 : (Jvm.Cond.selects "LetMill$Scope" ({ cls := "LetMill$Scope", name := "clear", desc := "()V" } : Jvm.MethodName) ({ cls := "LetMill$Scope", name := "clear", desc := "()V" } : Jvm.MethodName)) ∈ lw_all := lw_g (lw_at lw_m4 98 rfl) rfl
theorem q1029 : (Jvm.Cond.code ({ cls := "LetMill$Scope", name := "clear", desc := "()V" } : Jvm.MethodName) prog_39_method_3_code (1 : Nat) (Option.none : Option Jvm.ClassFile.FieldType)) ∈ lw_all := lw_g (lw_at lw_m4 99 rfl) rfl
theorem q1266 : (Jvm.Cond.instanceMethod ({ cls := "LetMill$Scope", name := "begin", desc := "()V" } : Jvm.MethodName)) ∈ lw_all := lw_g (lw_at lw_m5 96 rfl) rfl
theorem q1267 : (Jvm.Cond.selects "LetMill$Scope" ({ cls := "LetMill$Scope", name := "begin", desc := "()V" } : Jvm.MethodName) ({ cls := "LetMill$Scope", name := "begin", desc := "()V" } : Jvm.MethodName)) ∈ lw_all := lw_g (lw_at lw_m5 97 rfl) rfl
theorem q1268 : (Jvm.Cond.code ({ cls := "LetMill$Scope", name := "begin", desc := "()V" } : Jvm.MethodName) prog_39_method_4_code (1 : Nat) (Option.none : Option Jvm.ClassFile.FieldType)) ∈ lw_all := lw_g (lw_at lw_m5 98 rfl) rfl
theorem q1498 : (Jvm.Cond.fieldLink "LetMill$Scope" (153 : Nat) "LetMill$Clause" "pats" "[LLetMill$Pat;") ∈ lw_all := lw_g (lw_at lw_m6 88 rfl) rfl
theorem q1502 : (Jvm.Cond.fieldLink "LetMill$Scope" (165 : Nat) "LetMill$Clause" "body" "LLetMill$Exp;") ∈ lw_all := lw_g (lw_at lw_m6 92 rfl) rfl
theorem q2029 : (Jvm.Cond.instanceMethod ({ cls := "LetMill$Scope", name := "namesMany", desc := "()I" } : Jvm.MethodName)) ∈ lw_all := lw_g (lw_at lw_m8 139 rfl) rfl
theorem q2030 : (Jvm.Cond.selects "LetMill$Scope" ({ cls := "LetMill$Scope", name := "namesMany", desc := "()I" } : Jvm.MethodName) ({ cls := "LetMill$Scope", name := "namesMany", desc := "()I" } : Jvm.MethodName)) ∈ lw_all := lw_g (lw_at lw_m8 140 rfl) rfl
theorem q2031 : (Jvm.Cond.code ({ cls := "LetMill$Scope", name := "namesMany", desc := "()I" } : Jvm.MethodName) prog_39_method_20_code (1 : Nat) (Option.some Jvm.ClassFile.FieldType.int)) ∈ lw_all := lw_g (lw_at lw_m8 141 rfl) rfl
theorem q2033 : (Jvm.Cond.instanceMethod ({ cls := "LetMill$Scope", name := "consMany", desc := "()I" } : Jvm.MethodName)) ∈ lw_all := lw_g (lw_at lw_m8 143 rfl) rfl
theorem q2034 : (Jvm.Cond.selects "LetMill$Scope" ({ cls := "LetMill$Scope", name := "consMany", desc := "()I" } : Jvm.MethodName) ({ cls := "LetMill$Scope", name := "consMany", desc := "()I" } : Jvm.MethodName)) ∈ lw_all := lw_g (lw_at lw_m8 144 rfl) rfl
theorem q2035 : (Jvm.Cond.code ({ cls := "LetMill$Scope", name := "consMany", desc := "()I" } : Jvm.MethodName) prog_39_method_21_code (1 : Nat) (Option.some Jvm.ClassFile.FieldType.int)) ∈ lw_all := lw_g (lw_at lw_m8 145 rfl) rfl
theorem q2053 : (Jvm.Cond.instanceMethod ({ cls := "LetMill$Scope", name := "isTwice", desc := "(II)Z" } : Jvm.MethodName)) ∈ lw_all := lw_g (lw_at lw_m8 163 rfl) rfl
theorem q2054 : (Jvm.Cond.selects "LetMill$Scope" ({ cls := "LetMill$Scope", name := "isTwice", desc := "(II)Z" } : Jvm.MethodName) ({ cls := "LetMill$Scope", name := "isTwice", desc := "(II)Z" } : Jvm.MethodName)) ∈ lw_all := lw_g (lw_at lw_m8 164 rfl) rfl
theorem q2055 : (Jvm.Cond.code ({ cls := "LetMill$Scope", name := "isTwice", desc := "(II)Z" } : Jvm.MethodName) prog_39_method_22_code (3 : Nat) (Option.some Jvm.ClassFile.FieldType.boolean)) ∈ lw_all := lw_g (lw_at lw_m8 165 rfl) rfl
theorem q2056 : (Jvm.Cond.methodLink "LetMill$Scope" (108 : Nat) ({ cls := "LetMill$Scope", name := "is", desc := "(JJI)Z" } : Jvm.MethodName)) ∈ lw_all := lw_g (lw_at lw_m8 166 rfl) rfl
theorem q2058 : (Jvm.Cond.instanceMethod ({ cls := "LetMill$Scope", name := "is", desc := "(JJI)Z" } : Jvm.MethodName)) ∈ lw_all := lw_g (lw_at lw_m8 168 rfl) rfl
theorem q2059 : (Jvm.Cond.code ({ cls := "LetMill$Scope", name := "is", desc := "(JJI)Z" } : Jvm.MethodName) prog_39_method_8_code (6 : Nat) (Option.some Jvm.ClassFile.FieldType.boolean)) ∈ lw_all := lw_g (lw_at lw_m8 169 rfl) rfl
theorem q2061 : (Jvm.Cond.instanceMethod ({ cls := "LetMill$Scope", name := "found", desc := "(II)V" } : Jvm.MethodName)) ∈ lw_all := lw_g (lw_at lw_m8 171 rfl) rfl
theorem q2062 : (Jvm.Cond.selects "LetMill$Scope" ({ cls := "LetMill$Scope", name := "found", desc := "(II)V" } : Jvm.MethodName) ({ cls := "LetMill$Scope", name := "found", desc := "(II)V" } : Jvm.MethodName)) ∈ lw_all := lw_g (lw_at lw_m8 172 rfl) rfl
theorem q2063 : (Jvm.Cond.code ({ cls := "LetMill$Scope", name := "found", desc := "(II)V" } : Jvm.MethodName) prog_39_method_7_code (4 : Nat) (Option.none : Option Jvm.ClassFile.FieldType)) ∈ lw_all := lw_g (lw_at lw_m8 173 rfl) rfl
theorem q2065 : (Jvm.Cond.instanceMethod ({ cls := "LetMill$Scope", name := "declare", desc := "(II)LLetMill$TypeName;" } : Jvm.MethodName)) ∈ lw_all := lw_g (lw_at lw_m8 175 rfl) rfl
theorem q2066 : (Jvm.Cond.selects "LetMill$Scope" ({ cls := "LetMill$Scope", name := "declare", desc := "(II)LLetMill$TypeName;" } : Jvm.MethodName) ({ cls := "LetMill$Scope", name := "declare", desc := "(II)LLetMill$TypeName;" } : Jvm.MethodName)) ∈ lw_all := lw_g (lw_at lw_m8 176 rfl) rfl
theorem q2067 : (Jvm.Cond.code ({ cls := "LetMill$Scope", name := "declare", desc := "(II)LLetMill$TypeName;" } : Jvm.MethodName) prog_39_method_12_code (3 : Nat) (Option.some (Jvm.ClassFile.FieldType.object "LetMill$TypeName"))) ∈ lw_all := lw_g (lw_at lw_m8 177 rfl) rfl
theorem q2068 : (Jvm.Cond.methodLink "LetMill$Scope" (133 : Nat) ({ cls := "LetMill$Types", name := "isFull", desc := "()Z" } : Jvm.MethodName)) ∈ lw_all := lw_g (lw_at lw_m8 178 rfl) rfl
theorem q2072 : (Jvm.Cond.classLink "LetMill$Scope" (124 : Nat) "LetMill$TypeName") ∈ lw_all := lw_g (lw_at lw_m8 182 rfl) rfl
theorem q2073 : (Jvm.Cond.methodLink "LetMill$Scope" (140 : Nat) ({ cls := "LetMill$TypeName", name := "<init>", desc := "(JJII)V" } : Jvm.MethodName)) ∈ lw_all := lw_g (lw_at lw_m8 183 rfl) rfl
theorem q2074 : (Jvm.Cond.methodLink "LetMill$Scope" (143 : Nat) ({ cls := "LetMill$Types", name := "add", desc := "(JJI)LLetMill$TypeName;" } : Jvm.MethodName)) ∈ lw_all := lw_g (lw_at lw_m8 184 rfl) rfl
theorem q2076 : (Jvm.Cond.instanceMethod ({ cls := "LetMill$Scope", name := "isFull", desc := "()Z" } : Jvm.MethodName)) ∈ lw_all := lw_g (lw_at lw_m8 186 rfl) rfl
theorem q2077 : (Jvm.Cond.selects "LetMill$Scope" ({ cls := "LetMill$Scope", name := "isFull", desc := "()Z" } : Jvm.MethodName) ({ cls := "LetMill$Scope", name := "isFull", desc := "()Z" } : Jvm.MethodName)) ∈ lw_all := lw_g (lw_at lw_m8 187 rfl) rfl
theorem q2078 : (Jvm.Cond.code ({ cls := "LetMill$Scope", name := "isFull", desc := "()Z" } : Jvm.MethodName) prog_39_method_13_code (1 : Nat) (Option.some Jvm.ClassFile.FieldType.boolean)) ∈ lw_all := lw_g (lw_at lw_m8 188 rfl) rfl
theorem q2080 : (Jvm.Cond.instanceMethod ({ cls := "LetMill$Scope", name := "addName", desc := "(LLetMill$TypeName;)V" } : Jvm.MethodName)) ∈ lw_all := lw_g (lw_at lw_m8 190 rfl) rfl
theorem q2081 : (Jvm.Cond.selects "LetMill$Scope" ({ cls := "LetMill$Scope", name := "addName", desc := "(LLetMill$TypeName;)V" } : Jvm.MethodName) ({ cls := "LetMill$Scope", name := "addName", desc := "(LLetMill$TypeName;)V" } : Jvm.MethodName)) ∈ lw_all := lw_g (lw_at lw_m8 191 rfl) rfl
theorem q2082 : (Jvm.Cond.code ({ cls := "LetMill$Scope", name := "addName", desc := "(LLetMill$TypeName;)V" } : Jvm.MethodName) prog_39_method_14_code (2 : Nat) (Option.none : Option Jvm.ClassFile.FieldType)) ∈ lw_all := lw_g (lw_at lw_m8 192 rfl) rfl
theorem q2102 : (Jvm.Cond.instanceMethod ({ cls := "LetMill$Scope", name := "typeName", desc := "(I)LLetMill$TypeName;" } : Jvm.MethodName)) ∈ lw_all := lw_g (lw_at lw_m8 212 rfl) rfl
theorem q2103 : (Jvm.Cond.selects "LetMill$Scope" ({ cls := "LetMill$Scope", name := "typeName", desc := "(I)LLetMill$TypeName;" } : Jvm.MethodName) ({ cls := "LetMill$Scope", name := "typeName", desc := "(I)LLetMill$TypeName;" } : Jvm.MethodName)) ∈ lw_all := lw_g (lw_at lw_m8 213 rfl) rfl
theorem q2104 : (Jvm.Cond.code ({ cls := "LetMill$Scope", name := "typeName", desc := "(I)LLetMill$TypeName;" } : Jvm.MethodName) prog_39_method_11_code (3 : Nat) (Option.some (Jvm.ClassFile.FieldType.object "LetMill$TypeName"))) ∈ lw_all := lw_g (lw_at lw_m8 214 rfl) rfl
theorem q2105 : (Jvm.Cond.methodLink "LetMill$Scope" (112 : Nat) ({ cls := "LetMill$Row", name := "get", desc := "(I)Ljava/lang/Object;" } : Jvm.MethodName)) ∈ lw_all := lw_g (lw_at lw_m8 215 rfl) rfl
theorem q2106 : (Jvm.Cond.methodLink "LetMill$Scope" (130 : Nat) ({ cls := "LetMill$Types", name := "name", desc := "(I)LLetMill$TypeName;" } : Jvm.MethodName)) ∈ lw_all := lw_g (lw_at lw_m8 216 rfl) rfl
theorem q2110 : (Jvm.Cond.methodLink "LetMill$Scope" (116 : Nat) ({ cls := "LetMill$Scope", name := "found", desc := "(II)V" } : Jvm.MethodName)) ∈ lw_all := lw_g (lw_at lw_m8 220 rfl) rfl
theorem q2128 : (Jvm.Cond.instanceMethod ({ cls := "LetMill$Scope", name := "part", desc := "(II)J" } : Jvm.MethodName)) ∈ lw_all := lw_g (lw_at lw_m8 238 rfl) rfl
theorem q2129 : (Jvm.Cond.selects "LetMill$Scope" ({ cls := "LetMill$Scope", name := "part", desc := "(II)J" } : Jvm.MethodName) ({ cls := "LetMill$Scope", name := "part", desc := "(II)J" } : Jvm.MethodName)) ∈ lw_all := lw_g (lw_at lw_m8 239 rfl) rfl
theorem q2130 : (Jvm.Cond.code ({ cls := "LetMill$Scope", name := "part", desc := "(II)J" } : Jvm.MethodName) prog_39_method_23_code (3 : Nat) (Option.some Jvm.ClassFile.FieldType.long)) ∈ lw_all := lw_g (lw_at lw_m9 0 rfl) rfl
theorem q2136 : (Jvm.Cond.fieldLink "LetMill$Scope" (122 : Nat) "LetMill$Con" "name" "J") ∈ lw_all := lw_g (lw_at lw_m9 6 rfl) rfl
theorem q2139 : (Jvm.Cond.fieldLink "LetMill$Scope" (123 : Nat) "LetMill$Con" "more" "J") ∈ lw_all := lw_g (lw_at lw_m9 9 rfl) rfl
theorem q2146 : (Jvm.Cond.fieldLink "LetMill$Scope" (146 : Nat) "LetMill$Con" "id" "I") ∈ lw_all := lw_g (lw_at lw_m9 16 rfl) rfl
theorem q2177 : (Jvm.Cond.instanceMethod ({ cls := "LetMill$Scope", name := "number", desc := "(LLetMill$Con;)V" } : Jvm.MethodName)) ∈ lw_all := lw_g (lw_at lw_m9 47 rfl) rfl
theorem q2178 : (Jvm.Cond.selects "LetMill$Scope" ({ cls := "LetMill$Scope", name := "number", desc := "(LLetMill$Con;)V" } : Jvm.MethodName) ({ cls := "LetMill$Scope", name := "number", desc := "(LLetMill$Con;)V" } : Jvm.MethodName)) ∈ lw_all := lw_g (lw_at lw_m9 48 rfl) rfl
theorem q2179 : (Jvm.Cond.code ({ cls := "LetMill$Scope", name := "number", desc := "(LLetMill$Con;)V" } : Jvm.MethodName) prog_39_method_16_code (2 : Nat) (Option.none : Option Jvm.ClassFile.FieldType)) ∈ lw_all := lw_g (lw_at lw_m9 49 rfl) rfl
theorem q2181 : (Jvm.Cond.instanceMethod ({ cls := "LetMill$Scope", name := "addCon", desc := "(LLetMill$Con;)V" } : Jvm.MethodName)) ∈ lw_all := lw_g (lw_at lw_m9 51 rfl) rfl
theorem q2182 : (Jvm.Cond.selects "LetMill$Scope" ({ cls := "LetMill$Scope", name := "addCon", desc := "(LLetMill$Con;)V" } : Jvm.MethodName) ({ cls := "LetMill$Scope", name := "addCon", desc := "(LLetMill$Con;)V" } : Jvm.MethodName)) ∈ lw_all := lw_g (lw_at lw_m9 52 rfl) rfl
theorem q2183 : (Jvm.Cond.code ({ cls := "LetMill$Scope", name := "addCon", desc := "(LLetMill$Con;)V" } : Jvm.MethodName) prog_39_method_15_code (2 : Nat) (Option.none : Option Jvm.ClassFile.FieldType)) ∈ lw_all := lw_g (lw_at lw_m9 53 rfl) rfl
theorem q2193 : (Jvm.Cond.instanceMethod ({ cls := "LetMill$Scope", name := "bind", desc := "(II)LLetMill$Binding;" } : Jvm.MethodName)) ∈ lw_all := lw_g (lw_at lw_m9 63 rfl) rfl
theorem q2194 : (Jvm.Cond.selects "LetMill$Scope" ({ cls := "LetMill$Scope", name := "bind", desc := "(II)LLetMill$Binding;" } : Jvm.MethodName) ({ cls := "LetMill$Scope", name := "bind", desc := "(II)LLetMill$Binding;" } : Jvm.MethodName)) ∈ lw_all := lw_g (lw_at lw_m9 64 rfl) rfl
theorem q2195 : (Jvm.Cond.code ({ cls := "LetMill$Scope", name := "bind", desc := "(II)LLetMill$Binding;" } : Jvm.MethodName) prog_39_method_24_code (5 : Nat) (Option.some (Jvm.ClassFile.FieldType.object "LetMill$Binding"))) ∈ lw_all := lw_g (lw_at lw_m9 65 rfl) rfl
theorem q2204 : (Jvm.Cond.instanceMethod ({ cls := "LetMill$Scope", name := "clause", desc := "(LLetMill$Clause;)V" } : Jvm.MethodName)) ∈ lw_all := lw_g (lw_at lw_m9 74 rfl) rfl
theorem q2205 : (Jvm.Cond.selects "LetMill$Scope" ({ cls := "LetMill$Scope", name := "clause", desc := "(LLetMill$Clause;)V" } : Jvm.MethodName) ({ cls := "LetMill$Scope", name := "clause", desc := "(LLetMill$Clause;)V" } : Jvm.MethodName)) ∈ lw_all := lw_g (lw_at lw_m9 75 rfl) rfl
theorem q2206 : (Jvm.Cond.code ({ cls := "LetMill$Scope", name := "clause", desc := "(LLetMill$Clause;)V" } : Jvm.MethodName) prog_39_method_28_code (4 : Nat) (Option.none : Option Jvm.ClassFile.FieldType)) ∈ lw_all := lw_g (lw_at lw_m9 76 rfl) rfl
theorem q2207 : (Jvm.Cond.methodLink "LetMill$Scope" (159 : Nat) ({ cls := "LetMill$Pat", name := "resolveFrom", desc := "(LLetMill$Scope;I)V" } : Jvm.MethodName)) ∈ lw_all := lw_g (lw_at lw_m9 77 rfl) rfl
theorem q2217 : (Jvm.Cond.instanceMethod ({ cls := "LetMill$Scope", name := "con", desc := "(I)LLetMill$Con;" } : Jvm.MethodName)) ∈ lw_all := lw_g (lw_at lw_m9 87 rfl) rfl
theorem q2218 : (Jvm.Cond.selects "LetMill$Scope" ({ cls := "LetMill$Scope", name := "con", desc := "(I)LLetMill$Con;" } : Jvm.MethodName) ({ cls := "LetMill$Scope", name := "con", desc := "(I)LLetMill$Con;" } : Jvm.MethodName)) ∈ lw_all := lw_g (lw_at lw_m9 88 rfl) rfl
theorem q2219 : (Jvm.Cond.code ({ cls := "LetMill$Scope", name := "con", desc := "(I)LLetMill$Con;" } : Jvm.MethodName) prog_39_method_10_code (3 : Nat) (Option.some (Jvm.ClassFile.FieldType.object "LetMill$Con"))) ∈ lw_all := lw_g (lw_at lw_m9 89 rfl) rfl
theorem q2220 : (Jvm.Cond.classLink "LetMill$Scope" (120 : Nat) "LetMill$Con") ∈ lw_all := lw_g (lw_at lw_m9 90 rfl) rfl
theorem q2249 : (Jvm.Cond.methodLink "LetMill$Scope" (169 : Nat) ({ cls := "LetMill$Exp", name := "resolve", desc := "(LLetMill$Scope;)V" } : Jvm.MethodName)) ∈ lw_all := lw_g (lw_at lw_m9 119 rfl) rfl
theorem q2285 : (Jvm.Cond.instanceMethod ({ cls := "LetMill$Scope", name := "name", desc := "(I)LLetMill$Binding;" } : Jvm.MethodName)) ∈ lw_all := lw_g (lw_at lw_m9 155 rfl) rfl
theorem q2286 : (Jvm.Cond.selects "LetMill$Scope" ({ cls := "LetMill$Scope", name := "name", desc := "(I)LLetMill$Binding;" } : Jvm.MethodName) ({ cls := "LetMill$Scope", name := "name", desc := "(I)LLetMill$Binding;" } : Jvm.MethodName)) ∈ lw_all := lw_g (lw_at lw_m9 156 rfl) rfl
theorem q2287 : (Jvm.Cond.code ({ cls := "LetMill$Scope", name := "name", desc := "(I)LLetMill$Binding;" } : Jvm.MethodName) prog_39_method_9_code (3 : Nat) (Option.some (Jvm.ClassFile.FieldType.object "LetMill$Binding"))) ∈ lw_all := lw_g (lw_at lw_m9 157 rfl) rfl
theorem q2307 : (Jvm.Cond.methodLink "LetMill$Scope" (175 : Nat) ({ cls := "LetMill$Scope", name := "back", desc := "(I)V" } : Jvm.MethodName)) ∈ lw_all := lw_g (lw_at lw_m9 177 rfl) rfl
theorem q2308 : (Jvm.Cond.instanceMethod ({ cls := "LetMill$Scope", name := "back", desc := "(I)V" } : Jvm.MethodName)) ∈ lw_all := lw_g (lw_at lw_m9 178 rfl) rfl
theorem q2309 : (Jvm.Cond.selects "LetMill$Scope" ({ cls := "LetMill$Scope", name := "back", desc := "(I)V" } : Jvm.MethodName) ({ cls := "LetMill$Scope", name := "back", desc := "(I)V" } : Jvm.MethodName)) ∈ lw_all := lw_g (lw_at lw_m9 179 rfl) rfl
theorem q2310 : (Jvm.Cond.code ({ cls := "LetMill$Scope", name := "back", desc := "(I)V" } : Jvm.MethodName) prog_39_method_26_code (2 : Nat) (Option.none : Option Jvm.ClassFile.FieldType)) ∈ lw_all := lw_g (lw_at lw_m9 180 rfl) rfl
theorem q2319 : (Jvm.Cond.instanceMethod ({ cls := "LetMill$Scope", name := "backTypes", desc := "(II)V" } : Jvm.MethodName)) ∈ lw_all := lw_g (lw_at lw_m9 189 rfl) rfl
theorem q2320 : (Jvm.Cond.selects "LetMill$Scope" ({ cls := "LetMill$Scope", name := "backTypes", desc := "(II)V" } : Jvm.MethodName) ({ cls := "LetMill$Scope", name := "backTypes", desc := "(II)V" } : Jvm.MethodName)) ∈ lw_all := lw_g (lw_at lw_m9 190 rfl) rfl
theorem q2321 : (Jvm.Cond.code ({ cls := "LetMill$Scope", name := "backTypes", desc := "(II)V" } : Jvm.MethodName) prog_39_method_27_code (3 : Nat) (Option.none : Option Jvm.ClassFile.FieldType)) ∈ lw_all := lw_g (lw_at lw_m9 191 rfl) rfl
theorem q2801 : (Jvm.Cond.instanceMethod ({ cls := "LetMill$Scope", name := "bound", desc := "(I)LLetMill$Binding;" } : Jvm.MethodName)) ∈ lw_all := lw_g (lw_at lw_m11 191 rfl) rfl
theorem q2802 : (Jvm.Cond.selects "LetMill$Scope" ({ cls := "LetMill$Scope", name := "bound", desc := "(I)LLetMill$Binding;" } : Jvm.MethodName) ({ cls := "LetMill$Scope", name := "bound", desc := "(I)LLetMill$Binding;" } : Jvm.MethodName)) ∈ lw_all := lw_g (lw_at lw_m11 192 rfl) rfl
theorem q2803 : (Jvm.Cond.code ({ cls := "LetMill$Scope", name := "bound", desc := "(I)LLetMill$Binding;" } : Jvm.MethodName) prog_39_method_25_code (2 : Nat) (Option.some (Jvm.ClassFile.FieldType.object "LetMill$Binding"))) ∈ lw_all := lw_g (lw_at lw_m11 193 rfl) rfl
theorem q2828 : (Jvm.Cond.instanceMethod ({ cls := "LetMill$Scope", name := "typeAt", desc := "(I)LLetMill$TypeName;" } : Jvm.MethodName)) ∈ lw_all := lw_g (lw_at lw_m11 218 rfl) rfl
theorem q2829 : (Jvm.Cond.selects "LetMill$Scope" ({ cls := "LetMill$Scope", name := "typeAt", desc := "(I)LLetMill$TypeName;" } : Jvm.MethodName) ({ cls := "LetMill$Scope", name := "typeAt", desc := "(I)LLetMill$TypeName;" } : Jvm.MethodName)) ∈ lw_all := lw_g (lw_at lw_m11 219 rfl) rfl
theorem q2830 : (Jvm.Cond.code ({ cls := "LetMill$Scope", name := "typeAt", desc := "(I)LLetMill$TypeName;" } : Jvm.MethodName) prog_39_method_18_code (2 : Nat) (Option.some (Jvm.ClassFile.FieldType.object "LetMill$TypeName"))) ∈ lw_all := lw_g (lw_at lw_m11 220 rfl) rfl
theorem q2833 : (Jvm.Cond.instanceMethod ({ cls := "LetMill$Scope", name := "conAt", desc := "(I)LLetMill$Con;" } : Jvm.MethodName)) ∈ lw_all := lw_g (lw_at lw_m11 223 rfl) rfl
theorem q2834 : (Jvm.Cond.selects "LetMill$Scope" ({ cls := "LetMill$Scope", name := "conAt", desc := "(I)LLetMill$Con;" } : Jvm.MethodName) ({ cls := "LetMill$Scope", name := "conAt", desc := "(I)LLetMill$Con;" } : Jvm.MethodName)) ∈ lw_all := lw_g (lw_at lw_m11 224 rfl) rfl
theorem q2835 : (Jvm.Cond.code ({ cls := "LetMill$Scope", name := "conAt", desc := "(I)LLetMill$Con;" } : Jvm.MethodName) prog_39_method_17_code (2 : Nat) (Option.some (Jvm.ClassFile.FieldType.object "LetMill$Con"))) ∈ lw_all := lw_g (lw_at lw_m11 225 rfl) rfl
theorem q2837 : (Jvm.Cond.instanceMethod ({ cls := "LetMill$Scope", name := "forget", desc := "()V" } : Jvm.MethodName)) ∈ lw_all := lw_g (lw_at lw_m11 227 rfl) rfl
theorem q2838 : (Jvm.Cond.selects "LetMill$Scope" ({ cls := "LetMill$Scope", name := "forget", desc := "()V" } : Jvm.MethodName) ({ cls := "LetMill$Scope", name := "forget", desc := "()V" } : Jvm.MethodName)) ∈ lw_all := lw_g (lw_at lw_m11 228 rfl) rfl
theorem q2839 : (Jvm.Cond.code ({ cls := "LetMill$Scope", name := "forget", desc := "()V" } : Jvm.MethodName) prog_39_method_6_code (1 : Nat) (Option.none : Option Jvm.ClassFile.FieldType)) ∈ lw_all := lw_g (lw_at lw_m11 229 rfl) rfl
theorem q2849 : (Jvm.Cond.instanceMethod ({ cls := "LetMill$Scope", name := "drop", desc := "()V" } : Jvm.MethodName)) ∈ lw_all := lw_g (lw_at lw_m11 239 rfl) rfl
theorem q2850 : (Jvm.Cond.selects "LetMill$Scope" ({ cls := "LetMill$Scope", name := "drop", desc := "()V" } : Jvm.MethodName) ({ cls := "LetMill$Scope", name := "drop", desc := "()V" } : Jvm.MethodName)) ∈ lw_all := lw_g (lw_at lw_m12 0 rfl) rfl
theorem q2851 : (Jvm.Cond.code ({ cls := "LetMill$Scope", name := "drop", desc := "()V" } : Jvm.MethodName) prog_39_method_5_code (1 : Nat) (Option.none : Option Jvm.ClassFile.FieldType)) ∈ lw_all := lw_g (lw_at lw_m12 1 rfl) rfl
theorem q2852 : (Jvm.Cond.methodLink "LetMill$Scope" (85 : Nat) ({ cls := "LetMill$Scope", name := "forget", desc := "()V" } : Jvm.MethodName)) ∈ lw_all := lw_g (lw_at lw_m12 2 rfl) rfl
theorem q3294 : (Jvm.Cond.instanceMethod ({ cls := "LetMill$Scope", name := "keep", desc := "(LLetMill$Binding;)V" } : Jvm.MethodName)) ∈ lw_all := lw_g (lw_at lw_m13 204 rfl) rfl
theorem q3295 : (Jvm.Cond.selects "LetMill$Scope" ({ cls := "LetMill$Scope", name := "keep", desc := "(LLetMill$Binding;)V" } : Jvm.MethodName) ({ cls := "LetMill$Scope", name := "keep", desc := "(LLetMill$Binding;)V" } : Jvm.MethodName)) ∈ lw_all := lw_g (lw_at lw_m13 205 rfl) rfl
theorem q3296 : (Jvm.Cond.code ({ cls := "LetMill$Scope", name := "keep", desc := "(LLetMill$Binding;)V" } : Jvm.MethodName) prog_39_method_19_code (5 : Nat) (Option.none : Option Jvm.ClassFile.FieldType)) ∈ lw_all := lw_g (lw_at lw_m13 206 rfl) rfl
theorem q3297 : (Jvm.Cond.methodLink "LetMill$Scope" (149 : Nat) ({ cls := "LetMill$Row", name := "set", desc := "(ILjava/lang/Object;)V" } : Jvm.MethodName)) ∈ lw_all := lw_g (lw_at lw_m13 207 rfl) rfl
def RX10 : String := "LetMill$Matches"
abbrev cX10_init : ByteArray := prog_29_method_1_code
def yX10_init : MethodName := ⟨RX10, "<init>", "()V"⟩
abbrev cX10_begin : ByteArray := prog_29_method_2_code
def yX10_begin : MethodName := ⟨RX10, "begin", "()V"⟩
abbrev cX10_check : ByteArray := prog_29_method_12_code
def yX10_check : MethodName := ⟨RX10, "check", "(LLetMill$Row;LLetMill$Tokens;I)V"⟩
abbrev cX10_reset : ByteArray := prog_29_method_3_code
def yX10_reset : MethodName := ⟨RX10, "reset", "()V"⟩
abbrev cX10_node : ByteArray := prog_29_method_5_code
def yX10_node : MethodName := ⟨RX10, "node", "(II)I"⟩
abbrev cX10_node_2 : ByteArray := prog_29_method_4_code
def yX10_node_2 : MethodName := ⟨RX10, "node", "(II[III)I"⟩
abbrev cX10_tuple : ByteArray := prog_29_method_8_code
def yX10_tuple : MethodName := ⟨RX10, "tuple", "([LLetMill$Pat;)I"⟩
abbrev cX10_pair : ByteArray := prog_29_method_6_code
def yX10_pair : MethodName := ⟨RX10, "pair", "(II)I"⟩
abbrev cX10_one : ByteArray := prog_29_method_7_code
def yX10_one : MethodName := ⟨RX10, "one", "(III)I"⟩
abbrev cX10_isUseful : ByteArray := prog_29_method_15_code
def yX10_isUseful : MethodName := ⟨RX10, "isUseful", "(IIII)Z"⟩
abbrev cX10_isUsefulFor : ByteArray := prog_29_method_17_code
def yX10_isUsefulFor : MethodName := ⟨RX10, "isUsefulFor", "(IIIIII)Z"⟩
abbrev cX10_laid : ByteArray := prog_29_method_18_code
def yX10_laid : MethodName := ⟨RX10, "laid", "(IIIII)I"⟩
abbrev cX10_isUsefulElse : ByteArray := prog_29_method_19_code
def yX10_isUsefulElse : MethodName := ⟨RX10, "isUsefulElse", "(IIIII)Z"⟩
abbrev cX10_withHead : ByteArray := prog_29_method_16_code
def yX10_withHead : MethodName := ⟨RX10, "withHead", "(IIII)I"⟩
abbrev cX10_warn : ByteArray := prog_29_method_9_code
def yX10_warn : MethodName := ⟨RX10, "warn", "(II)V"⟩
abbrev cX10_open : ByteArray := prog_29_method_14_code
def yX10_open : MethodName := ⟨RX10, "open", "(III)V"⟩
abbrev cX10_check_2 : ByteArray := prog_29_method_13_code
def yX10_check_2 : MethodName := ⟨RX10, "check", "(LLetMill$Pat;LLetMill$Tokens;I)V"⟩
abbrev cX10_place : ByteArray := prog_29_method_10_code
def yX10_place : MethodName := ⟨RX10, "place", "(I)I"⟩
abbrev cX10_what : ByteArray := prog_29_method_11_code
def yX10_what : MethodName := ⟨RX10, "what", "(I)I"⟩
theorem q224 : (Jvm.Cond.initialized "LetMill$Matches") ∈ lw_all := lw_g (lw_at lw_m1 14 rfl) rfl
theorem q331 : (Jvm.Cond.fieldLink "LetMill$Matches" (78 : Nat) "LetMill$Tokens" "from" "[I") ∈ lw_all := lw_g (lw_at lw_m1 121 rfl) rfl
theorem q579 : (Jvm.Cond.fieldLink "LetMill$Matches" (72 : Nat) "LetMill$Row" "many" "I") ∈ lw_all := lw_g (lw_at lw_m2 129 rfl) rfl
theorem q745 : (Jvm.Cond.instantiable "LetMill$Matches" (12 : Nat)) ∈ lw_all := lw_g (lw_at lw_m3 55 rfl) rfl
theorem q747 : (Jvm.Cond.instanceMethod ({ cls := "LetMill$Matches", name := "<init>", desc := "()V" } : Jvm.MethodName)) ∈ lw_all := lw_g (lw_at lw_m3 57 rfl) rfl
theorem q748 : (Jvm.Cond.code ({ cls := "LetMill$Matches", name := "<init>", desc := "()V" } : Jvm.MethodName) prog_29_method_1_code (1 : Nat) (Option.none : Option Jvm.ClassFile.FieldType)) ∈ lw_all := lw_g (lw_at lw_m3 58 rfl) rfl
theorem q749 : (Jvm.Cond.methodLink "LetMill$Matches" (1 : Nat) ({ cls := "java/lang/Object", name := "<init>", desc := "()V" } : Jvm.MethodName)) ∈ lw_all := lw_g (lw_at lw_m3 59 rfl) rfl
theorem q750 : (Jvm.Cond.constant "LetMill$Matches" (25 : Nat) (220000 : Int32)) ∈ lw_all := lw_g (lw_at lw_m3 60 rfl) rfl
theorem q751 : (Jvm.Cond.fieldLink "LetMill$Matches" (9 : Nat) "LetMill$Matches" "head" "[I") ∈ lw_all := lw_g (lw_at lw_m3 61 rfl) rfl
theorem q752 : (Jvm.Cond.fieldLink "LetMill$Matches" (13 : Nat) "LetMill$Matches" "all" "[I") ∈ lw_all := lw_g (lw_at lw_m3 62 rfl) rfl
theorem q753 : (Jvm.Cond.fieldLink "LetMill$Matches" (16 : Nat) "LetMill$Matches" "first" "[I") ∈ lw_all := lw_g (lw_at lw_m3 63 rfl) rfl
theorem q754 : (Jvm.Cond.fieldLink "LetMill$Matches" (19 : Nat) "LetMill$Matches" "many" "[I") ∈ lw_all := lw_g (lw_at lw_m3 64 rfl) rfl
theorem q755 : (Jvm.Cond.fieldLink "LetMill$Matches" (22 : Nat) "LetMill$Matches" "part" "[I") ∈ lw_all := lw_g (lw_at lw_m3 65 rfl) rfl
theorem q756 : (Jvm.Cond.fieldLink "LetMill$Matches" (42 : Nat) "LetMill$Matches" "nodes" "I") ∈ lw_all := lw_g (lw_at lw_m3 66 rfl) rfl
theorem q757 : (Jvm.Cond.fieldLink "LetMill$Matches" (45 : Nat) "LetMill$Matches" "parts" "I") ∈ lw_all := lw_g (lw_at lw_m3 67 rfl) rfl
theorem q758 : (Jvm.Cond.fieldLink "LetMill$Matches" (26 : Nat) "LetMill$Matches" "pile" "[I") ∈ lw_all := lw_g (lw_at lw_m3 68 rfl) rfl
theorem q759 : (Jvm.Cond.fieldLink "LetMill$Matches" (29 : Nat) "LetMill$Matches" "warnedAt" "[I") ∈ lw_all := lw_g (lw_at lw_m3 69 rfl) rfl
theorem q760 : (Jvm.Cond.fieldLink "LetMill$Matches" (32 : Nat) "LetMill$Matches" "warnedOf" "[I") ∈ lw_all := lw_g (lw_at lw_m3 70 rfl) rfl
theorem q761 : (Jvm.Cond.fieldLink "LetMill$Matches" (38 : Nat) "LetMill$Matches" "warnings" "I") ∈ lw_all := lw_g (lw_at lw_m3 71 rfl) rfl
theorem q763 : (Jvm.Cond.fieldLink "LetMill$Matches" (35 : Nat) "LetMill$Matches" "shape" "[I") ∈ lw_all := lw_g (lw_at lw_m3 73 rfl) rfl
theorem q764 : (Jvm.Cond.laysFinal "LetMill$Matches" "LetMill$Matches" "head" "[I") ∈ lw_all := lw_g (lw_at lw_m3 74 rfl) rfl
theorem q766 : (Jvm.Cond.laysFinal "LetMill$Matches" "LetMill$Matches" "all" "[I") ∈ lw_all := lw_g (lw_at lw_m3 76 rfl) rfl
theorem q768 : (Jvm.Cond.laysFinal "LetMill$Matches" "LetMill$Matches" "first" "[I") ∈ lw_all := lw_g (lw_at lw_m3 78 rfl) rfl
theorem q770 : (Jvm.Cond.laysFinal "LetMill$Matches" "LetMill$Matches" "many" "[I") ∈ lw_all := lw_g (lw_at lw_m3 80 rfl) rfl
theorem q772 : (Jvm.Cond.laysFinal "LetMill$Matches" "LetMill$Matches" "part" "[I") ∈ lw_all := lw_g (lw_at lw_m3 82 rfl) rfl
theorem q774 : (Jvm.Cond.lays "LetMill$Matches" "LetMill$Matches" "nodes" "I") ∈ lw_all := lw_g (lw_at lw_m3 84 rfl) rfl
theorem q776 : (Jvm.Cond.lays "LetMill$Matches" "LetMill$Matches" "parts" "I") ∈ lw_all := lw_g (lw_at lw_m3 86 rfl) rfl
theorem q778 : (Jvm.Cond.lays "LetMill$Matches" "LetMill$Matches" "pile" "[I") ∈ lw_all := lw_g (lw_at lw_m3 88 rfl) rfl
theorem q780 : (Jvm.Cond.laysFinal "LetMill$Matches" "LetMill$Matches" "warnedAt" "[I") ∈ lw_all := lw_g (lw_at lw_m3 90 rfl) rfl
theorem q782 : (Jvm.Cond.laysFinal "LetMill$Matches" "LetMill$Matches" "warnedOf" "[I") ∈ lw_all := lw_g (lw_at lw_m3 92 rfl) rfl
theorem q784 : (Jvm.Cond.lays "LetMill$Matches" "LetMill$Matches" "warnings" "I") ∈ lw_all := lw_g (lw_at lw_m3 94 rfl) rfl
theorem q786 : (Jvm.Cond.laysFinal "LetMill$Matches" "LetMill$Matches" "shape" "[I") ∈ lw_all := lw_g (lw_at lw_m3 96 rfl) rfl
theorem q1262 : (Jvm.Cond.instanceMethod ({ cls := "LetMill$Matches", name := "begin", desc := "()V" } : Jvm.MethodName)) ∈ lw_all := lw_g (lw_at lw_m5 92 rfl) rfl
theorem q1263 : (Jvm.Cond.selects "LetMill$Matches" ({ cls := "LetMill$Matches", name := "begin", desc := "()V" } : Jvm.MethodName) ({ cls := "LetMill$Matches", name := "begin", desc := "()V" } : Jvm.MethodName)) ∈ lw_all := lw_g (lw_at lw_m5 93 rfl) rfl
theorem q1264 : (Jvm.Cond.code ({ cls := "LetMill$Matches", name := "begin", desc := "()V" } : Jvm.MethodName) prog_29_method_2_code (1 : Nat) (Option.none : Option Jvm.ClassFile.FieldType)) ∈ lw_all := lw_g (lw_at lw_m5 94 rfl) rfl
theorem q1493 : (Jvm.Cond.fieldLink "LetMill$Matches" (83 : Nat) "LetMill$Clause" "token" "I") ∈ lw_all := lw_g (lw_at lw_m6 83 rfl) rfl
theorem q1497 : (Jvm.Cond.fieldLink "LetMill$Matches" (66 : Nat) "LetMill$Clause" "pats" "[LLetMill$Pat;") ∈ lw_all := lw_g (lw_at lw_m6 87 rfl) rfl
theorem q2534 : (Jvm.Cond.instanceMethod ({ cls := "LetMill$Matches", name := "check", desc := "(LLetMill$Row;LLetMill$Tokens;I)V" } : Jvm.MethodName)) ∈ lw_all := lw_g (lw_at lw_m10 164 rfl) rfl
theorem q2535 : (Jvm.Cond.selects "LetMill$Matches" ({ cls := "LetMill$Matches", name := "check", desc := "(LLetMill$Row;LLetMill$Tokens;I)V" } : Jvm.MethodName) ({ cls := "LetMill$Matches", name := "check", desc := "(LLetMill$Row;LLetMill$Tokens;I)V" } : Jvm.MethodName)) ∈ lw_all := lw_g (lw_at lw_m10 165 rfl) rfl
theorem q2536 : (Jvm.Cond.code ({ cls := "LetMill$Matches", name := "check", desc := "(LLetMill$Row;LLetMill$Tokens;I)V" } : Jvm.MethodName) prog_29_method_12_code (10 : Nat) (Option.none : Option Jvm.ClassFile.FieldType)) ∈ lw_all := lw_g (lw_at lw_m10 166 rfl) rfl
theorem q2537 : (Jvm.Cond.methodLink "LetMill$Matches" (57 : Nat) ({ cls := "LetMill$Matches", name := "reset", desc := "()V" } : Jvm.MethodName)) ∈ lw_all := lw_g (lw_at lw_m10 167 rfl) rfl
theorem q2539 : (Jvm.Cond.instanceMethod ({ cls := "LetMill$Matches", name := "reset", desc := "()V" } : Jvm.MethodName)) ∈ lw_all := lw_g (lw_at lw_m10 169 rfl) rfl
theorem q2540 : (Jvm.Cond.code ({ cls := "LetMill$Matches", name := "reset", desc := "()V" } : Jvm.MethodName) prog_29_method_3_code (1 : Nat) (Option.none : Option Jvm.ClassFile.FieldType)) ∈ lw_all := lw_g (lw_at lw_m10 170 rfl) rfl
theorem q2541 : (Jvm.Cond.methodLink "LetMill$Matches" (60 : Nat) ({ cls := "LetMill$Row", name := "clause", desc := "(I)LLetMill$Clause;" } : Jvm.MethodName)) ∈ lw_all := lw_g (lw_at lw_m10 171 rfl) rfl
theorem q2542 : (Jvm.Cond.methodLink "LetMill$Matches" (52 : Nat) ({ cls := "LetMill$Pat", name := "shape", desc := "(LLetMill$Matches;)I" } : Jvm.MethodName)) ∈ lw_all := lw_g (lw_at lw_m10 172 rfl) rfl
theorem q2552 : (Jvm.Cond.instanceMethod ({ cls := "LetMill$Matches", name := "node", desc := "(II)I" } : Jvm.MethodName)) ∈ lw_all := lw_g (lw_at lw_m10 182 rfl) rfl
theorem q2553 : (Jvm.Cond.selects "LetMill$Matches" ({ cls := "LetMill$Matches", name := "node", desc := "(II)I" } : Jvm.MethodName) ({ cls := "LetMill$Matches", name := "node", desc := "(II)I" } : Jvm.MethodName)) ∈ lw_all := lw_g (lw_at lw_m10 183 rfl) rfl
theorem q2554 : (Jvm.Cond.code ({ cls := "LetMill$Matches", name := "node", desc := "(II)I" } : Jvm.MethodName) prog_29_method_5_code (3 : Nat) (Option.some Jvm.ClassFile.FieldType.int)) ∈ lw_all := lw_g (lw_at lw_m10 184 rfl) rfl
theorem q2555 : (Jvm.Cond.methodLink "LetMill$Matches" (48 : Nat) ({ cls := "LetMill$Matches", name := "node", desc := "(II[III)I" } : Jvm.MethodName)) ∈ lw_all := lw_g (lw_at lw_m10 185 rfl) rfl
theorem q2556 : (Jvm.Cond.instanceMethod ({ cls := "LetMill$Matches", name := "node", desc := "(II[III)I" } : Jvm.MethodName)) ∈ lw_all := lw_g (lw_at lw_m10 186 rfl) rfl
theorem q2557 : (Jvm.Cond.selects "LetMill$Matches" ({ cls := "LetMill$Matches", name := "node", desc := "(II[III)I" } : Jvm.MethodName) ({ cls := "LetMill$Matches", name := "node", desc := "(II[III)I" } : Jvm.MethodName)) ∈ lw_all := lw_g (lw_at lw_m10 187 rfl) rfl
theorem q2558 : (Jvm.Cond.code ({ cls := "LetMill$Matches", name := "node", desc := "(II[III)I" } : Jvm.MethodName) prog_29_method_4_code (7 : Nat) (Option.some Jvm.ClassFile.FieldType.int)) ∈ lw_all := lw_g (lw_at lw_m10 188 rfl) rfl
theorem q2578 : (Jvm.Cond.instanceMethod ({ cls := "LetMill$Matches", name := "tuple", desc := "([LLetMill$Pat;)I" } : Jvm.MethodName)) ∈ lw_all := lw_g (lw_at lw_m10 208 rfl) rfl
theorem q2579 : (Jvm.Cond.selects "LetMill$Matches" ({ cls := "LetMill$Matches", name := "tuple", desc := "([LLetMill$Pat;)I" } : Jvm.MethodName) ({ cls := "LetMill$Matches", name := "tuple", desc := "([LLetMill$Pat;)I" } : Jvm.MethodName)) ∈ lw_all := lw_g (lw_at lw_m10 209 rfl) rfl
theorem q2580 : (Jvm.Cond.code ({ cls := "LetMill$Matches", name := "tuple", desc := "([LLetMill$Pat;)I" } : Jvm.MethodName) prog_29_method_8_code (4 : Nat) (Option.some Jvm.ClassFile.FieldType.int)) ∈ lw_all := lw_g (lw_at lw_m10 210 rfl) rfl
theorem q2585 : (Jvm.Cond.instanceMethod ({ cls := "LetMill$Matches", name := "pair", desc := "(II)I" } : Jvm.MethodName)) ∈ lw_all := lw_g (lw_at lw_m10 215 rfl) rfl
theorem q2586 : (Jvm.Cond.selects "LetMill$Matches" ({ cls := "LetMill$Matches", name := "pair", desc := "(II)I" } : Jvm.MethodName) ({ cls := "LetMill$Matches", name := "pair", desc := "(II)I" } : Jvm.MethodName)) ∈ lw_all := lw_g (lw_at lw_m10 216 rfl) rfl
theorem q2587 : (Jvm.Cond.code ({ cls := "LetMill$Matches", name := "pair", desc := "(II)I" } : Jvm.MethodName) prog_29_method_6_code (3 : Nat) (Option.some Jvm.ClassFile.FieldType.int)) ∈ lw_all := lw_g (lw_at lw_m10 217 rfl) rfl
theorem q2590 : (Jvm.Cond.instanceMethod ({ cls := "LetMill$Matches", name := "one", desc := "(III)I" } : Jvm.MethodName)) ∈ lw_all := lw_g (lw_at lw_m10 220 rfl) rfl
theorem q2591 : (Jvm.Cond.selects "LetMill$Matches" ({ cls := "LetMill$Matches", name := "one", desc := "(III)I" } : Jvm.MethodName) ({ cls := "LetMill$Matches", name := "one", desc := "(III)I" } : Jvm.MethodName)) ∈ lw_all := lw_g (lw_at lw_m10 221 rfl) rfl
theorem q2592 : (Jvm.Cond.code ({ cls := "LetMill$Matches", name := "one", desc := "(III)I" } : Jvm.MethodName) prog_29_method_7_code (4 : Nat) (Option.some Jvm.ClassFile.FieldType.int)) ∈ lw_all := lw_g (lw_at lw_m10 222 rfl) rfl
theorem q2600 : (Jvm.Cond.methodLink "LetMill$Matches" (74 : Nat) ({ cls := "LetMill$Matches", name := "isUseful", desc := "(IIII)Z" } : Jvm.MethodName)) ∈ lw_all := lw_g (lw_at lw_m10 230 rfl) rfl
theorem q2602 : (Jvm.Cond.instanceMethod ({ cls := "LetMill$Matches", name := "isUseful", desc := "(IIII)Z" } : Jvm.MethodName)) ∈ lw_all := lw_g (lw_at lw_m10 232 rfl) rfl
theorem q2603 : (Jvm.Cond.code ({ cls := "LetMill$Matches", name := "isUseful", desc := "(IIII)Z" } : Jvm.MethodName) prog_29_method_15_code (14 : Nat) (Option.some Jvm.ClassFile.FieldType.boolean)) ∈ lw_all := lw_g (lw_at lw_m10 233 rfl) rfl
theorem q2604 : (Jvm.Cond.methodLink "LetMill$Matches" (94 : Nat) ({ cls := "LetMill$Matches", name := "isUsefulFor", desc := "(IIIIII)Z" } : Jvm.MethodName)) ∈ lw_all := lw_g (lw_at lw_m10 234 rfl) rfl
theorem q2606 : (Jvm.Cond.instanceMethod ({ cls := "LetMill$Matches", name := "isUsefulFor", desc := "(IIIIII)Z" } : Jvm.MethodName)) ∈ lw_all := lw_g (lw_at lw_m10 236 rfl) rfl
theorem q2607 : (Jvm.Cond.code ({ cls := "LetMill$Matches", name := "isUsefulFor", desc := "(IIIIII)Z" } : Jvm.MethodName) prog_29_method_17_code (12 : Nat) (Option.some Jvm.ClassFile.FieldType.boolean)) ∈ lw_all := lw_g (lw_at lw_m10 237 rfl) rfl
theorem q2608 : (Jvm.Cond.methodLink "LetMill$Matches" (106 : Nat) ({ cls := "LetMill$Matches", name := "laid", desc := "(IIIII)I" } : Jvm.MethodName)) ∈ lw_all := lw_g (lw_at lw_m10 238 rfl) rfl
theorem q2610 : (Jvm.Cond.instanceMethod ({ cls := "LetMill$Matches", name := "laid", desc := "(IIIII)I" } : Jvm.MethodName)) ∈ lw_all := lw_g (lw_at lw_m11 0 rfl) rfl
theorem q2611 : (Jvm.Cond.code ({ cls := "LetMill$Matches", name := "laid", desc := "(IIIII)I" } : Jvm.MethodName) prog_29_method_18_code (8 : Nat) (Option.some Jvm.ClassFile.FieldType.int)) ∈ lw_all := lw_g (lw_at lw_m11 1 rfl) rfl
theorem q2612 : (Jvm.Cond.methodLink "LetMill$Matches" (98 : Nat) ({ cls := "LetMill$Matches", name := "isUsefulElse", desc := "(IIIII)Z" } : Jvm.MethodName)) ∈ lw_all := lw_g (lw_at lw_m11 2 rfl) rfl
theorem q2614 : (Jvm.Cond.instanceMethod ({ cls := "LetMill$Matches", name := "isUsefulElse", desc := "(IIIII)Z" } : Jvm.MethodName)) ∈ lw_all := lw_g (lw_at lw_m11 4 rfl) rfl
theorem q2615 : (Jvm.Cond.code ({ cls := "LetMill$Matches", name := "isUsefulElse", desc := "(IIIII)Z" } : Jvm.MethodName) prog_29_method_19_code (9 : Nat) (Option.some Jvm.ClassFile.FieldType.boolean)) ∈ lw_all := lw_g (lw_at lw_m11 5 rfl) rfl
theorem q2616 : (Jvm.Cond.methodLink "LetMill$Matches" (102 : Nat) ({ cls := "LetMill$Matches", name := "withHead", desc := "(IIII)I" } : Jvm.MethodName)) ∈ lw_all := lw_g (lw_at lw_m11 6 rfl) rfl
theorem q2618 : (Jvm.Cond.instanceMethod ({ cls := "LetMill$Matches", name := "withHead", desc := "(IIII)I" } : Jvm.MethodName)) ∈ lw_all := lw_g (lw_at lw_m11 8 rfl) rfl
theorem q2619 : (Jvm.Cond.code ({ cls := "LetMill$Matches", name := "withHead", desc := "(IIII)I" } : Jvm.MethodName) prog_29_method_16_code (7 : Nat) (Option.some Jvm.ClassFile.FieldType.int)) ∈ lw_all := lw_g (lw_at lw_m11 9 rfl) rfl
theorem q2620 : (Jvm.Cond.methodLink "LetMill$Matches" (86 : Nat) ({ cls := "LetMill$Matches", name := "warn", desc := "(II)V" } : Jvm.MethodName)) ∈ lw_all := lw_g (lw_at lw_m11 10 rfl) rfl
theorem q2622 : (Jvm.Cond.instanceMethod ({ cls := "LetMill$Matches", name := "warn", desc := "(II)V" } : Jvm.MethodName)) ∈ lw_all := lw_g (lw_at lw_m11 12 rfl) rfl
theorem q2623 : (Jvm.Cond.code ({ cls := "LetMill$Matches", name := "warn", desc := "(II)V" } : Jvm.MethodName) prog_29_method_9_code (4 : Nat) (Option.none : Option Jvm.ClassFile.FieldType)) ∈ lw_all := lw_g (lw_at lw_m11 13 rfl) rfl
theorem q2624 : (Jvm.Cond.methodLink "LetMill$Matches" (90 : Nat) ({ cls := "LetMill$Matches", name := "open", desc := "(III)V" } : Jvm.MethodName)) ∈ lw_all := lw_g (lw_at lw_m11 14 rfl) rfl
theorem q2626 : (Jvm.Cond.instanceMethod ({ cls := "LetMill$Matches", name := "open", desc := "(III)V" } : Jvm.MethodName)) ∈ lw_all := lw_g (lw_at lw_m11 16 rfl) rfl
theorem q2627 : (Jvm.Cond.code ({ cls := "LetMill$Matches", name := "open", desc := "(III)V" } : Jvm.MethodName) prog_29_method_14_code (5 : Nat) (Option.none : Option Jvm.ClassFile.FieldType)) ∈ lw_all := lw_g (lw_at lw_m11 17 rfl) rfl
theorem q2756 : (Jvm.Cond.instanceMethod ({ cls := "LetMill$Matches", name := "check", desc := "(LLetMill$Pat;LLetMill$Tokens;I)V" } : Jvm.MethodName)) ∈ lw_all := lw_g (lw_at lw_m11 146 rfl) rfl
theorem q2757 : (Jvm.Cond.selects "LetMill$Matches" ({ cls := "LetMill$Matches", name := "check", desc := "(LLetMill$Pat;LLetMill$Tokens;I)V" } : Jvm.MethodName) ({ cls := "LetMill$Matches", name := "check", desc := "(LLetMill$Pat;LLetMill$Tokens;I)V" } : Jvm.MethodName)) ∈ lw_all := lw_g (lw_at lw_m11 147 rfl) rfl
theorem q2758 : (Jvm.Cond.code ({ cls := "LetMill$Matches", name := "check", desc := "(LLetMill$Pat;LLetMill$Tokens;I)V" } : Jvm.MethodName) prog_29_method_13_code (4 : Nat) (Option.none : Option Jvm.ClassFile.FieldType)) ∈ lw_all := lw_g (lw_at lw_m11 148 rfl) rfl
theorem q2841 : (Jvm.Cond.instanceMethod ({ cls := "LetMill$Matches", name := "place", desc := "(I)I" } : Jvm.MethodName)) ∈ lw_all := lw_g (lw_at lw_m11 231 rfl) rfl
theorem q2842 : (Jvm.Cond.selects "LetMill$Matches" ({ cls := "LetMill$Matches", name := "place", desc := "(I)I" } : Jvm.MethodName) ({ cls := "LetMill$Matches", name := "place", desc := "(I)I" } : Jvm.MethodName)) ∈ lw_all := lw_g (lw_at lw_m11 232 rfl) rfl
theorem q2843 : (Jvm.Cond.code ({ cls := "LetMill$Matches", name := "place", desc := "(I)I" } : Jvm.MethodName) prog_29_method_10_code (2 : Nat) (Option.some Jvm.ClassFile.FieldType.int)) ∈ lw_all := lw_g (lw_at lw_m11 233 rfl) rfl
theorem q2845 : (Jvm.Cond.instanceMethod ({ cls := "LetMill$Matches", name := "what", desc := "(I)I" } : Jvm.MethodName)) ∈ lw_all := lw_g (lw_at lw_m11 235 rfl) rfl
theorem q2846 : (Jvm.Cond.selects "LetMill$Matches" ({ cls := "LetMill$Matches", name := "what", desc := "(I)I" } : Jvm.MethodName) ({ cls := "LetMill$Matches", name := "what", desc := "(I)I" } : Jvm.MethodName)) ∈ lw_all := lw_g (lw_at lw_m11 236 rfl) rfl
theorem q2847 : (Jvm.Cond.code ({ cls := "LetMill$Matches", name := "what", desc := "(I)I" } : Jvm.MethodName) prog_29_method_11_code (2 : Nat) (Option.some Jvm.ClassFile.FieldType.int)) ∈ lw_all := lw_g (lw_at lw_m11 237 rfl) rfl
def RX11 : String := "LetMill$Typer"
abbrev cX11_init : ByteArray := prog_53_method_1_code
def yX11_init : MethodName := ⟨RX11, "<init>", "(LLetMill$Types;LLetMill$Tokens;LLetMill$Matches;)V"⟩
abbrev cX11_fresh : ByteArray := prog_53_method_7_code
def yX11_fresh : MethodName := ⟨RX11, "fresh", "(I)V"⟩
abbrev cX11_variables : ByteArray := prog_53_method_9_code
def yX11_variables : MethodName := ⟨RX11, "variables", "()[I"⟩
abbrev cX11_variable : ByteArray := prog_53_method_8_code
def yX11_variable : MethodName := ⟨RX11, "variable", "(I)I"⟩
abbrev cX11_push : ByteArray := prog_53_method_3_code
def yX11_push : MethodName := ⟨RX11, "push", "(LLetMill$Binding;)V"⟩
abbrev cX11_match : ByteArray := prog_53_method_10_code
def yX11_match : MethodName := ⟨RX11, "match", "(LLetMill$Row;[I)I"⟩
abbrev cX11_clause : ByteArray := prog_53_method_6_code
def yX11_clause : MethodName := ⟨RX11, "clause", "(LLetMill$Clause;[I)I"⟩
abbrev cX11_same : ByteArray := prog_53_method_2_code
def yX11_same : MethodName := ⟨RX11, "same", "(III)V"⟩
abbrev cX11_typeOf : ByteArray := prog_53_method_4_code
def yX11_typeOf : MethodName := ⟨RX11, "typeOf", "(LLetMill$Binding;)I"⟩
abbrev cX11_declared : ByteArray := prog_53_method_5_code
def yX11_declared : MethodName := ⟨RX11, "declared", "(IIZ)V"⟩
theorem q225 : (Jvm.Cond.initialized "LetMill$Typer") ∈ lw_all := lw_g (lw_at lw_m1 15 rfl) rfl
theorem q326 : (Jvm.Cond.fieldLink "LetMill$Typer" (39 : Nat) "LetMill$Tokens" "from" "[I") ∈ lw_all := lw_g (lw_at lw_m1 116 rfl) rfl
theorem q577 : (Jvm.Cond.fieldLink "LetMill$Typer" (114 : Nat) "LetMill$Row" "many" "I") ∈ lw_all := lw_g (lw_at lw_m2 127 rfl) rfl
theorem q790 : (Jvm.Cond.instantiable "LetMill$Typer" (6 : Nat)) ∈ lw_all := lw_g (lw_at lw_m3 100 rfl) rfl
theorem q792 : (Jvm.Cond.instanceMethod ({ cls := "LetMill$Typer", name := "<init>", desc := "(LLetMill$Types;LLetMill$Tokens;LLetMill$Matches;)V" } : Jvm.MethodName)) ∈ lw_all := lw_g (lw_at lw_m3 102 rfl) rfl
theorem q793 : (Jvm.Cond.code ({ cls := "LetMill$Typer", name := "<init>", desc := "(LLetMill$Types;LLetMill$Tokens;LLetMill$Matches;)V" } : Jvm.MethodName) prog_53_method_1_code (4 : Nat) (Option.none : Option Jvm.ClassFile.FieldType)) ∈ lw_all := lw_g (lw_at lw_m3 103 rfl) rfl
theorem q794 : (Jvm.Cond.methodLink "LetMill$Typer" (1 : Nat) ({ cls := "java/lang/Object", name := "<init>", desc := "()V" } : Jvm.MethodName)) ∈ lw_all := lw_g (lw_at lw_m3 104 rfl) rfl
theorem q795 : (Jvm.Cond.classLink "LetMill$Typer" (7 : Nat) "LetMill$Binding") ∈ lw_all := lw_g (lw_at lw_m3 105 rfl) rfl
theorem q796 : (Jvm.Cond.fieldLink "LetMill$Typer" (19 : Nat) "LetMill$Typer" "types" "LLetMill$Types;") ∈ lw_all := lw_g (lw_at lw_m3 106 rfl) rfl
theorem q821 : (Jvm.Cond.fieldLink "LetMill$Typer" (23 : Nat) "LetMill$Typer" "k" "LLetMill$Tokens;") ∈ lw_all := lw_g (lw_at lw_m3 131 rfl) rfl
theorem q827 : (Jvm.Cond.fieldLink "LetMill$Typer" (27 : Nat) "LetMill$Typer" "matches" "LLetMill$Matches;") ∈ lw_all := lw_g (lw_at lw_m3 137 rfl) rfl
theorem q832 : (Jvm.Cond.fieldLink "LetMill$Typer" (9 : Nat) "LetMill$Typer" "around" "[LLetMill$Binding;") ∈ lw_all := lw_g (lw_at lw_m3 142 rfl) rfl
theorem q834 : (Jvm.Cond.fieldLink "LetMill$Typer" (47 : Nat) "LetMill$Typer" "many" "I") ∈ lw_all := lw_g (lw_at lw_m3 144 rfl) rfl
theorem q838 : (Jvm.Cond.fieldLink "LetMill$Typer" (15 : Nat) "LetMill$Typer" "variables" "[I") ∈ lw_all := lw_g (lw_at lw_m3 148 rfl) rfl
theorem q839 : (Jvm.Cond.laysFinal "LetMill$Typer" "LetMill$Typer" "types" "LLetMill$Types;") ∈ lw_all := lw_g (lw_at lw_m3 149 rfl) rfl
theorem q841 : (Jvm.Cond.laysFinal "LetMill$Typer" "LetMill$Typer" "k" "LLetMill$Tokens;") ∈ lw_all := lw_g (lw_at lw_m3 151 rfl) rfl
theorem q843 : (Jvm.Cond.laysFinal "LetMill$Typer" "LetMill$Typer" "matches" "LLetMill$Matches;") ∈ lw_all := lw_g (lw_at lw_m3 153 rfl) rfl
theorem q845 : (Jvm.Cond.lays "LetMill$Typer" "LetMill$Typer" "around" "[LLetMill$Binding;") ∈ lw_all := lw_g (lw_at lw_m3 155 rfl) rfl
theorem q847 : (Jvm.Cond.lays "LetMill$Typer" "LetMill$Typer" "many" "I") ∈ lw_all := lw_g (lw_at lw_m3 157 rfl) rfl
theorem q849 : (Jvm.Cond.laysFinal "LetMill$Typer" "LetMill$Typer" "variables" "[I") ∈ lw_all := lw_g (lw_at lw_m3 159 rfl) rfl
theorem q925 : (Jvm.Cond.fieldLink "LetMill$Typer" (65 : Nat) "LetMill$Binding" "type" "I") ∈ lw_all := lw_g (lw_at lw_m3 235 rfl) rfl
theorem q927 : (Jvm.Cond.fieldLink "LetMill$Typer" (61 : Nat) "LetMill$Binding" "isScheme" "Z") ∈ lw_all := lw_g (lw_at lw_m3 237 rfl) rfl
theorem q930 : (Jvm.Cond.fieldLink "LetMill$Typer" (51 : Nat) "LetMill$Binding" "level" "I") ∈ lw_all := lw_g (lw_at lw_m4 0 rfl) rfl
theorem q933 : (Jvm.Cond.fieldLink "LetMill$Typer" (54 : Nat) "LetMill$Binding" "written" "[I") ∈ lw_all := lw_g (lw_at lw_m4 3 rfl) rfl
theorem q1356 : (Jvm.Cond.fieldLink "LetMill$Typer" (98 : Nat) "LetMill$Pat" "token" "I") ∈ lw_all := lw_g (lw_at lw_m5 186 rfl) rfl
theorem q1496 : (Jvm.Cond.fieldLink "LetMill$Typer" (86 : Nat) "LetMill$Clause" "pats" "[LLetMill$Pat;") ∈ lw_all := lw_g (lw_at lw_m6 86 rfl) rfl
theorem q1501 : (Jvm.Cond.fieldLink "LetMill$Typer" (104 : Nat) "LetMill$Clause" "body" "LLetMill$Exp;") ∈ lw_all := lw_g (lw_at lw_m6 91 rfl) rfl
theorem q1543 : (Jvm.Cond.fieldLink "LetMill$Typer" (124 : Nat) "LetMill$Exp" "token" "I") ∈ lw_all := lw_g (lw_at lw_m6 133 rfl) rfl
theorem q2337 : (Jvm.Cond.instanceMethod ({ cls := "LetMill$Typer", name := "fresh", desc := "(I)V" } : Jvm.MethodName)) ∈ lw_all := lw_g (lw_at lw_m9 207 rfl) rfl
theorem q2338 : (Jvm.Cond.selects "LetMill$Typer" ({ cls := "LetMill$Typer", name := "fresh", desc := "(I)V" } : Jvm.MethodName) ({ cls := "LetMill$Typer", name := "fresh", desc := "(I)V" } : Jvm.MethodName)) ∈ lw_all := lw_g (lw_at lw_m9 208 rfl) rfl
theorem q2339 : (Jvm.Cond.code ({ cls := "LetMill$Typer", name := "fresh", desc := "(I)V" } : Jvm.MethodName) prog_53_method_7_code (3 : Nat) (Option.none : Option Jvm.ClassFile.FieldType)) ∈ lw_all := lw_g (lw_at lw_m9 209 rfl) rfl
theorem q2340 : (Jvm.Cond.methodLink "LetMill$Typer" (111 : Nat) ({ cls := "LetMill$Types", name := "variable", desc := "()I" } : Jvm.MethodName)) ∈ lw_all := lw_g (lw_at lw_m9 210 rfl) rfl
theorem q2345 : (Jvm.Cond.instanceMethod ({ cls := "LetMill$Typer", name := "variables", desc := "()[I" } : Jvm.MethodName)) ∈ lw_all := lw_g (lw_at lw_m9 215 rfl) rfl
theorem q2346 : (Jvm.Cond.selects "LetMill$Typer" ({ cls := "LetMill$Typer", name := "variables", desc := "()[I" } : Jvm.MethodName) ({ cls := "LetMill$Typer", name := "variables", desc := "()[I" } : Jvm.MethodName)) ∈ lw_all := lw_g (lw_at lw_m9 216 rfl) rfl
theorem q2347 : (Jvm.Cond.code ({ cls := "LetMill$Typer", name := "variables", desc := "()[I" } : Jvm.MethodName) prog_53_method_9_code (1 : Nat) (Option.some (Jvm.ClassFile.FieldType.array Jvm.ClassFile.FieldType.int))) ∈ lw_all := lw_g (lw_at lw_m9 217 rfl) rfl
theorem q2368 : (Jvm.Cond.instanceMethod ({ cls := "LetMill$Typer", name := "variable", desc := "(I)I" } : Jvm.MethodName)) ∈ lw_all := lw_g (lw_at lw_m9 238 rfl) rfl
theorem q2369 : (Jvm.Cond.selects "LetMill$Typer" ({ cls := "LetMill$Typer", name := "variable", desc := "(I)I" } : Jvm.MethodName) ({ cls := "LetMill$Typer", name := "variable", desc := "(I)I" } : Jvm.MethodName)) ∈ lw_all := lw_g (lw_at lw_m9 239 rfl) rfl
theorem q2370 : (Jvm.Cond.code ({ cls := "LetMill$Typer", name := "variable", desc := "(I)I" } : Jvm.MethodName) prog_53_method_8_code (2 : Nat) (Option.some Jvm.ClassFile.FieldType.int)) ∈ lw_all := lw_g (lw_at lw_m10 0 rfl) rfl
theorem q2422 : (Jvm.Cond.instanceMethod ({ cls := "LetMill$Typer", name := "push", desc := "(LLetMill$Binding;)V" } : Jvm.MethodName)) ∈ lw_all := lw_g (lw_at lw_m10 52 rfl) rfl
theorem q2423 : (Jvm.Cond.selects "LetMill$Typer" ({ cls := "LetMill$Typer", name := "push", desc := "(LLetMill$Binding;)V" } : Jvm.MethodName) ({ cls := "LetMill$Typer", name := "push", desc := "(LLetMill$Binding;)V" } : Jvm.MethodName)) ∈ lw_all := lw_g (lw_at lw_m10 53 rfl) rfl
theorem q2424 : (Jvm.Cond.code ({ cls := "LetMill$Typer", name := "push", desc := "(LLetMill$Binding;)V" } : Jvm.MethodName) prog_53_method_3_code (4 : Nat) (Option.none : Option Jvm.ClassFile.FieldType)) ∈ lw_all := lw_g (lw_at lw_m10 54 rfl) rfl
theorem q2426 : (Jvm.Cond.instanceMethod ({ cls := "LetMill$Typer", name := "match", desc := "(LLetMill$Row;[I)I" } : Jvm.MethodName)) ∈ lw_all := lw_g (lw_at lw_m10 56 rfl) rfl
theorem q2427 : (Jvm.Cond.selects "LetMill$Typer" ({ cls := "LetMill$Typer", name := "match", desc := "(LLetMill$Row;[I)I" } : Jvm.MethodName) ({ cls := "LetMill$Typer", name := "match", desc := "(LLetMill$Row;[I)I" } : Jvm.MethodName)) ∈ lw_all := lw_g (lw_at lw_m10 57 rfl) rfl
theorem q2428 : (Jvm.Cond.code ({ cls := "LetMill$Typer", name := "match", desc := "(LLetMill$Row;[I)I" } : Jvm.MethodName) prog_53_method_10_code (7 : Nat) (Option.some Jvm.ClassFile.FieldType.int)) ∈ lw_all := lw_g (lw_at lw_m10 58 rfl) rfl
theorem q2429 : (Jvm.Cond.methodLink "LetMill$Typer" (117 : Nat) ({ cls := "LetMill$Row", name := "clause", desc := "(I)LLetMill$Clause;" } : Jvm.MethodName)) ∈ lw_all := lw_g (lw_at lw_m10 59 rfl) rfl
theorem q2430 : (Jvm.Cond.methodLink "LetMill$Typer" (121 : Nat) ({ cls := "LetMill$Typer", name := "clause", desc := "(LLetMill$Clause;[I)I" } : Jvm.MethodName)) ∈ lw_all := lw_g (lw_at lw_m10 60 rfl) rfl
theorem q2431 : (Jvm.Cond.instanceMethod ({ cls := "LetMill$Typer", name := "clause", desc := "(LLetMill$Clause;[I)I" } : Jvm.MethodName)) ∈ lw_all := lw_g (lw_at lw_m10 61 rfl) rfl
theorem q2432 : (Jvm.Cond.selects "LetMill$Typer" ({ cls := "LetMill$Typer", name := "clause", desc := "(LLetMill$Clause;[I)I" } : Jvm.MethodName) ({ cls := "LetMill$Typer", name := "clause", desc := "(LLetMill$Clause;[I)I" } : Jvm.MethodName)) ∈ lw_all := lw_g (lw_at lw_m10 62 rfl) rfl
theorem q2433 : (Jvm.Cond.code ({ cls := "LetMill$Typer", name := "clause", desc := "(LLetMill$Clause;[I)I" } : Jvm.MethodName) prog_53_method_6_code (6 : Nat) (Option.some Jvm.ClassFile.FieldType.int)) ∈ lw_all := lw_g (lw_at lw_m10 63 rfl) rfl
theorem q2434 : (Jvm.Cond.methodLink "LetMill$Typer" (92 : Nat) ({ cls := "LetMill$Pat", name := "infer", desc := "(LLetMill$Typer;)I" } : Jvm.MethodName)) ∈ lw_all := lw_g (lw_at lw_m10 64 rfl) rfl
theorem q2483 : (Jvm.Cond.instanceMethod ({ cls := "LetMill$Typer", name := "same", desc := "(III)V" } : Jvm.MethodName)) ∈ lw_all := lw_g (lw_at lw_m10 113 rfl) rfl
theorem q2484 : (Jvm.Cond.selects "LetMill$Typer" ({ cls := "LetMill$Typer", name := "same", desc := "(III)V" } : Jvm.MethodName) ({ cls := "LetMill$Typer", name := "same", desc := "(III)V" } : Jvm.MethodName)) ∈ lw_all := lw_g (lw_at lw_m10 114 rfl) rfl
theorem q2485 : (Jvm.Cond.code ({ cls := "LetMill$Typer", name := "same", desc := "(III)V" } : Jvm.MethodName) prog_53_method_2_code (4 : Nat) (Option.none : Option Jvm.ClassFile.FieldType)) ∈ lw_all := lw_g (lw_at lw_m10 115 rfl) rfl
theorem q2486 : (Jvm.Cond.methodLink "LetMill$Typer" (31 : Nat) ({ cls := "LetMill$Types", name := "same", desc := "(II)Z" } : Jvm.MethodName)) ∈ lw_all := lw_g (lw_at lw_m10 116 rfl) rfl
theorem q2498 : (Jvm.Cond.classLink "LetMill$Typer" (37 : Nat) "LetMill$Fault") ∈ lw_all := lw_g (lw_at lw_m10 128 rfl) rfl
theorem q2499 : (Jvm.Cond.methodLink "LetMill$Typer" (44 : Nat) ({ cls := "LetMill$Fault", name := "<init>", desc := "(II)V" } : Jvm.MethodName)) ∈ lw_all := lw_g (lw_at lw_m10 129 rfl) rfl
theorem q2509 : (Jvm.Cond.methodLink "LetMill$Typer" (101 : Nat) ({ cls := "LetMill$Typer", name := "same", desc := "(III)V" } : Jvm.MethodName)) ∈ lw_all := lw_g (lw_at lw_m10 139 rfl) rfl
theorem q2510 : (Jvm.Cond.methodLink "LetMill$Typer" (108 : Nat) ({ cls := "LetMill$Exp", name := "infer", desc := "(LLetMill$Typer;)I" } : Jvm.MethodName)) ∈ lw_all := lw_g (lw_at lw_m10 140 rfl) rfl
theorem q2658 : (Jvm.Cond.instanceMethod ({ cls := "LetMill$Typer", name := "typeOf", desc := "(LLetMill$Binding;)I" } : Jvm.MethodName)) ∈ lw_all := lw_g (lw_at lw_m11 48 rfl) rfl
theorem q2659 : (Jvm.Cond.selects "LetMill$Typer" ({ cls := "LetMill$Typer", name := "typeOf", desc := "(LLetMill$Binding;)I" } : Jvm.MethodName) ({ cls := "LetMill$Typer", name := "typeOf", desc := "(LLetMill$Binding;)I" } : Jvm.MethodName)) ∈ lw_all := lw_g (lw_at lw_m11 49 rfl) rfl
theorem q2660 : (Jvm.Cond.code ({ cls := "LetMill$Typer", name := "typeOf", desc := "(LLetMill$Binding;)I" } : Jvm.MethodName) prog_53_method_4_code (2 : Nat) (Option.some Jvm.ClassFile.FieldType.int)) ∈ lw_all := lw_g (lw_at lw_m11 50 rfl) rfl
theorem q2661 : (Jvm.Cond.methodLink "LetMill$Typer" (57 : Nat) ({ cls := "LetMill$Types", name := "read", desc := "([I)I" } : Jvm.MethodName)) ∈ lw_all := lw_g (lw_at lw_m11 51 rfl) rfl
theorem q2662 : (Jvm.Cond.methodLink "LetMill$Typer" (68 : Nat) ({ cls := "LetMill$Types", name := "mark", desc := "()I" } : Jvm.MethodName)) ∈ lw_all := lw_g (lw_at lw_m11 52 rfl) rfl
theorem q2663 : (Jvm.Cond.methodLink "LetMill$Typer" (72 : Nat) ({ cls := "LetMill$Types", name := "copied", desc := "(II)I" } : Jvm.MethodName)) ∈ lw_all := lw_g (lw_at lw_m11 53 rfl) rfl
theorem q2742 : (Jvm.Cond.instanceMethod ({ cls := "LetMill$Typer", name := "declared", desc := "(IIZ)V" } : Jvm.MethodName)) ∈ lw_all := lw_g (lw_at lw_m11 132 rfl) rfl
theorem q2743 : (Jvm.Cond.selects "LetMill$Typer" ({ cls := "LetMill$Typer", name := "declared", desc := "(IIZ)V" } : Jvm.MethodName) ({ cls := "LetMill$Typer", name := "declared", desc := "(IIZ)V" } : Jvm.MethodName)) ∈ lw_all := lw_g (lw_at lw_m11 133 rfl) rfl
theorem q2744 : (Jvm.Cond.code ({ cls := "LetMill$Typer", name := "declared", desc := "(IIZ)V" } : Jvm.MethodName) prog_53_method_5_code (7 : Nat) (Option.none : Option Jvm.ClassFile.FieldType)) ∈ lw_all := lw_g (lw_at lw_m11 134 rfl) rfl
theorem q2745 : (Jvm.Cond.methodLink "LetMill$Typer" (76 : Nat) ({ cls := "LetMill$Types", name := "size", desc := "(II)I" } : Jvm.MethodName)) ∈ lw_all := lw_g (lw_at lw_m11 135 rfl) rfl
theorem q2746 : (Jvm.Cond.methodLink "LetMill$Typer" (79 : Nat) ({ cls := "LetMill$Types", name := "touch", desc := "(II)V" } : Jvm.MethodName)) ∈ lw_all := lw_g (lw_at lw_m11 136 rfl) rfl
theorem q2750 : (Jvm.Cond.methodLink "LetMill$Typer" (82 : Nat) ({ cls := "LetMill$Types", name := "generalise", desc := "(III)Z" } : Jvm.MethodName)) ∈ lw_all := lw_g (lw_at lw_m11 140 rfl) rfl
def RX12 : String := "LetMill$Reader"
abbrev cX12_init : ByteArray := prog_37_method_1_code
def yX12_init : MethodName := ⟨RX12, "<init>", "(LLetMill$Tokens;)V"⟩
abbrev cX12_read : ByteArray := prog_37_method_7_code
def yX12_read : MethodName := ⟨RX12, "read", "()LLetMill$Row;"⟩
abbrev cX12_isDec : ByteArray := prog_37_method_8_code
def yX12_isDec : MethodName := ⟨RX12, "isDec", "()Z"⟩
abbrev cX12_kind : ByteArray := prog_37_method_2_code
def yX12_kind : MethodName := ⟨RX12, "kind", "()I"⟩
abbrev cX12_dec : ByteArray := prog_37_method_9_code
def yX12_dec : MethodName := ⟨RX12, "dec", "()LLetMill$Dec;"⟩
abbrev cX12_wrong : ByteArray := prog_37_method_3_code
def yX12_wrong : MethodName := ⟨RX12, "wrong", "()LLetMill$Fault;"⟩
abbrev cX12_take : ByteArray := prog_37_method_4_code
def yX12_take : MethodName := ⟨RX12, "take", "()I"⟩
abbrev cX12_pat : ByteArray := prog_37_method_19_code
def yX12_pat : MethodName := ⟨RX12, "pat", "()LLetMill$Pat;"⟩
abbrev cX12_takePat : ByteArray := prog_37_method_18_code
def yX12_takePat : MethodName := ⟨RX12, "takePat", "()I"⟩
abbrev cX12_beginsPat : ByteArray := prog_37_method_17_code
def yX12_beginsPat : MethodName := ⟨RX12, "beginsPat", "()Z"⟩
abbrev cX12_atPat : ByteArray := prog_37_method_20_code
def yX12_atPat : MethodName := ⟨RX12, "atPat", "()LLetMill$Pat;"⟩
abbrev cX12_bracketed : ByteArray := prog_37_method_21_code
def yX12_bracketed : MethodName := ⟨RX12, "bracketed", "(I)LLetMill$Pat;"⟩
abbrev cX12_patsOf : ByteArray := prog_37_method_11_code
def yX12_patsOf : MethodName := ⟨RX12, "patsOf", "(LLetMill$Row;)[LLetMill$Pat;"⟩
abbrev cX12_expect : ByteArray := prog_37_method_5_code
def yX12_expect : MethodName := ⟨RX12, "expect", "(I)I"⟩
abbrev cX12_exp : ByteArray := prog_37_method_22_code
def yX12_exp : MethodName := ⟨RX12, "exp", "()LLetMill$Exp;"⟩
abbrev cX12_match : ByteArray := prog_37_method_23_code
def yX12_match : MethodName := ⟨RX12, "match", "()LLetMill$Row;"⟩
abbrev cX12_skip : ByteArray := prog_37_method_6_code
def yX12_skip : MethodName := ⟨RX12, "skip", "(I)Z"⟩
abbrev cX12_level : ByteArray := prog_37_method_25_code
def yX12_level : MethodName := ⟨RX12, "level", "(I)LLetMill$Exp;"⟩
abbrev cX12_application : ByteArray := prog_37_method_27_code
def yX12_application : MethodName := ⟨RX12, "application", "()LLetMill$Exp;"⟩
abbrev cX12_atom : ByteArray := prog_37_method_28_code
def yX12_atom : MethodName := ⟨RX12, "atom", "()LLetMill$Exp;"⟩
abbrev cX12_round : ByteArray := prog_37_method_29_code
def yX12_round : MethodName := ⟨RX12, "round", "(I)LLetMill$Exp;"⟩
abbrev cX12_expsOf : ByteArray := prog_37_method_12_code
def yX12_expsOf : MethodName := ⟨RX12, "expsOf", "(LLetMill$Row;)[LLetMill$Exp;"⟩
abbrev cX12_let : ByteArray := prog_37_method_30_code
def yX12_let : MethodName := ⟨RX12, "let", "(I)LLetMill$Exp;"⟩
abbrev cX12_beginsExp : ByteArray := prog_37_method_26_code
def yX12_beginsExp : MethodName := ⟨RX12, "beginsExp", "()Z"⟩
abbrev cX12_levelOf : ByteArray := prog_37_method_24_code
def yX12_levelOf : MethodName := ⟨RX12, "levelOf", "(I)I"⟩
abbrev cX12_fun : ByteArray := prog_37_method_10_code
def yX12_fun : MethodName := ⟨RX12, "fun", "()LLetMill$Fun;"⟩
abbrev cX12_data : ByteArray := prog_37_method_13_code
def yX12_data : MethodName := ⟨RX12, "data", "()LLetMill$Data;"⟩
abbrev cX12_ty : ByteArray := prog_37_method_14_code
def yX12_ty : MethodName := ⟨RX12, "ty", "()LLetMill$Ty;"⟩
abbrev cX12_product : ByteArray := prog_37_method_15_code
def yX12_product : MethodName := ⟨RX12, "product", "()LLetMill$Ty;"⟩
abbrev cX12_applied : ByteArray := prog_37_method_16_code
def yX12_applied : MethodName := ⟨RX12, "applied", "()LLetMill$Ty;"⟩
theorem q226 : (Jvm.Cond.initialized "LetMill$Reader") ∈ lw_all := lw_g (lw_at lw_m1 16 rfl) rfl
theorem q323 : (Jvm.Cond.fieldLink "LetMill$Reader" (13 : Nat) "LetMill$Tokens" "kind" "[I") ∈ lw_all := lw_g (lw_at lw_m1 113 rfl) rfl
theorem q327 : (Jvm.Cond.fieldLink "LetMill$Reader" (25 : Nat) "LetMill$Tokens" "from" "[I") ∈ lw_all := lw_g (lw_at lw_m1 117 rfl) rfl
theorem q334 : (Jvm.Cond.fieldLink "LetMill$Reader" (202 : Nat) "LetMill$Tokens" "value" "[J") ∈ lw_all := lw_g (lw_at lw_m1 124 rfl) rfl
theorem q578 : (Jvm.Cond.fieldLink "LetMill$Reader" (113 : Nat) "LetMill$Row" "many" "I") ∈ lw_all := lw_g (lw_at lw_m2 128 rfl) rfl
theorem q853 : (Jvm.Cond.instantiable "LetMill$Reader" (5 : Nat)) ∈ lw_all := lw_g (lw_at lw_m3 163 rfl) rfl
theorem q855 : (Jvm.Cond.instanceMethod ({ cls := "LetMill$Reader", name := "<init>", desc := "(LLetMill$Tokens;)V" } : Jvm.MethodName)) ∈ lw_all := lw_g (lw_at lw_m3 165 rfl) rfl
theorem q856 : (Jvm.Cond.code ({ cls := "LetMill$Reader", name := "<init>", desc := "(LLetMill$Tokens;)V" } : Jvm.MethodName) prog_37_method_1_code (2 : Nat) (Option.none : Option Jvm.ClassFile.FieldType)) ∈ lw_all := lw_g (lw_at lw_m3 166 rfl) rfl
theorem q857 : (Jvm.Cond.methodLink "LetMill$Reader" (1 : Nat) ({ cls := "java/lang/Object", name := "<init>", desc := "()V" } : Jvm.MethodName)) ∈ lw_all := lw_g (lw_at lw_m3 167 rfl) rfl
theorem q858 : (Jvm.Cond.fieldLink "LetMill$Reader" (7 : Nat) "LetMill$Reader" "k" "LLetMill$Tokens;") ∈ lw_all := lw_g (lw_at lw_m3 168 rfl) rfl
theorem q859 : (Jvm.Cond.fieldLink "LetMill$Reader" (19 : Nat) "LetMill$Reader" "t" "I") ∈ lw_all := lw_g (lw_at lw_m3 169 rfl) rfl
theorem q860 : (Jvm.Cond.fieldLink "LetMill$Reader" (31 : Nat) "LetMill$Reader" "depth" "I") ∈ lw_all := lw_g (lw_at lw_m3 170 rfl) rfl
theorem q861 : (Jvm.Cond.fieldLink "LetMill$Reader" (46 : Nat) "LetMill$Reader" "decs" "I") ∈ lw_all := lw_g (lw_at lw_m3 171 rfl) rfl
theorem q862 : (Jvm.Cond.fieldLink "LetMill$Reader" (68 : Nat) "LetMill$Reader" "pats" "I") ∈ lw_all := lw_g (lw_at lw_m3 172 rfl) rfl
theorem q863 : (Jvm.Cond.laysFinal "LetMill$Reader" "LetMill$Reader" "k" "LLetMill$Tokens;") ∈ lw_all := lw_g (lw_at lw_m3 173 rfl) rfl
theorem q865 : (Jvm.Cond.lays "LetMill$Reader" "LetMill$Reader" "t" "I") ∈ lw_all := lw_g (lw_at lw_m3 175 rfl) rfl
theorem q867 : (Jvm.Cond.lays "LetMill$Reader" "LetMill$Reader" "depth" "I") ∈ lw_all := lw_g (lw_at lw_m3 177 rfl) rfl
theorem q869 : (Jvm.Cond.lays "LetMill$Reader" "LetMill$Reader" "decs" "I") ∈ lw_all := lw_g (lw_at lw_m3 179 rfl) rfl
theorem q871 : (Jvm.Cond.lays "LetMill$Reader" "LetMill$Reader" "pats" "I") ∈ lw_all := lw_g (lw_at lw_m3 181 rfl) rfl
theorem q1272 : (Jvm.Cond.instanceMethod ({ cls := "LetMill$Reader", name := "read", desc := "()LLetMill$Row;" } : Jvm.MethodName)) ∈ lw_all := lw_g (lw_at lw_m5 102 rfl) rfl
theorem q1273 : (Jvm.Cond.selects "LetMill$Reader" ({ cls := "LetMill$Reader", name := "read", desc := "()LLetMill$Row;" } : Jvm.MethodName) ({ cls := "LetMill$Reader", name := "read", desc := "()LLetMill$Row;" } : Jvm.MethodName)) ∈ lw_all := lw_g (lw_at lw_m5 103 rfl) rfl
theorem q1274 : (Jvm.Cond.code ({ cls := "LetMill$Reader", name := "read", desc := "()LLetMill$Row;" } : Jvm.MethodName) prog_37_method_7_code (3 : Nat) (Option.some (Jvm.ClassFile.FieldType.object "LetMill$Row"))) ∈ lw_all := lw_g (lw_at lw_m5 104 rfl) rfl
theorem q1275 : (Jvm.Cond.classLink "LetMill$Reader" (49 : Nat) "LetMill$Row") ∈ lw_all := lw_g (lw_at lw_m5 105 rfl) rfl
theorem q1276 : (Jvm.Cond.methodLinkNest "LetMill$Reader" (51 : Nat) ({ cls := "LetMill$Row", name := "<init>", desc := "()V" } : Jvm.MethodName) "LetMill") ∈ lw_tbl := lw_at lw_m5 106 rfl
theorem q1277 : (Jvm.Cond.methodLink "LetMill$Reader" (52 : Nat) ({ cls := "LetMill$Reader", name := "isDec", desc := "()Z" } : Jvm.MethodName)) ∈ lw_all := lw_g (lw_at lw_m5 107 rfl) rfl
theorem q1279 : (Jvm.Cond.instanceMethod ({ cls := "LetMill$Reader", name := "isDec", desc := "()Z" } : Jvm.MethodName)) ∈ lw_all := lw_g (lw_at lw_m5 109 rfl) rfl
theorem q1280 : (Jvm.Cond.code ({ cls := "LetMill$Reader", name := "isDec", desc := "()Z" } : Jvm.MethodName) prog_37_method_8_code (1 : Nat) (Option.some Jvm.ClassFile.FieldType.boolean)) ∈ lw_all := lw_g (lw_at lw_m5 110 rfl) rfl
theorem q1281 : (Jvm.Cond.methodLink "LetMill$Reader" (34 : Nat) ({ cls := "LetMill$Reader", name := "kind", desc := "()I" } : Jvm.MethodName)) ∈ lw_all := lw_g (lw_at lw_m5 111 rfl) rfl
theorem q1283 : (Jvm.Cond.instanceMethod ({ cls := "LetMill$Reader", name := "kind", desc := "()I" } : Jvm.MethodName)) ∈ lw_all := lw_g (lw_at lw_m5 113 rfl) rfl
theorem q1284 : (Jvm.Cond.code ({ cls := "LetMill$Reader", name := "kind", desc := "()I" } : Jvm.MethodName) prog_37_method_2_code (1 : Nat) (Option.some Jvm.ClassFile.FieldType.int)) ∈ lw_all := lw_g (lw_at lw_m5 114 rfl) rfl
theorem q1285 : (Jvm.Cond.methodLink "LetMill$Reader" (56 : Nat) ({ cls := "LetMill$Reader", name := "dec", desc := "()LLetMill$Dec;" } : Jvm.MethodName)) ∈ lw_all := lw_g (lw_at lw_m5 115 rfl) rfl
theorem q1287 : (Jvm.Cond.instanceMethod ({ cls := "LetMill$Reader", name := "dec", desc := "()LLetMill$Dec;" } : Jvm.MethodName)) ∈ lw_all := lw_g (lw_at lw_m5 117 rfl) rfl
theorem q1288 : (Jvm.Cond.code ({ cls := "LetMill$Reader", name := "dec", desc := "()LLetMill$Dec;" } : Jvm.MethodName) prog_37_method_9_code (4 : Nat) (Option.some (Jvm.ClassFile.FieldType.object "LetMill$Dec"))) ∈ lw_all := lw_g (lw_at lw_m5 118 rfl) rfl
theorem q1289 : (Jvm.Cond.methodLink "LetMill$Reader" (39 : Nat) ({ cls := "LetMill$Reader", name := "wrong", desc := "()LLetMill$Fault;" } : Jvm.MethodName)) ∈ lw_all := lw_g (lw_at lw_m5 119 rfl) rfl
theorem q1291 : (Jvm.Cond.instanceMethod ({ cls := "LetMill$Reader", name := "wrong", desc := "()LLetMill$Fault;" } : Jvm.MethodName)) ∈ lw_all := lw_g (lw_at lw_m5 121 rfl) rfl
theorem q1292 : (Jvm.Cond.code ({ cls := "LetMill$Reader", name := "wrong", desc := "()LLetMill$Fault;" } : Jvm.MethodName) prog_37_method_3_code (1 : Nat) (Option.some (Jvm.ClassFile.FieldType.object "LetMill$Fault"))) ∈ lw_all := lw_g (lw_at lw_m5 122 rfl) rfl
theorem q1293 : (Jvm.Cond.classLink "LetMill$Reader" (23 : Nat) "LetMill$Fault") ∈ lw_all := lw_g (lw_at lw_m5 123 rfl) rfl
theorem q1302 : (Jvm.Cond.methodLink "LetMill$Reader" (28 : Nat) ({ cls := "LetMill$Fault", name := "<init>", desc := "(II)V" } : Jvm.MethodName)) ∈ lw_all := lw_g (lw_at lw_m5 132 rfl) rfl
theorem q1316 : (Jvm.Cond.methodLink "LetMill$Reader" (43 : Nat) ({ cls := "LetMill$Reader", name := "take", desc := "()I" } : Jvm.MethodName)) ∈ lw_all := lw_g (lw_at lw_m5 146 rfl) rfl
theorem q1318 : (Jvm.Cond.instanceMethod ({ cls := "LetMill$Reader", name := "take", desc := "()I" } : Jvm.MethodName)) ∈ lw_all := lw_g (lw_at lw_m5 148 rfl) rfl
theorem q1319 : (Jvm.Cond.code ({ cls := "LetMill$Reader", name := "take", desc := "()I" } : Jvm.MethodName) prog_37_method_4_code (1 : Nat) (Option.some Jvm.ClassFile.FieldType.int)) ∈ lw_all := lw_g (lw_at lw_m5 149 rfl) rfl
theorem q1320 : (Jvm.Cond.methodLink "LetMill$Reader" (71 : Nat) ({ cls := "LetMill$Reader", name := "pat", desc := "()LLetMill$Pat;" } : Jvm.MethodName)) ∈ lw_all := lw_g (lw_at lw_m5 150 rfl) rfl
theorem q1322 : (Jvm.Cond.instanceMethod ({ cls := "LetMill$Reader", name := "pat", desc := "()LLetMill$Pat;" } : Jvm.MethodName)) ∈ lw_all := lw_g (lw_at lw_m5 152 rfl) rfl
theorem q1323 : (Jvm.Cond.code ({ cls := "LetMill$Reader", name := "pat", desc := "()LLetMill$Pat;" } : Jvm.MethodName) prog_37_method_19_code (5 : Nat) (Option.some (Jvm.ClassFile.FieldType.object "LetMill$Pat"))) ∈ lw_all := lw_g (lw_at lw_m5 153 rfl) rfl
theorem q1324 : (Jvm.Cond.methodLink "LetMill$Reader" (181 : Nat) ({ cls := "LetMill$Reader", name := "takePat", desc := "()I" } : Jvm.MethodName)) ∈ lw_all := lw_g (lw_at lw_m5 154 rfl) rfl
theorem q1326 : (Jvm.Cond.instanceMethod ({ cls := "LetMill$Reader", name := "takePat", desc := "()I" } : Jvm.MethodName)) ∈ lw_all := lw_g (lw_at lw_m5 156 rfl) rfl
theorem q1327 : (Jvm.Cond.code ({ cls := "LetMill$Reader", name := "takePat", desc := "()I" } : Jvm.MethodName) prog_37_method_18_code (1 : Nat) (Option.some Jvm.ClassFile.FieldType.int)) ∈ lw_all := lw_g (lw_at lw_m5 157 rfl) rfl
theorem q1328 : (Jvm.Cond.classLink "LetMill$Reader" (184 : Nat) "LetMill$ConPat") ∈ lw_all := lw_g (lw_at lw_m5 158 rfl) rfl
theorem q1330 : (Jvm.Cond.methodLink "LetMill$Reader" (119 : Nat) ({ cls := "LetMill$Reader", name := "beginsPat", desc := "()Z" } : Jvm.MethodName)) ∈ lw_all := lw_g (lw_at lw_m5 160 rfl) rfl
theorem q1332 : (Jvm.Cond.instanceMethod ({ cls := "LetMill$Reader", name := "beginsPat", desc := "()Z" } : Jvm.MethodName)) ∈ lw_all := lw_g (lw_at lw_m5 162 rfl) rfl
theorem q1333 : (Jvm.Cond.code ({ cls := "LetMill$Reader", name := "beginsPat", desc := "()Z" } : Jvm.MethodName) prog_37_method_17_code (2 : Nat) (Option.some Jvm.ClassFile.FieldType.boolean)) ∈ lw_all := lw_g (lw_at lw_m5 163 rfl) rfl
theorem q1334 : (Jvm.Cond.methodLink "LetMill$Reader" (116 : Nat) ({ cls := "LetMill$Reader", name := "atPat", desc := "()LLetMill$Pat;" } : Jvm.MethodName)) ∈ lw_all := lw_g (lw_at lw_m5 164 rfl) rfl
theorem q1336 : (Jvm.Cond.instanceMethod ({ cls := "LetMill$Reader", name := "atPat", desc := "()LLetMill$Pat;" } : Jvm.MethodName)) ∈ lw_all := lw_g (lw_at lw_m5 166 rfl) rfl
theorem q1337 : (Jvm.Cond.code ({ cls := "LetMill$Reader", name := "atPat", desc := "()LLetMill$Pat;" } : Jvm.MethodName) prog_37_method_20_code (3 : Nat) (Option.some (Jvm.ClassFile.FieldType.object "LetMill$Pat"))) ∈ lw_all := lw_g (lw_at lw_m5 167 rfl) rfl
theorem q1338 : (Jvm.Cond.classLink "LetMill$Reader" (194 : Nat) "LetMill$AnyPat") ∈ lw_all := lw_g (lw_at lw_m5 168 rfl) rfl
theorem q1340 : (Jvm.Cond.methodLink "LetMill$Reader" (196 : Nat) ({ cls := "LetMill$AnyPat", name := "<init>", desc := "(I)V" } : Jvm.MethodName)) ∈ lw_all := lw_g (lw_at lw_m5 170 rfl) rfl
theorem q1360 : (Jvm.Cond.classLink "LetMill$Reader" (197 : Nat) "LetMill$NamePat") ∈ lw_all := lw_g (lw_at lw_m5 190 rfl) rfl
theorem q1362 : (Jvm.Cond.methodLink "LetMill$Reader" (199 : Nat) ({ cls := "LetMill$NamePat", name := "<init>", desc := "(I)V" } : Jvm.MethodName)) ∈ lw_all := lw_g (lw_at lw_m5 192 rfl) rfl
theorem q1371 : (Jvm.Cond.methodLink "LetMill$Reader" (186 : Nat) ({ cls := "LetMill$ConPat", name := "<init>", desc := "(ILLetMill$Pat;)V" } : Jvm.MethodName)) ∈ lw_all := lw_g (lw_at lw_m5 201 rfl) rfl
theorem q1383 : (Jvm.Cond.classLink "LetMill$Reader" (200 : Nat) "LetMill$NumberPat") ∈ lw_all := lw_g (lw_at lw_m5 213 rfl) rfl
theorem q1385 : (Jvm.Cond.methodLink "LetMill$Reader" (206 : Nat) ({ cls := "LetMill$NumberPat", name := "<init>", desc := "(IJZ)V" } : Jvm.MethodName)) ∈ lw_all := lw_g (lw_at lw_m5 215 rfl) rfl
theorem q1397 : (Jvm.Cond.methodLink "LetMill$Reader" (209 : Nat) ({ cls := "LetMill$Reader", name := "bracketed", desc := "(I)LLetMill$Pat;" } : Jvm.MethodName)) ∈ lw_all := lw_g (lw_at lw_m5 227 rfl) rfl
theorem q1399 : (Jvm.Cond.instanceMethod ({ cls := "LetMill$Reader", name := "bracketed", desc := "(I)LLetMill$Pat;" } : Jvm.MethodName)) ∈ lw_all := lw_g (lw_at lw_m5 229 rfl) rfl
theorem q1400 : (Jvm.Cond.code ({ cls := "LetMill$Reader", name := "bracketed", desc := "(I)LLetMill$Pat;" } : Jvm.MethodName) prog_37_method_21_code (6 : Nat) (Option.some (Jvm.ClassFile.FieldType.object "LetMill$Pat"))) ∈ lw_all := lw_g (lw_at lw_m5 230 rfl) rfl
theorem q1401 : (Jvm.Cond.methodLink "LetMill$Reader" (60 : Nat) ({ cls := "LetMill$Row", name := "add", desc := "(Ljava/lang/Object;)V" } : Jvm.MethodName)) ∈ lw_all := lw_g (lw_at lw_m5 231 rfl) rfl
theorem q1402 : (Jvm.Cond.classLink "LetMill$Reader" (212 : Nat) "LetMill$ListPat") ∈ lw_all := lw_g (lw_at lw_m5 232 rfl) rfl
theorem q1404 : (Jvm.Cond.methodLink "LetMill$Reader" (124 : Nat) ({ cls := "LetMill$Reader", name := "patsOf", desc := "(LLetMill$Row;)[LLetMill$Pat;" } : Jvm.MethodName)) ∈ lw_all := lw_g (lw_at lw_m5 234 rfl) rfl
theorem q1405 : (Jvm.Cond.static ({ cls := "LetMill$Reader", name := "patsOf", desc := "(LLetMill$Row;)[LLetMill$Pat;" } : Jvm.MethodName)) ∈ lw_all := lw_g (lw_at lw_m5 235 rfl) rfl
theorem q1406 : (Jvm.Cond.code ({ cls := "LetMill$Reader", name := "patsOf", desc := "(LLetMill$Row;)[LLetMill$Pat;" } : Jvm.MethodName) prog_37_method_11_code (3 : Nat) (Option.some (Jvm.ClassFile.FieldType.array (Jvm.ClassFile.FieldType.object "LetMill$Pat")))) ∈ lw_all := lw_g (lw_at lw_m5 236 rfl) rfl
theorem q1407 : (Jvm.Cond.classLink "LetMill$Reader" (131 : Nat) "LetMill$Pat") ∈ lw_all := lw_g (lw_at lw_m5 237 rfl) rfl
theorem q1409 : (Jvm.Cond.methodLink "LetMill$Reader" (133 : Nat) ({ cls := "LetMill$Row", name := "pat", desc := "(I)LLetMill$Pat;" } : Jvm.MethodName)) ∈ lw_all := lw_g (lw_at lw_m5 239 rfl) rfl
theorem q1418 : (Jvm.Cond.methodLink "LetMill$Reader" (214 : Nat) ({ cls := "LetMill$ListPat", name := "<init>", desc := "(I[LLetMill$Pat;)V" } : Jvm.MethodName)) ∈ lw_all := lw_g (lw_at lw_m6 8 rfl) rfl
theorem q1427 : (Jvm.Cond.classLink "LetMill$Reader" (217 : Nat) "LetMill$UnitPat") ∈ lw_all := lw_g (lw_at lw_m6 17 rfl) rfl
theorem q1429 : (Jvm.Cond.methodLink "LetMill$Reader" (219 : Nat) ({ cls := "LetMill$UnitPat", name := "<init>", desc := "(I)V" } : Jvm.MethodName)) ∈ lw_all := lw_g (lw_at lw_m6 19 rfl) rfl
theorem q1435 : (Jvm.Cond.classLink "LetMill$Reader" (220 : Nat) "LetMill$GroupPat") ∈ lw_all := lw_g (lw_at lw_m6 25 rfl) rfl
theorem q1437 : (Jvm.Cond.methodLink "LetMill$Reader" (222 : Nat) ({ cls := "LetMill$GroupPat", name := "<init>", desc := "(ILLetMill$Pat;)V" } : Jvm.MethodName)) ∈ lw_all := lw_g (lw_at lw_m6 27 rfl) rfl
theorem q1446 : (Jvm.Cond.classLink "LetMill$Reader" (223 : Nat) "LetMill$TuplePat") ∈ lw_all := lw_g (lw_at lw_m6 36 rfl) rfl
theorem q1448 : (Jvm.Cond.methodLink "LetMill$Reader" (225 : Nat) ({ cls := "LetMill$TuplePat", name := "<init>", desc := "(I[LLetMill$Pat;)V" } : Jvm.MethodName)) ∈ lw_all := lw_g (lw_at lw_m6 38 rfl) rfl
theorem q1457 : (Jvm.Cond.classLink "LetMill$Reader" (189 : Nat) "LetMill$PairPat") ∈ lw_all := lw_g (lw_at lw_m6 47 rfl) rfl
theorem q1459 : (Jvm.Cond.methodLink "LetMill$Reader" (191 : Nat) ({ cls := "LetMill$PairPat", name := "<init>", desc := "(ILLetMill$Pat;LLetMill$Pat;)V" } : Jvm.MethodName)) ∈ lw_all := lw_g (lw_at lw_m6 49 rfl) rfl
theorem q1471 : (Jvm.Cond.methodLink "LetMill$Reader" (64 : Nat) ({ cls := "LetMill$Reader", name := "expect", desc := "(I)I" } : Jvm.MethodName)) ∈ lw_all := lw_g (lw_at lw_m6 61 rfl) rfl
theorem q1473 : (Jvm.Cond.instanceMethod ({ cls := "LetMill$Reader", name := "expect", desc := "(I)I" } : Jvm.MethodName)) ∈ lw_all := lw_g (lw_at lw_m6 63 rfl) rfl
theorem q1474 : (Jvm.Cond.code ({ cls := "LetMill$Reader", name := "expect", desc := "(I)I" } : Jvm.MethodName) prog_37_method_5_code (2 : Nat) (Option.some Jvm.ClassFile.FieldType.int)) ∈ lw_all := lw_g (lw_at lw_m6 64 rfl) rfl
theorem q1475 : (Jvm.Cond.classLink "LetMill$Reader" (75 : Nat) "LetMill$Val") ∈ lw_all := lw_g (lw_at lw_m6 65 rfl) rfl
theorem q1477 : (Jvm.Cond.methodLink "LetMill$Reader" (77 : Nat) ({ cls := "LetMill$Reader", name := "exp", desc := "()LLetMill$Exp;" } : Jvm.MethodName)) ∈ lw_all := lw_g (lw_at lw_m6 67 rfl) rfl
theorem q1479 : (Jvm.Cond.instanceMethod ({ cls := "LetMill$Reader", name := "exp", desc := "()LLetMill$Exp;" } : Jvm.MethodName)) ∈ lw_all := lw_g (lw_at lw_m6 69 rfl) rfl
theorem q1480 : (Jvm.Cond.code ({ cls := "LetMill$Reader", name := "exp", desc := "()LLetMill$Exp;" } : Jvm.MethodName) prog_37_method_22_code (6 : Nat) (Option.some (Jvm.ClassFile.FieldType.object "LetMill$Exp"))) ∈ lw_all := lw_g (lw_at lw_m6 70 rfl) rfl
theorem q1481 : (Jvm.Cond.methodLink "LetMill$Reader" (226 : Nat) ({ cls := "LetMill$Reader", name := "match", desc := "()LLetMill$Row;" } : Jvm.MethodName)) ∈ lw_all := lw_g (lw_at lw_m6 71 rfl) rfl
theorem q1483 : (Jvm.Cond.instanceMethod ({ cls := "LetMill$Reader", name := "match", desc := "()LLetMill$Row;" } : Jvm.MethodName)) ∈ lw_all := lw_g (lw_at lw_m6 73 rfl) rfl
theorem q1484 : (Jvm.Cond.code ({ cls := "LetMill$Reader", name := "match", desc := "()LLetMill$Row;" } : Jvm.MethodName) prog_37_method_23_code (5 : Nat) (Option.some (Jvm.ClassFile.FieldType.object "LetMill$Row"))) ∈ lw_all := lw_g (lw_at lw_m6 74 rfl) rfl
theorem q1485 : (Jvm.Cond.classLink "LetMill$Reader" (122 : Nat) "LetMill$Clause") ∈ lw_all := lw_g (lw_at lw_m6 75 rfl) rfl
theorem q1487 : (Jvm.Cond.methodLink "LetMill$Reader" (128 : Nat) ({ cls := "LetMill$Clause", name := "<init>", desc := "(I[LLetMill$Pat;LLetMill$Exp;)V" } : Jvm.MethodName)) ∈ lw_all := lw_g (lw_at lw_m6 77 rfl) rfl
theorem q1511 : (Jvm.Cond.methodLink "LetMill$Reader" (88 : Nat) ({ cls := "LetMill$Reader", name := "skip", desc := "(I)Z" } : Jvm.MethodName)) ∈ lw_all := lw_g (lw_at lw_m6 101 rfl) rfl
theorem q1513 : (Jvm.Cond.instanceMethod ({ cls := "LetMill$Reader", name := "skip", desc := "(I)Z" } : Jvm.MethodName)) ∈ lw_all := lw_g (lw_at lw_m6 103 rfl) rfl
theorem q1514 : (Jvm.Cond.code ({ cls := "LetMill$Reader", name := "skip", desc := "(I)Z" } : Jvm.MethodName) prog_37_method_6_code (3 : Nat) (Option.some Jvm.ClassFile.FieldType.boolean)) ∈ lw_all := lw_g (lw_at lw_m6 104 rfl) rfl
theorem q1515 : (Jvm.Cond.classLink "LetMill$Reader" (230 : Nat) "LetMill$Fn") ∈ lw_all := lw_g (lw_at lw_m6 105 rfl) rfl
theorem q1517 : (Jvm.Cond.methodLink "LetMill$Reader" (232 : Nat) ({ cls := "LetMill$Fn", name := "<init>", desc := "(ILLetMill$Row;)V" } : Jvm.MethodName)) ∈ lw_all := lw_g (lw_at lw_m6 107 rfl) rfl
theorem q1544 : (Jvm.Cond.fieldLink "LetMill$Reader" (322 : Nat) "LetMill$Exp" "token" "I") ∈ lw_all := lw_g (lw_at lw_m6 134 rfl) rfl
theorem q1556 : (Jvm.Cond.classLink "LetMill$Reader" (233 : Nat) "LetMill$Case") ∈ lw_all := lw_g (lw_at lw_m6 146 rfl) rfl
theorem q1558 : (Jvm.Cond.methodLink "LetMill$Reader" (235 : Nat) ({ cls := "LetMill$Case", name := "<init>", desc := "(ILLetMill$Exp;LLetMill$Row;)V" } : Jvm.MethodName)) ∈ lw_all := lw_g (lw_at lw_m6 148 rfl) rfl
theorem q1571 : (Jvm.Cond.classLink "LetMill$Reader" (238 : Nat) "LetMill$If") ∈ lw_all := lw_g (lw_at lw_m6 161 rfl) rfl
theorem q1573 : (Jvm.Cond.methodLink "LetMill$Reader" (240 : Nat) ({ cls := "LetMill$If", name := "<init>", desc := "(ILLetMill$Exp;LLetMill$Exp;LLetMill$Exp;)V" } : Jvm.MethodName)) ∈ lw_all := lw_g (lw_at lw_m6 163 rfl) rfl
theorem q1589 : (Jvm.Cond.methodLink "LetMill$Reader" (243 : Nat) ({ cls := "LetMill$Reader", name := "level", desc := "(I)LLetMill$Exp;" } : Jvm.MethodName)) ∈ lw_all := lw_g (lw_at lw_m6 179 rfl) rfl
theorem q1591 : (Jvm.Cond.instanceMethod ({ cls := "LetMill$Reader", name := "level", desc := "(I)LLetMill$Exp;" } : Jvm.MethodName)) ∈ lw_all := lw_g (lw_at lw_m6 181 rfl) rfl
theorem q1592 : (Jvm.Cond.code ({ cls := "LetMill$Reader", name := "level", desc := "(I)LLetMill$Exp;" } : Jvm.MethodName) prog_37_method_25_code (6 : Nat) (Option.some (Jvm.ClassFile.FieldType.object "LetMill$Exp"))) ∈ lw_all := lw_g (lw_at lw_m6 182 rfl) rfl
theorem q1593 : (Jvm.Cond.methodLink "LetMill$Reader" (246 : Nat) ({ cls := "LetMill$Reader", name := "application", desc := "()LLetMill$Exp;" } : Jvm.MethodName)) ∈ lw_all := lw_g (lw_at lw_m6 183 rfl) rfl
theorem q1595 : (Jvm.Cond.instanceMethod ({ cls := "LetMill$Reader", name := "application", desc := "()LLetMill$Exp;" } : Jvm.MethodName)) ∈ lw_all := lw_g (lw_at lw_m6 185 rfl) rfl
theorem q1596 : (Jvm.Cond.code ({ cls := "LetMill$Reader", name := "application", desc := "()LLetMill$Exp;" } : Jvm.MethodName) prog_37_method_27_code (4 : Nat) (Option.some (Jvm.ClassFile.FieldType.object "LetMill$Exp"))) ∈ lw_all := lw_g (lw_at lw_m6 186 rfl) rfl
theorem q1597 : (Jvm.Cond.methodLink "LetMill$Reader" (271 : Nat) ({ cls := "LetMill$Reader", name := "atom", desc := "()LLetMill$Exp;" } : Jvm.MethodName)) ∈ lw_all := lw_g (lw_at lw_m6 187 rfl) rfl
theorem q1599 : (Jvm.Cond.instanceMethod ({ cls := "LetMill$Reader", name := "atom", desc := "()LLetMill$Exp;" } : Jvm.MethodName)) ∈ lw_all := lw_g (lw_at lw_m6 189 rfl) rfl
theorem q1600 : (Jvm.Cond.code ({ cls := "LetMill$Reader", name := "atom", desc := "()LLetMill$Exp;" } : Jvm.MethodName) prog_37_method_28_code (4 : Nat) (Option.some (Jvm.ClassFile.FieldType.object "LetMill$Exp"))) ∈ lw_all := lw_g (lw_at lw_m6 190 rfl) rfl
theorem q1601 : (Jvm.Cond.classLink "LetMill$Reader" (282 : Nat) "LetMill$Use") ∈ lw_all := lw_g (lw_at lw_m6 191 rfl) rfl
theorem q1603 : (Jvm.Cond.methodLink "LetMill$Reader" (284 : Nat) ({ cls := "LetMill$Use", name := "<init>", desc := "(I)V" } : Jvm.MethodName)) ∈ lw_all := lw_g (lw_at lw_m6 193 rfl) rfl
theorem q1616 : (Jvm.Cond.classLink "LetMill$Reader" (285 : Nat) "LetMill$UseCon") ∈ lw_all := lw_g (lw_at lw_m6 206 rfl) rfl
theorem q1618 : (Jvm.Cond.methodLink "LetMill$Reader" (287 : Nat) ({ cls := "LetMill$UseCon", name := "<init>", desc := "(I)V" } : Jvm.MethodName)) ∈ lw_all := lw_g (lw_at lw_m6 208 rfl) rfl
theorem q1628 : (Jvm.Cond.classLink "LetMill$Reader" (288 : Nat) "LetMill$Constant") ∈ lw_all := lw_g (lw_at lw_m6 218 rfl) rfl
theorem q1630 : (Jvm.Cond.methodLink "LetMill$Reader" (290 : Nat) ({ cls := "LetMill$Constant", name := "<init>", desc := "(III)V" } : Jvm.MethodName)) ∈ lw_all := lw_g (lw_at lw_m6 220 rfl) rfl
theorem q1643 : (Jvm.Cond.classLink "LetMill$Reader" (293 : Nat) "LetMill$Built") ∈ lw_all := lw_g (lw_at lw_m6 233 rfl) rfl
theorem q1645 : (Jvm.Cond.methodLink "LetMill$Reader" (297 : Nat) ({ cls := "LetMill$Built", name := "<init>", desc := "(II)V" } : Jvm.MethodName)) ∈ lw_all := lw_g (lw_at lw_m6 235 rfl) rfl
theorem q1655 : (Jvm.Cond.methodLink "LetMill$Reader" (298 : Nat) ({ cls := "LetMill$Reader", name := "round", desc := "(I)LLetMill$Exp;" } : Jvm.MethodName)) ∈ lw_all := lw_g (lw_at lw_m7 5 rfl) rfl
theorem q1657 : (Jvm.Cond.instanceMethod ({ cls := "LetMill$Reader", name := "round", desc := "(I)LLetMill$Exp;" } : Jvm.MethodName)) ∈ lw_all := lw_g (lw_at lw_m7 7 rfl) rfl
theorem q1658 : (Jvm.Cond.code ({ cls := "LetMill$Reader", name := "round", desc := "(I)LLetMill$Exp;" } : Jvm.MethodName) prog_37_method_29_code (5 : Nat) (Option.some (Jvm.ClassFile.FieldType.object "LetMill$Exp"))) ∈ lw_all := lw_g (lw_at lw_m7 8 rfl) rfl
theorem q1659 : (Jvm.Cond.classLink "LetMill$Reader" (309 : Nat) "LetMill$Group") ∈ lw_all := lw_g (lw_at lw_m7 9 rfl) rfl
theorem q1661 : (Jvm.Cond.methodLink "LetMill$Reader" (138 : Nat) ({ cls := "LetMill$Row", name := "exp", desc := "(I)LLetMill$Exp;" } : Jvm.MethodName)) ∈ lw_all := lw_g (lw_at lw_m7 11 rfl) rfl
theorem q1666 : (Jvm.Cond.methodLink "LetMill$Reader" (311 : Nat) ({ cls := "LetMill$Group", name := "<init>", desc := "(ILLetMill$Exp;)V" } : Jvm.MethodName)) ∈ lw_all := lw_g (lw_at lw_m7 16 rfl) rfl
theorem q1676 : (Jvm.Cond.classLink "LetMill$Reader" (314 : Nat) "LetMill$Tuple") ∈ lw_all := lw_g (lw_at lw_m7 26 rfl) rfl
theorem q1678 : (Jvm.Cond.methodLink "LetMill$Reader" (264 : Nat) ({ cls := "LetMill$Reader", name := "expsOf", desc := "(LLetMill$Row;)[LLetMill$Exp;" } : Jvm.MethodName)) ∈ lw_all := lw_g (lw_at lw_m7 28 rfl) rfl
theorem q1679 : (Jvm.Cond.static ({ cls := "LetMill$Reader", name := "expsOf", desc := "(LLetMill$Row;)[LLetMill$Exp;" } : Jvm.MethodName)) ∈ lw_all := lw_g (lw_at lw_m7 29 rfl) rfl
theorem q1680 : (Jvm.Cond.code ({ cls := "LetMill$Reader", name := "expsOf", desc := "(LLetMill$Row;)[LLetMill$Exp;" } : Jvm.MethodName) prog_37_method_12_code (3 : Nat) (Option.some (Jvm.ClassFile.FieldType.array (Jvm.ClassFile.FieldType.object "LetMill$Exp")))) ∈ lw_all := lw_g (lw_at lw_m7 30 rfl) rfl
theorem q1681 : (Jvm.Cond.classLink "LetMill$Reader" (136 : Nat) "LetMill$Exp") ∈ lw_all := lw_g (lw_at lw_m7 31 rfl) rfl
theorem q1683 : (Jvm.Cond.methodLink "LetMill$Reader" (316 : Nat) ({ cls := "LetMill$Tuple", name := "<init>", desc := "(I[LLetMill$Exp;)V" } : Jvm.MethodName)) ∈ lw_all := lw_g (lw_at lw_m7 33 rfl) rfl
theorem q1702 : (Jvm.Cond.classLink "LetMill$Reader" (317 : Nat) "LetMill$Sequence") ∈ lw_all := lw_g (lw_at lw_m7 52 rfl) rfl
theorem q1704 : (Jvm.Cond.methodLink "LetMill$Reader" (319 : Nat) ({ cls := "LetMill$Sequence", name := "<init>", desc := "(I[LLetMill$Exp;)V" } : Jvm.MethodName)) ∈ lw_all := lw_g (lw_at lw_m7 54 rfl) rfl
theorem q1712 : (Jvm.Cond.classLink "LetMill$Reader" (301 : Nat) "LetMill$Listing") ∈ lw_all := lw_g (lw_at lw_m7 62 rfl) rfl
theorem q1714 : (Jvm.Cond.methodLink "LetMill$Reader" (303 : Nat) ({ cls := "LetMill$Listing", name := "<init>", desc := "(I[LLetMill$Exp;)V" } : Jvm.MethodName)) ∈ lw_all := lw_g (lw_at lw_m7 64 rfl) rfl
theorem q1722 : (Jvm.Cond.methodLink "LetMill$Reader" (306 : Nat) ({ cls := "LetMill$Reader", name := "let", desc := "(I)LLetMill$Exp;" } : Jvm.MethodName)) ∈ lw_all := lw_g (lw_at lw_m7 72 rfl) rfl
theorem q1724 : (Jvm.Cond.instanceMethod ({ cls := "LetMill$Reader", name := "let", desc := "(I)LLetMill$Exp;" } : Jvm.MethodName)) ∈ lw_all := lw_g (lw_at lw_m7 74 rfl) rfl
theorem q1725 : (Jvm.Cond.code ({ cls := "LetMill$Reader", name := "let", desc := "(I)LLetMill$Exp;" } : Jvm.MethodName) prog_37_method_30_code (5 : Nat) (Option.some (Jvm.ClassFile.FieldType.object "LetMill$Exp"))) ∈ lw_all := lw_g (lw_at lw_m7 75 rfl) rfl
theorem q1726 : (Jvm.Cond.classLink "LetMill$Reader" (320 : Nat) "LetMill$Let") ∈ lw_all := lw_g (lw_at lw_m7 76 rfl) rfl
theorem q1727 : (Jvm.Cond.methodLink "LetMill$Reader" (325 : Nat) ({ cls := "LetMill$Let", name := "<init>", desc := "(ILLetMill$Row;LLetMill$Exp;)V" } : Jvm.MethodName)) ∈ lw_all := lw_g (lw_at lw_m7 77 rfl) rfl
theorem q1741 : (Jvm.Cond.methodLink "LetMill$Reader" (274 : Nat) ({ cls := "LetMill$Reader", name := "beginsExp", desc := "()Z" } : Jvm.MethodName)) ∈ lw_all := lw_g (lw_at lw_m7 91 rfl) rfl
theorem q1743 : (Jvm.Cond.instanceMethod ({ cls := "LetMill$Reader", name := "beginsExp", desc := "()Z" } : Jvm.MethodName)) ∈ lw_all := lw_g (lw_at lw_m7 93 rfl) rfl
theorem q1744 : (Jvm.Cond.code ({ cls := "LetMill$Reader", name := "beginsExp", desc := "()Z" } : Jvm.MethodName) prog_37_method_26_code (2 : Nat) (Option.some Jvm.ClassFile.FieldType.boolean)) ∈ lw_all := lw_g (lw_at lw_m7 94 rfl) rfl
theorem q1745 : (Jvm.Cond.classLink "LetMill$Reader" (277 : Nat) "LetMill$Apply") ∈ lw_all := lw_g (lw_at lw_m7 95 rfl) rfl
theorem q1747 : (Jvm.Cond.methodLink "LetMill$Reader" (279 : Nat) ({ cls := "LetMill$Apply", name := "<init>", desc := "(ILLetMill$Exp;[LLetMill$Exp;)V" } : Jvm.MethodName)) ∈ lw_all := lw_g (lw_at lw_m7 97 rfl) rfl
theorem q1760 : (Jvm.Cond.methodLink "LetMill$Reader" (249 : Nat) ({ cls := "LetMill$Reader", name := "levelOf", desc := "(I)I" } : Jvm.MethodName)) ∈ lw_all := lw_g (lw_at lw_m7 110 rfl) rfl
theorem q1761 : (Jvm.Cond.static ({ cls := "LetMill$Reader", name := "levelOf", desc := "(I)I" } : Jvm.MethodName)) ∈ lw_all := lw_g (lw_at lw_m7 111 rfl) rfl
theorem q1762 : (Jvm.Cond.code ({ cls := "LetMill$Reader", name := "levelOf", desc := "(I)I" } : Jvm.MethodName) prog_37_method_24_code (1 : Nat) (Option.some Jvm.ClassFile.FieldType.int)) ∈ lw_all := lw_g (lw_at lw_m7 112 rfl) rfl
theorem q1763 : (Jvm.Cond.classLink "LetMill$Reader" (252 : Nat) "LetMill$Sign") ∈ lw_all := lw_g (lw_at lw_m7 113 rfl) rfl
theorem q1765 : (Jvm.Cond.methodLink "LetMill$Reader" (254 : Nat) ({ cls := "LetMill$Sign", name := "<init>", desc := "(IILLetMill$Exp;LLetMill$Exp;)V" } : Jvm.MethodName)) ∈ lw_all := lw_g (lw_at lw_m7 115 rfl) rfl
theorem q1781 : (Jvm.Cond.classLink "LetMill$Reader" (257 : Nat) "LetMill$Signs") ∈ lw_all := lw_g (lw_at lw_m7 131 rfl) rfl
theorem q1783 : (Jvm.Cond.methodLinkNest "LetMill$Reader" (259 : Nat) ({ cls := "LetMill$Signs", name := "<init>", desc := "()V" } : Jvm.MethodName) "LetMill") ∈ lw_tbl := lw_at lw_m7 133 rfl
theorem q1794 : (Jvm.Cond.methodLink "LetMill$Reader" (260 : Nat) ({ cls := "LetMill$Signs", name := "add", desc := "(I)V" } : Jvm.MethodName)) ∈ lw_all := lw_g (lw_at lw_m7 144 rfl) rfl
theorem q1798 : (Jvm.Cond.classLink "LetMill$Reader" (262 : Nat) "LetMill$Chain") ∈ lw_all := lw_g (lw_at lw_m7 148 rfl) rfl
theorem q1800 : (Jvm.Cond.methodLink "LetMill$Reader" (268 : Nat) ({ cls := "LetMill$Chain", name := "<init>", desc := "(ILLetMill$Exp;LLetMill$Signs;[LLetMill$Exp;)V" } : Jvm.MethodName)) ∈ lw_all := lw_g (lw_at lw_m7 150 rfl) rfl
theorem q1816 : (Jvm.Cond.methodLink "LetMill$Reader" (81 : Nat) ({ cls := "LetMill$Val", name := "<init>", desc := "(ILLetMill$Pat;LLetMill$Exp;)V" } : Jvm.MethodName)) ∈ lw_all := lw_g (lw_at lw_m7 166 rfl) rfl
theorem q1841 : (Jvm.Cond.methodLink "LetMill$Reader" (84 : Nat) ({ cls := "LetMill$Reader", name := "fun", desc := "()LLetMill$Fun;" } : Jvm.MethodName)) ∈ lw_all := lw_g (lw_at lw_m7 191 rfl) rfl
theorem q1843 : (Jvm.Cond.instanceMethod ({ cls := "LetMill$Reader", name := "fun", desc := "()LLetMill$Fun;" } : Jvm.MethodName)) ∈ lw_all := lw_g (lw_at lw_m7 193 rfl) rfl
theorem q1844 : (Jvm.Cond.code ({ cls := "LetMill$Reader", name := "fun", desc := "()LLetMill$Fun;" } : Jvm.MethodName) prog_37_method_10_code (5 : Nat) (Option.some (Jvm.ClassFile.FieldType.object "LetMill$Fun"))) ∈ lw_all := lw_g (lw_at lw_m7 194 rfl) rfl
theorem q1845 : (Jvm.Cond.classLink "LetMill$Reader" (104 : Nat) "LetMill$Fun") ∈ lw_all := lw_g (lw_at lw_m7 195 rfl) rfl
theorem q1847 : (Jvm.Cond.methodLink "LetMill$Reader" (106 : Nat) ({ cls := "LetMill$Fun", name := "<init>", desc := "(I)V" } : Jvm.MethodName)) ∈ lw_all := lw_g (lw_at lw_m7 197 rfl) rfl
theorem q1857 : (Jvm.Cond.fieldLink "LetMill$Reader" (109 : Nat) "LetMill$Fun" "clauses" "LLetMill$Row;") ∈ lw_all := lw_g (lw_at lw_m7 207 rfl) rfl
theorem q1869 : (Jvm.Cond.classLink "LetMill$Reader" (92 : Nat) "LetMill$Funs") ∈ lw_all := lw_g (lw_at lw_m7 219 rfl) rfl
theorem q1871 : (Jvm.Cond.methodLink "LetMill$Reader" (94 : Nat) ({ cls := "LetMill$Funs", name := "<init>", desc := "(ILLetMill$Row;)V" } : Jvm.MethodName)) ∈ lw_all := lw_g (lw_at lw_m7 221 rfl) rfl
theorem q1880 : (Jvm.Cond.methodLink "LetMill$Reader" (97 : Nat) ({ cls := "LetMill$Reader", name := "data", desc := "()LLetMill$Data;" } : Jvm.MethodName)) ∈ lw_all := lw_g (lw_at lw_m7 230 rfl) rfl
theorem q1882 : (Jvm.Cond.instanceMethod ({ cls := "LetMill$Reader", name := "data", desc := "()LLetMill$Data;" } : Jvm.MethodName)) ∈ lw_all := lw_g (lw_at lw_m7 232 rfl) rfl
theorem q1883 : (Jvm.Cond.code ({ cls := "LetMill$Reader", name := "data", desc := "()LLetMill$Data;" } : Jvm.MethodName) prog_37_method_13_code (7 : Nat) (Option.some (Jvm.ClassFile.FieldType.object "LetMill$Data"))) ∈ lw_all := lw_g (lw_at lw_m7 233 rfl) rfl
theorem q1884 : (Jvm.Cond.classLink "LetMill$Reader" (141 : Nat) "LetMill$Data") ∈ lw_all := lw_g (lw_at lw_m7 234 rfl) rfl
theorem q1886 : (Jvm.Cond.methodLink "LetMill$Reader" (143 : Nat) ({ cls := "LetMill$Data", name := "<init>", desc := "(I[II)V" } : Jvm.MethodName)) ∈ lw_all := lw_g (lw_at lw_m7 236 rfl) rfl
theorem q1902 : (Jvm.Cond.fieldLink "LetMill$Reader" (150 : Nat) "LetMill$Data" "cons" "LLetMill$Row;") ∈ lw_all := lw_g (lw_at lw_m8 12 rfl) rfl
theorem q1915 : (Jvm.Cond.methodLink "LetMill$Reader" (146 : Nat) ({ cls := "LetMill$Reader", name := "ty", desc := "()LLetMill$Ty;" } : Jvm.MethodName)) ∈ lw_all := lw_g (lw_at lw_m8 25 rfl) rfl
theorem q1917 : (Jvm.Cond.instanceMethod ({ cls := "LetMill$Reader", name := "ty", desc := "()LLetMill$Ty;" } : Jvm.MethodName)) ∈ lw_all := lw_g (lw_at lw_m8 27 rfl) rfl
theorem q1918 : (Jvm.Cond.code ({ cls := "LetMill$Reader", name := "ty", desc := "()LLetMill$Ty;" } : Jvm.MethodName) prog_37_method_14_code (4 : Nat) (Option.some (Jvm.ClassFile.FieldType.object "LetMill$Ty"))) ∈ lw_all := lw_g (lw_at lw_m8 28 rfl) rfl
theorem q1919 : (Jvm.Cond.methodLink "LetMill$Reader" (158 : Nat) ({ cls := "LetMill$Reader", name := "product", desc := "()LLetMill$Ty;" } : Jvm.MethodName)) ∈ lw_all := lw_g (lw_at lw_m8 29 rfl) rfl
theorem q1921 : (Jvm.Cond.instanceMethod ({ cls := "LetMill$Reader", name := "product", desc := "()LLetMill$Ty;" } : Jvm.MethodName)) ∈ lw_all := lw_g (lw_at lw_m8 31 rfl) rfl
theorem q1922 : (Jvm.Cond.code ({ cls := "LetMill$Reader", name := "product", desc := "()LLetMill$Ty;" } : Jvm.MethodName) prog_37_method_15_code (4 : Nat) (Option.some (Jvm.ClassFile.FieldType.object "LetMill$Ty"))) ∈ lw_all := lw_g (lw_at lw_m8 32 rfl) rfl
theorem q1923 : (Jvm.Cond.methodLink "LetMill$Reader" (166 : Nat) ({ cls := "LetMill$Reader", name := "applied", desc := "()LLetMill$Ty;" } : Jvm.MethodName)) ∈ lw_all := lw_g (lw_at lw_m8 33 rfl) rfl
theorem q1925 : (Jvm.Cond.instanceMethod ({ cls := "LetMill$Reader", name := "applied", desc := "()LLetMill$Ty;" } : Jvm.MethodName)) ∈ lw_all := lw_g (lw_at lw_m8 35 rfl) rfl
theorem q1926 : (Jvm.Cond.code ({ cls := "LetMill$Reader", name := "applied", desc := "()LLetMill$Ty;" } : Jvm.MethodName) prog_37_method_16_code (4 : Nat) (Option.some (Jvm.ClassFile.FieldType.object "LetMill$Ty"))) ∈ lw_all := lw_g (lw_at lw_m8 36 rfl) rfl
theorem q1927 : (Jvm.Cond.methodLink "LetMill$Reader" (172 : Nat) ({ cls := "LetMill$Row", name := "ty", desc := "(I)LLetMill$Ty;" } : Jvm.MethodName)) ∈ lw_all := lw_g (lw_at lw_m8 37 rfl) rfl
theorem q1932 : (Jvm.Cond.classLink "LetMill$Reader" (175 : Nat) "LetMill$TyName") ∈ lw_all := lw_g (lw_at lw_m8 42 rfl) rfl
theorem q1934 : (Jvm.Cond.methodLink "LetMill$Reader" (177 : Nat) ({ cls := "LetMill$TyName", name := "<init>", desc := "(ILLetMill$Row;)V" } : Jvm.MethodName)) ∈ lw_all := lw_g (lw_at lw_m8 44 rfl) rfl
theorem q1955 : (Jvm.Cond.classLink "LetMill$Reader" (178 : Nat) "LetMill$TyVariable") ∈ lw_all := lw_g (lw_at lw_m8 65 rfl) rfl
theorem q1957 : (Jvm.Cond.methodLink "LetMill$Reader" (180 : Nat) ({ cls := "LetMill$TyVariable", name := "<init>", desc := "(I)V" } : Jvm.MethodName)) ∈ lw_all := lw_g (lw_at lw_m8 67 rfl) rfl
theorem q1966 : (Jvm.Cond.classLink "LetMill$Reader" (169 : Nat) "LetMill$TyProduct") ∈ lw_all := lw_g (lw_at lw_m8 76 rfl) rfl
theorem q1968 : (Jvm.Cond.methodLink "LetMill$Reader" (171 : Nat) ({ cls := "LetMill$TyProduct", name := "<init>", desc := "(ILLetMill$Row;)V" } : Jvm.MethodName)) ∈ lw_all := lw_g (lw_at lw_m8 78 rfl) rfl
theorem q1977 : (Jvm.Cond.classLink "LetMill$Reader" (161 : Nat) "LetMill$TyFun") ∈ lw_all := lw_g (lw_at lw_m8 87 rfl) rfl
theorem q1979 : (Jvm.Cond.methodLink "LetMill$Reader" (163 : Nat) ({ cls := "LetMill$TyFun", name := "<init>", desc := "(ILLetMill$Ty;LLetMill$Ty;)V" } : Jvm.MethodName)) ∈ lw_all := lw_g (lw_at lw_m8 89 rfl) rfl
theorem q1991 : (Jvm.Cond.classLink "LetMill$Reader" (153 : Nat) "LetMill$ConDec") ∈ lw_all := lw_g (lw_at lw_m8 101 rfl) rfl
theorem q1993 : (Jvm.Cond.methodLink "LetMill$Reader" (155 : Nat) ({ cls := "LetMill$ConDec", name := "<init>", desc := "(ILLetMill$Ty;)V" } : Jvm.MethodName)) ∈ lw_all := lw_g (lw_at lw_m8 103 rfl) rfl
theorem q2009 : (Jvm.Cond.classLink "LetMill$Reader" (101 : Nat) "LetMill$Datas") ∈ lw_all := lw_g (lw_at lw_m8 119 rfl) rfl
theorem q2011 : (Jvm.Cond.methodLink "LetMill$Reader" (103 : Nat) ({ cls := "LetMill$Datas", name := "<init>", desc := "(ILLetMill$Row;)V" } : Jvm.MethodName)) ∈ lw_all := lw_g (lw_at lw_m8 121 rfl) rfl
def RX13 : String := "LetMill$Printer"
abbrev cX13_init : ByteArray := prog_36_method_1_code
def yX13_init : MethodName := ⟨RX13, "<init>", "(LLetMill$Types;LLetMill$Machine;)V"⟩
abbrev cX13_type : ByteArray := prog_36_method_7_code
def yX13_type : MethodName := ⟨RX13, "type", "([I)V"⟩
abbrev cX13_type_2 : ByteArray := prog_36_method_8_code
def yX13_type_2 : MethodName := ⟨RX13, "type", "(I)V"⟩
abbrev cX13_put : ByteArray := prog_36_method_3_code
def yX13_put : MethodName := ⟨RX13, "put", "(I)V"⟩
abbrev cX13_digits : ByteArray := prog_36_method_5_code
def yX13_digits : MethodName := ⟨RX13, "digits", "(J)V"⟩
abbrev cX13_put_2 : ByteArray := prog_36_method_4_code
def yX13_put_2 : MethodName := ⟨RX13, "put", "(Ljava/lang/String;)V"⟩
abbrev cX13_name : ByteArray := prog_36_method_6_code
def yX13_name : MethodName := ⟨RX13, "name", "(JJ)V"⟩
abbrev cX13_value : ByteArray := prog_36_method_9_code
def yX13_value : MethodName := ⟨RX13, "value", "(I)V"⟩
abbrev cX13_value_2 : ByteArray := prog_36_method_10_code
def yX13_value_2 : MethodName := ⟨RX13, "value", "(IIZ)V"⟩
abbrev cX13_named : ByteArray := prog_36_method_11_code
def yX13_named : MethodName := ⟨RX13, "named", "(IIZ)V"⟩
abbrev cX13_letter : ByteArray := prog_36_method_2_code
def yX13_letter : MethodName := ⟨RX13, "letter", "(I)I"⟩
theorem q227 : (Jvm.Cond.initialized "LetMill$Printer") ∈ lw_all := lw_g (lw_at lw_m1 17 rfl) rfl
theorem q438 : (Jvm.Cond.fieldLink "LetMill$Printer" (81 : Nat) "LetMill$TypeName" "name" "J") ∈ lw_all := lw_g (lw_at lw_m1 228 rfl) rfl
theorem q441 : (Jvm.Cond.fieldLink "LetMill$Printer" (84 : Nat) "LetMill$TypeName" "more" "J") ∈ lw_all := lw_g (lw_at lw_m1 231 rfl) rfl
theorem q445 : (Jvm.Cond.fieldLink "LetMill$Printer" (67 : Nat) "LetMill$TypeName" "arguments" "I") ∈ lw_all := lw_g (lw_at lw_m1 235 rfl) rfl
theorem q875 : (Jvm.Cond.instantiable "LetMill$Printer" (6 : Nat)) ∈ lw_all := lw_g (lw_at lw_m3 185 rfl) rfl
theorem q877 : (Jvm.Cond.instanceMethod ({ cls := "LetMill$Printer", name := "<init>", desc := "(LLetMill$Types;LLetMill$Machine;)V" } : Jvm.MethodName)) ∈ lw_all := lw_g (lw_at lw_m3 187 rfl) rfl
theorem q878 : (Jvm.Cond.code ({ cls := "LetMill$Printer", name := "<init>", desc := "(LLetMill$Types;LLetMill$Machine;)V" } : Jvm.MethodName) prog_36_method_1_code (3 : Nat) (Option.none : Option Jvm.ClassFile.FieldType)) ∈ lw_all := lw_g (lw_at lw_m3 188 rfl) rfl
theorem q879 : (Jvm.Cond.methodLink "LetMill$Printer" (1 : Nat) ({ cls := "java/lang/Object", name := "<init>", desc := "()V" } : Jvm.MethodName)) ∈ lw_all := lw_g (lw_at lw_m3 189 rfl) rfl
theorem q880 : (Jvm.Cond.fieldLink "LetMill$Printer" (9 : Nat) "LetMill$Printer" "out" "[B") ∈ lw_all := lw_g (lw_at lw_m3 190 rfl) rfl
theorem q881 : (Jvm.Cond.fieldLink "LetMill$Printer" (21 : Nat) "LetMill$Printer" "size" "I") ∈ lw_all := lw_g (lw_at lw_m3 191 rfl) rfl
theorem q883 : (Jvm.Cond.fieldLink "LetMill$Printer" (13 : Nat) "LetMill$Printer" "types" "LLetMill$Types;") ∈ lw_all := lw_g (lw_at lw_m3 193 rfl) rfl
theorem q884 : (Jvm.Cond.fieldLink "LetMill$Printer" (17 : Nat) "LetMill$Printer" "m" "LLetMill$Machine;") ∈ lw_all := lw_g (lw_at lw_m3 194 rfl) rfl
theorem q885 : (Jvm.Cond.fieldLink "LetMill$Printer" (51 : Nat) "LetMill$Printer" "written" "[I") ∈ lw_all := lw_g (lw_at lw_m3 195 rfl) rfl
theorem q886 : (Jvm.Cond.fieldLink "LetMill$Printer" (55 : Nat) "LetMill$Printer" "at" "I") ∈ lw_all := lw_g (lw_at lw_m3 196 rfl) rfl
theorem q887 : (Jvm.Cond.laysFinal "LetMill$Printer" "LetMill$Printer" "out" "[B") ∈ lw_all := lw_g (lw_at lw_m3 197 rfl) rfl
theorem q889 : (Jvm.Cond.lays "LetMill$Printer" "LetMill$Printer" "size" "I") ∈ lw_all := lw_g (lw_at lw_m3 199 rfl) rfl
theorem q891 : (Jvm.Cond.laysFinal "LetMill$Printer" "LetMill$Printer" "types" "LLetMill$Types;") ∈ lw_all := lw_g (lw_at lw_m3 201 rfl) rfl
theorem q893 : (Jvm.Cond.laysFinal "LetMill$Printer" "LetMill$Printer" "m" "LLetMill$Machine;") ∈ lw_all := lw_g (lw_at lw_m3 203 rfl) rfl
theorem q895 : (Jvm.Cond.lays "LetMill$Printer" "LetMill$Printer" "written" "[I") ∈ lw_all := lw_g (lw_at lw_m3 205 rfl) rfl
theorem q897 : (Jvm.Cond.lays "LetMill$Printer" "LetMill$Printer" "at" "I") ∈ lw_all := lw_g (lw_at lw_m3 207 rfl) rfl
theorem q2137 : (Jvm.Cond.fieldLink "LetMill$Printer" (151 : Nat) "LetMill$Con" "name" "J") ∈ lw_all := lw_g (lw_at lw_m9 7 rfl) rfl
theorem q2140 : (Jvm.Cond.fieldLink "LetMill$Printer" (152 : Nat) "LetMill$Con" "more" "J") ∈ lw_all := lw_g (lw_at lw_m9 10 rfl) rfl
theorem q2150 : (Jvm.Cond.fieldLink "LetMill$Printer" (143 : Nat) "LetMill$Con" "isWith" "Z") ∈ lw_all := lw_g (lw_at lw_m9 20 rfl) rfl
theorem q3333 : (Jvm.Cond.instanceMethod ({ cls := "LetMill$Printer", name := "type", desc := "([I)V" } : Jvm.MethodName)) ∈ lw_all := lw_g (lw_at lw_m14 3 rfl) rfl
theorem q3334 : (Jvm.Cond.selects "LetMill$Printer" ({ cls := "LetMill$Printer", name := "type", desc := "([I)V" } : Jvm.MethodName) ({ cls := "LetMill$Printer", name := "type", desc := "([I)V" } : Jvm.MethodName)) ∈ lw_all := lw_g (lw_at lw_m14 4 rfl) rfl
theorem q3335 : (Jvm.Cond.code ({ cls := "LetMill$Printer", name := "type", desc := "([I)V" } : Jvm.MethodName) prog_36_method_7_code (2 : Nat) (Option.none : Option Jvm.ClassFile.FieldType)) ∈ lw_all := lw_g (lw_at lw_m14 5 rfl) rfl
theorem q3336 : (Jvm.Cond.methodLink "LetMill$Printer" (58 : Nat) ({ cls := "LetMill$Printer", name := "type", desc := "(I)V" } : Jvm.MethodName)) ∈ lw_all := lw_g (lw_at lw_m14 6 rfl) rfl
theorem q3338 : (Jvm.Cond.instanceMethod ({ cls := "LetMill$Printer", name := "type", desc := "(I)V" } : Jvm.MethodName)) ∈ lw_all := lw_g (lw_at lw_m14 8 rfl) rfl
theorem q3339 : (Jvm.Cond.code ({ cls := "LetMill$Printer", name := "type", desc := "(I)V" } : Jvm.MethodName) prog_36_method_8_code (8 : Nat) (Option.none : Option Jvm.ClassFile.FieldType)) ∈ lw_all := lw_g (lw_at lw_m14 9 rfl) rfl
theorem q3340 : (Jvm.Cond.methodLink "LetMill$Printer" (35 : Nat) ({ cls := "LetMill$Printer", name := "put", desc := "(I)V" } : Jvm.MethodName)) ∈ lw_all := lw_g (lw_at lw_m14 10 rfl) rfl
theorem q3342 : (Jvm.Cond.instanceMethod ({ cls := "LetMill$Printer", name := "put", desc := "(I)V" } : Jvm.MethodName)) ∈ lw_all := lw_g (lw_at lw_m14 12 rfl) rfl
theorem q3343 : (Jvm.Cond.code ({ cls := "LetMill$Printer", name := "put", desc := "(I)V" } : Jvm.MethodName) prog_36_method_3_code (2 : Nat) (Option.none : Option Jvm.ClassFile.FieldType)) ∈ lw_all := lw_g (lw_at lw_m14 13 rfl) rfl
theorem q3344 : (Jvm.Cond.methodLink "LetMill$Printer" (43 : Nat) ({ cls := "LetMill$Printer", name := "digits", desc := "(J)V" } : Jvm.MethodName)) ∈ lw_all := lw_g (lw_at lw_m14 14 rfl) rfl
theorem q3346 : (Jvm.Cond.instanceMethod ({ cls := "LetMill$Printer", name := "digits", desc := "(J)V" } : Jvm.MethodName)) ∈ lw_all := lw_g (lw_at lw_m14 16 rfl) rfl
theorem q3347 : (Jvm.Cond.code ({ cls := "LetMill$Printer", name := "digits", desc := "(J)V" } : Jvm.MethodName) prog_36_method_5_code (3 : Nat) (Option.none : Option Jvm.ClassFile.FieldType)) ∈ lw_all := lw_g (lw_at lw_m14 17 rfl) rfl
theorem q3348 : (Jvm.Cond.constantLong "LetMill$Printer" (39 : Nat) (9 : Int64)) ∈ lw_all := lw_g (lw_at lw_m14 18 rfl) rfl
theorem q3349 : (Jvm.Cond.constantLong "LetMill$Printer" (41 : Nat) (10 : Int64)) ∈ lw_all := lw_g (lw_at lw_m14 19 rfl) rfl
theorem q3350 : (Jvm.Cond.constantLong "LetMill$Printer" (47 : Nat) (48 : Int64)) ∈ lw_all := lw_g (lw_at lw_m14 20 rfl) rfl
theorem q3351 : (Jvm.Cond.methodLink "LetMill$Printer" (61 : Nat) ({ cls := "LetMill$Types", name := "name", desc := "(I)LLetMill$TypeName;" } : Jvm.MethodName)) ∈ lw_all := lw_g (lw_at lw_m14 21 rfl) rfl
theorem q3352 : (Jvm.Cond.stringRef "LetMill$Printer" (72 : Nat) " -> ") ∈ lw_tbl := lw_at lw_m14 22 rfl
theorem q3353 : (Jvm.Cond.stringRef "LetMill$Printer" (74 : Nat) " * ") ∈ lw_tbl := lw_at lw_m14 23 rfl
theorem q3354 : (Jvm.Cond.methodLink "LetMill$Printer" (76 : Nat) ({ cls := "LetMill$Printer", name := "put", desc := "(Ljava/lang/String;)V" } : Jvm.MethodName)) ∈ lw_all := lw_g (lw_at lw_m14 24 rfl) rfl
theorem q3356 : (Jvm.Cond.instanceMethod ({ cls := "LetMill$Printer", name := "put", desc := "(Ljava/lang/String;)V" } : Jvm.MethodName)) ∈ lw_all := lw_g (lw_at lw_m14 26 rfl) rfl
theorem q3357 : (Jvm.Cond.code ({ cls := "LetMill$Printer", name := "put", desc := "(Ljava/lang/String;)V" } : Jvm.MethodName) prog_36_method_4_code (3 : Nat) (Option.none : Option Jvm.ClassFile.FieldType)) ∈ lw_all := lw_g (lw_at lw_m14 27 rfl) rfl
theorem q3358 : (Jvm.Cond.methodLink "LetMill$Printer" (25 : Nat) ({ cls := "java/lang/String", name := "length", desc := "()I" } : Jvm.MethodName)) ∈ lw_all := lw_g (lw_at lw_m14 28 rfl) rfl
theorem q3359 : (Jvm.Cond.methodLink "LetMill$Printer" (31 : Nat) ({ cls := "java/lang/String", name := "charAt", desc := "(I)C" } : Jvm.MethodName)) ∈ lw_all := lw_g (lw_at lw_m14 29 rfl) rfl
theorem q3360 : (Jvm.Cond.stringRef "LetMill$Printer" (79 : Nat) ", ") ∈ lw_tbl := lw_at lw_m14 30 rfl
theorem q3361 : (Jvm.Cond.methodLink "LetMill$Printer" (87 : Nat) ({ cls := "LetMill$Printer", name := "name", desc := "(JJ)V" } : Jvm.MethodName)) ∈ lw_all := lw_g (lw_at lw_m14 31 rfl) rfl
theorem q3363 : (Jvm.Cond.instanceMethod ({ cls := "LetMill$Printer", name := "name", desc := "(JJ)V" } : Jvm.MethodName)) ∈ lw_all := lw_g (lw_at lw_m14 33 rfl) rfl
theorem q3364 : (Jvm.Cond.code ({ cls := "LetMill$Printer", name := "name", desc := "(JJ)V" } : Jvm.MethodName) prog_36_method_6_code (6 : Nat) (Option.none : Option Jvm.ClassFile.FieldType)) ∈ lw_all := lw_g (lw_at lw_m14 34 rfl) rfl
theorem q3365 : (Jvm.Cond.constantLong "LetMill$Printer" (49 : Nat) (255 : Int64)) ∈ lw_all := lw_g (lw_at lw_m14 35 rfl) rfl
theorem q3367 : (Jvm.Cond.instanceMethod ({ cls := "LetMill$Printer", name := "value", desc := "(I)V" } : Jvm.MethodName)) ∈ lw_all := lw_g (lw_at lw_m14 37 rfl) rfl
theorem q3368 : (Jvm.Cond.selects "LetMill$Printer" ({ cls := "LetMill$Printer", name := "value", desc := "(I)V" } : Jvm.MethodName) ({ cls := "LetMill$Printer", name := "value", desc := "(I)V" } : Jvm.MethodName)) ∈ lw_all := lw_g (lw_at lw_m14 38 rfl) rfl
theorem q3369 : (Jvm.Cond.code ({ cls := "LetMill$Printer", name := "value", desc := "(I)V" } : Jvm.MethodName) prog_36_method_9_code (2 : Nat) (Option.none : Option Jvm.ClassFile.FieldType)) ∈ lw_all := lw_g (lw_at lw_m14 39 rfl) rfl
theorem q3370 : (Jvm.Cond.methodLink "LetMill$Printer" (90 : Nat) ({ cls := "LetMill$Printer", name := "value", desc := "(IIZ)V" } : Jvm.MethodName)) ∈ lw_all := lw_g (lw_at lw_m14 40 rfl) rfl
theorem q3372 : (Jvm.Cond.instanceMethod ({ cls := "LetMill$Printer", name := "value", desc := "(IIZ)V" } : Jvm.MethodName)) ∈ lw_all := lw_g (lw_at lw_m14 42 rfl) rfl
theorem q3373 : (Jvm.Cond.code ({ cls := "LetMill$Printer", name := "value", desc := "(IIZ)V" } : Jvm.MethodName) prog_36_method_10_code (6 : Nat) (Option.none : Option Jvm.ClassFile.FieldType)) ∈ lw_all := lw_g (lw_at lw_m14 43 rfl) rfl
theorem q3374 : (Jvm.Cond.methodLink "LetMill$Printer" (94 : Nat) ({ cls := "LetMill$Machine", name := "tag", desc := "(I)I" } : Jvm.MethodName)) ∈ lw_all := lw_g (lw_at lw_m14 44 rfl) rfl
theorem q3375 : (Jvm.Cond.stringRef "LetMill$Printer" (100 : Nat) "()") ∈ lw_tbl := lw_at lw_m14 45 rfl
theorem q3376 : (Jvm.Cond.stringRef "LetMill$Printer" (102 : Nat) "false") ∈ lw_tbl := lw_at lw_m14 46 rfl
theorem q3377 : (Jvm.Cond.stringRef "LetMill$Printer" (104 : Nat) "true") ∈ lw_tbl := lw_at lw_m14 47 rfl
theorem q3378 : (Jvm.Cond.stringRef "LetMill$Printer" (106 : Nat) "[]") ∈ lw_tbl := lw_at lw_m14 48 rfl
theorem q3379 : (Jvm.Cond.methodLink "LetMill$Printer" (108 : Nat) ({ cls := "LetMill$Machine", name := "whole", desc := "(I)I" } : Jvm.MethodName)) ∈ lw_all := lw_g (lw_at lw_m14 49 rfl) rfl
theorem q3380 : (Jvm.Cond.methodLink "LetMill$Printer" (111 : Nat) ({ cls := "java/lang/Math", name := "abs", desc := "(J)J" } : Jvm.MethodName)) ∈ lw_all := lw_g (lw_at lw_m14 50 rfl) rfl
theorem q3383 : (Jvm.Cond.methodLink "LetMill$Printer" (117 : Nat) ({ cls := "LetMill$Machine", name := "parts", desc := "(I)I" } : Jvm.MethodName)) ∈ lw_all := lw_g (lw_at lw_m14 53 rfl) rfl
theorem q3387 : (Jvm.Cond.methodLink "LetMill$Printer" (120 : Nat) ({ cls := "LetMill$Machine", name := "part", desc := "(II)I" } : Jvm.MethodName)) ∈ lw_all := lw_g (lw_at lw_m14 57 rfl) rfl
theorem q3388 : (Jvm.Cond.methodLink "LetMill$Printer" (124 : Nat) ({ cls := "LetMill$Machine", name := "isPair", desc := "(I)Z" } : Jvm.MethodName)) ∈ lw_all := lw_g (lw_at lw_m14 58 rfl) rfl
theorem q3389 : (Jvm.Cond.methodLink "LetMill$Printer" (128 : Nat) ({ cls := "LetMill$Machine", name := "head", desc := "(I)I" } : Jvm.MethodName)) ∈ lw_all := lw_g (lw_at lw_m14 59 rfl) rfl
theorem q3390 : (Jvm.Cond.methodLink "LetMill$Printer" (131 : Nat) ({ cls := "LetMill$Machine", name := "tail", desc := "(I)I" } : Jvm.MethodName)) ∈ lw_all := lw_g (lw_at lw_m14 60 rfl) rfl
theorem q3391 : (Jvm.Cond.methodLink "LetMill$Printer" (134 : Nat) ({ cls := "LetMill$Printer", name := "named", desc := "(IIZ)V" } : Jvm.MethodName)) ∈ lw_all := lw_g (lw_at lw_m14 61 rfl) rfl
theorem q3393 : (Jvm.Cond.instanceMethod ({ cls := "LetMill$Printer", name := "named", desc := "(IIZ)V" } : Jvm.MethodName)) ∈ lw_all := lw_g (lw_at lw_m14 63 rfl) rfl
theorem q3394 : (Jvm.Cond.code ({ cls := "LetMill$Printer", name := "named", desc := "(IIZ)V" } : Jvm.MethodName) prog_36_method_11_code (6 : Nat) (Option.none : Option Jvm.ClassFile.FieldType)) ∈ lw_all := lw_g (lw_at lw_m14 64 rfl) rfl
theorem q3395 : (Jvm.Cond.methodLink "LetMill$Printer" (139 : Nat) ({ cls := "LetMill$Machine", name := "con", desc := "(I)LLetMill$Con;" } : Jvm.MethodName)) ∈ lw_all := lw_g (lw_at lw_m14 65 rfl) rfl
theorem q3396 : (Jvm.Cond.stringRef "LetMill$Printer" (149 : Nat) "ref") ∈ lw_tbl := lw_at lw_m14 66 rfl
theorem q3397 : (Jvm.Cond.methodLink "LetMill$Printer" (153 : Nat) ({ cls := "LetMill$Machine", name := "has", desc := "(I)I" } : Jvm.MethodName)) ∈ lw_all := lw_g (lw_at lw_m14 67 rfl) rfl
theorem q3398 : (Jvm.Cond.stringRef "LetMill$Printer" (137 : Nat) "fn") ∈ lw_tbl := lw_at lw_m14 68 rfl
theorem q3407 : (Jvm.Cond.instanceMethod ({ cls := "LetMill$Printer", name := "letter", desc := "(I)I" } : Jvm.MethodName)) ∈ lw_all := lw_g (lw_at lw_m14 77 rfl) rfl
theorem q3408 : (Jvm.Cond.selects "LetMill$Printer" ({ cls := "LetMill$Printer", name := "letter", desc := "(I)I" } : Jvm.MethodName) ({ cls := "LetMill$Printer", name := "letter", desc := "(I)I" } : Jvm.MethodName)) ∈ lw_all := lw_g (lw_at lw_m14 78 rfl) rfl
theorem q3409 : (Jvm.Cond.code ({ cls := "LetMill$Printer", name := "letter", desc := "(I)I" } : Jvm.MethodName) prog_36_method_2_code (2 : Nat) (Option.some Jvm.ClassFile.FieldType.int)) ∈ lw_all := lw_g (lw_at lw_m14 79 rfl) rfl
def RX14 : String := "LetMill$Binding"
abbrev cX14_init : ByteArray := prog_4_method_1_code
def yX14_init : MethodName := ⟨RX14, "<init>", "(JJ)V"⟩
theorem q228 : (Jvm.Cond.initialized "LetMill$Binding") ∈ lw_all := lw_g (lw_at lw_m1 18 rfl) rfl
theorem q911 : (Jvm.Cond.instantiable "LetMill$Binding" (7 : Nat)) ∈ lw_all := lw_g (lw_at lw_m3 221 rfl) rfl
theorem q914 : (Jvm.Cond.instanceMethod ({ cls := "LetMill$Binding", name := "<init>", desc := "(JJ)V" } : Jvm.MethodName)) ∈ lw_all := lw_g (lw_at lw_m3 224 rfl) rfl
theorem q915 : (Jvm.Cond.code ({ cls := "LetMill$Binding", name := "<init>", desc := "(JJ)V" } : Jvm.MethodName) prog_4_method_1_code (5 : Nat) (Option.none : Option Jvm.ClassFile.FieldType)) ∈ lw_all := lw_g (lw_at lw_m3 225 rfl) rfl
theorem q916 : (Jvm.Cond.methodLink "LetMill$Binding" (1 : Nat) ({ cls := "java/lang/Object", name := "<init>", desc := "()V" } : Jvm.MethodName)) ∈ lw_all := lw_g (lw_at lw_m3 226 rfl) rfl
theorem q917 : (Jvm.Cond.fieldLink "LetMill$Binding" (7 : Nat) "LetMill$Binding" "name" "J") ∈ lw_all := lw_g (lw_at lw_m3 227 rfl) rfl
theorem q920 : (Jvm.Cond.fieldLink "LetMill$Binding" (13 : Nat) "LetMill$Binding" "more" "J") ∈ lw_all := lw_g (lw_at lw_m3 230 rfl) rfl
theorem q938 : (Jvm.Cond.laysFinal "LetMill$Binding" "LetMill$Binding" "name" "J") ∈ lw_all := lw_g (lw_at lw_m4 8 rfl) rfl
theorem q940 : (Jvm.Cond.laysFinal "LetMill$Binding" "LetMill$Binding" "more" "J") ∈ lw_all := lw_g (lw_at lw_m4 10 rfl) rfl
theorem q942 : (Jvm.Cond.lays "LetMill$Binding" "LetMill$Binding" "type" "I") ∈ lw_all := lw_g (lw_at lw_m4 12 rfl) rfl
theorem q944 : (Jvm.Cond.lays "LetMill$Binding" "LetMill$Binding" "isScheme" "Z") ∈ lw_all := lw_g (lw_at lw_m4 14 rfl) rfl
theorem q946 : (Jvm.Cond.lays "LetMill$Binding" "LetMill$Binding" "level" "I") ∈ lw_all := lw_g (lw_at lw_m4 16 rfl) rfl
theorem q948 : (Jvm.Cond.lays "LetMill$Binding" "LetMill$Binding" "written" "[I") ∈ lw_all := lw_g (lw_at lw_m4 18 rfl) rfl
theorem q950 : (Jvm.Cond.lays "LetMill$Binding" "LetMill$Binding" "value" "I") ∈ lw_all := lw_g (lw_at lw_m4 20 rfl) rfl
theorem q4578 : (Jvm.Cond.castable "LetMill$Binding" "LetMill$Binding") ∈ lw_tbl := lw_at lw_m19 48 rfl
def RX15 : String := "LetMillModel"
abbrev cX15_thrown : ByteArray := prog_60_method_1_code
def yX15_thrown : MethodName := ⟨RX15, "thrown", "()I"⟩
abbrev cX15_feed : ByteArray := prog_60_method_3_code
def yX15_feed : MethodName := ⟨RX15, "feed", "(IIIII)I"⟩
abbrev cX15_no : ByteArray := prog_60_method_2_code
def yX15_no : MethodName := ⟨RX15, "no", "(I)I"⟩
abbrev cX15_end : ByteArray := prog_60_method_4_code
def yX15_end : MethodName := ⟨RX15, "end", "(I)I"⟩
abbrev cX15_build : ByteArray := prog_60_method_115_code
def yX15_build : MethodName := ⟨RX15, "build", "()I"⟩
abbrev cX15_cut : ByteArray := prog_60_method_10_code
def yX15_cut : MethodName := ⟨RX15, "cut", "()V"⟩
abbrev cX15_byteAt : ByteArray := prog_60_method_8_code
def yX15_byteAt : MethodName := ⟨RX15, "byteAt", "(I)I"⟩
abbrev cX15_one : ByteArray := prog_60_method_11_code
def yX15_one : MethodName := ⟨RX15, "one", "(I)I"⟩
abbrev cX15_isLetter : ByteArray := prog_60_method_7_code
def yX15_isLetter : MethodName := ⟨RX15, "isLetter", "(I)Z"⟩
abbrev cX15_word : ByteArray := prog_60_method_9_code
def yX15_word : MethodName := ⟨RX15, "word", "(II)I"⟩
abbrev cX15_textOf : ByteArray := prog_60_method_5_code
def yX15_textOf : MethodName := ⟨RX15, "textOf", "(II)I"⟩
abbrev cX15_text : ByteArray := prog_60_method_20_code
def yX15_text : MethodName := ⟨RX15, "text", "()I"⟩
abbrev cX15_dec : ByteArray := prog_60_method_21_code
def yX15_dec : MethodName := ⟨RX15, "dec", "()I"⟩
abbrev cX15_bad : ByteArray := prog_60_method_15_code
def yX15_bad : MethodName := ⟨RX15, "bad", "()I"⟩
abbrev cX15_fail : ByteArray := prog_60_method_14_code
def yX15_fail : MethodName := ⟨RX15, "fail", "(II)V"⟩
abbrev cX15_next : ByteArray := prog_60_method_16_code
def yX15_next : MethodName := ⟨RX15, "next", "()I"⟩
abbrev cX15_most : ByteArray := prog_60_method_19_code
def yX15_most : MethodName := ⟨RX15, "most", "(II)V"⟩
abbrev cX15_pat : ByteArray := prog_60_method_29_code
def yX15_pat : MethodName := ⟨RX15, "pat", "()I"⟩
abbrev cX15_aPat : ByteArray := prog_60_method_31_code
def yX15_aPat : MethodName := ⟨RX15, "aPat", "()I"⟩
abbrev cX15_atPat : ByteArray := prog_60_method_32_code
def yX15_atPat : MethodName := ⟨RX15, "atPat", "()I"⟩
abbrev cX15_startsPat : ByteArray := prog_60_method_30_code
def yX15_startsPat : MethodName := ⟨RX15, "startsPat", "()Z"⟩
abbrev cX15_patNext : ByteArray := prog_60_method_27_code
def yX15_patNext : MethodName := ⟨RX15, "patNext", "()I"⟩
abbrev cX15_make : ByteArray := prog_60_method_12_code
def yX15_make : MethodName := ⟨RX15, "make", "(IIIII)I"⟩
abbrev cX15_patNeed : ByteArray := prog_60_method_28_code
def yX15_patNeed : MethodName := ⟨RX15, "patNeed", "(I)I"⟩
abbrev cX15_patList : ByteArray := prog_60_method_33_code
def yX15_patList : MethodName := ⟨RX15, "patList", "(I)I"⟩
abbrev cX15_need : ByteArray := prog_60_method_17_code
def yX15_need : MethodName := ⟨RX15, "need", "(I)I"⟩
abbrev cX15_exp : ByteArray := prog_60_method_35_code
def yX15_exp : MethodName := ⟨RX15, "exp", "()I"⟩
abbrev cX15_match : ByteArray := prog_60_method_34_code
def yX15_match : MethodName := ⟨RX15, "match", "()I"⟩
abbrev cX15_takes : ByteArray := prog_60_method_18_code
def yX15_takes : MethodName := ⟨RX15, "takes", "(I)Z"⟩
abbrev cX15_ops : ByteArray := prog_60_method_37_code
def yX15_ops : MethodName := ⟨RX15, "ops", "(I)I"⟩
abbrev cX15_app : ByteArray := prog_60_method_39_code
def yX15_app : MethodName := ⟨RX15, "app", "()I"⟩
abbrev cX15_atExp : ByteArray := prog_60_method_40_code
def yX15_atExp : MethodName := ⟨RX15, "atExp", "()I"⟩
abbrev cX15_startsExp : ByteArray := prog_60_method_38_code
def yX15_startsExp : MethodName := ⟨RX15, "startsExp", "()Z"⟩
abbrev cX15_let : ByteArray := prog_60_method_41_code
def yX15_let : MethodName := ⟨RX15, "let", "(I)I"⟩
abbrev cX15_brackets : ByteArray := prog_60_method_42_code
def yX15_brackets : MethodName := ⟨RX15, "brackets", "(I)I"⟩
abbrev cX15_level : ByteArray := prog_60_method_36_code
def yX15_level : MethodName := ⟨RX15, "level", "(I)I"⟩
abbrev cX15_function : ByteArray := prog_60_method_22_code
def yX15_function : MethodName := ⟨RX15, "function", "()I"⟩
abbrev cX15_data : ByteArray := prog_60_method_23_code
def yX15_data : MethodName := ⟨RX15, "data", "()I"⟩
abbrev cX15_ty : ByteArray := prog_60_method_24_code
def yX15_ty : MethodName := ⟨RX15, "ty", "()I"⟩
abbrev cX15_prod : ByteArray := prog_60_method_25_code
def yX15_prod : MethodName := ⟨RX15, "prod", "()I"⟩
abbrev cX15_appl : ByteArray := prog_60_method_26_code
def yX15_appl : MethodName := ⟨RX15, "appl", "()I"⟩
abbrev cX15_names : ByteArray := prog_60_method_116_code
def yX15_names : MethodName := ⟨RX15, "names", "(I)V"⟩
abbrev cX15_knowName : ByteArray := prog_60_method_46_code
def yX15_knowName : MethodName := ⟨RX15, "knowName", "(I)V"⟩
abbrev cX15_resolveDecs : ByteArray := prog_60_method_47_code
def yX15_resolveDecs : MethodName := ⟨RX15, "resolveDecs", "(I)V"⟩
abbrev cX15_resolveDec : ByteArray := prog_60_method_48_code
def yX15_resolveDec : MethodName := ⟨RX15, "resolveDec", "(I)V"⟩
abbrev cX15_resolve : ByteArray := prog_60_method_55_code
def yX15_resolve : MethodName := ⟨RX15, "resolve", "(I)V"⟩
abbrev cX15_isKnown : ByteArray := prog_60_method_54_code
def yX15_isKnown : MethodName := ⟨RX15, "isKnown", "(I)Z"⟩
abbrev cX15_note : ByteArray := prog_60_method_43_code
def yX15_note : MethodName := ⟨RX15, "note", "(II)V"⟩
abbrev cX15_findCon : ByteArray := prog_60_method_45_code
def yX15_findCon : MethodName := ⟨RX15, "findCon", "(I)I"⟩
abbrev cX15_resolveMatch : ByteArray := prog_60_method_56_code
def yX15_resolveMatch : MethodName := ⟨RX15, "resolveMatch", "(I)V"⟩
abbrev cX15_resolvePat : ByteArray := prog_60_method_53_code
def yX15_resolvePat : MethodName := ⟨RX15, "resolvePat", "(II)V"⟩
abbrev cX15_told : ByteArray := prog_60_method_49_code
def yX15_told : MethodName := ⟨RX15, "told", "([IIIII)V"⟩
abbrev cX15_resolveClause : ByteArray := prog_60_method_50_code
def yX15_resolveClause : MethodName := ⟨RX15, "resolveClause", "(II)V"⟩
abbrev cX15_resolveData : ByteArray := prog_60_method_51_code
def yX15_resolveData : MethodName := ⟨RX15, "resolveData", "(I)V"⟩
abbrev cX15_many : ByteArray := prog_60_method_13_code
def yX15_many : MethodName := ⟨RX15, "many", "(I)I"⟩
abbrev cX15_resolveTy : ByteArray := prog_60_method_52_code
def yX15_resolveTy : MethodName := ⟨RX15, "resolveTy", "(II)V"⟩
abbrev cX15_findData : ByteArray := prog_60_method_44_code
def yX15_findData : MethodName := ⟨RX15, "findData", "(I)I"⟩
abbrev cX15_decType : ByteArray := prog_60_method_88_code
def yX15_decType : MethodName := ⟨RX15, "decType", "(IZ)V"⟩
abbrev cX15_expType : ByteArray := prog_60_method_80_code
def yX15_expType : MethodName := ⟨RX15, "expType", "(I)I"⟩
abbrev cX15_base : ByteArray := prog_60_method_59_code
def yX15_base : MethodName := ⟨RX15, "base", "(I)I"⟩
abbrev cX15_type : ByteArray := prog_60_method_57_code
def yX15_type : MethodName := ⟨RX15, "type", "(III)I"⟩
abbrev cX15_nameType : ByteArray := prog_60_method_74_code
def yX15_nameType : MethodName := ⟨RX15, "nameType", "(I)I"⟩
abbrev cX15_renew : ByteArray := prog_60_method_73_code
def yX15_renew : MethodName := ⟨RX15, "renew", "()V"⟩
abbrev cX15_copy : ByteArray := prog_60_method_70_code
def yX15_copy : MethodName := ⟨RX15, "copy", "(I)I"⟩
abbrev cX15_free : ByteArray := prog_60_method_58_code
def yX15_free : MethodName := ⟨RX15, "free", "()I"⟩
abbrev cX15_copyList : ByteArray := prog_60_method_71_code
def yX15_copyList : MethodName := ⟨RX15, "copyList", "(I)I"⟩
abbrev cX15_lift : ByteArray := prog_60_method_72_code
def yX15_lift : MethodName := ⟨RX15, "lift", "(I)I"⟩
abbrev cX15_conType : ByteArray := prog_60_method_75_code
def yX15_conType : MethodName := ⟨RX15, "conType", "(I)I"⟩
abbrev cX15_list : ByteArray := prog_60_method_69_code
def yX15_list : MethodName := ⟨RX15, "list", "([II)I"⟩
abbrev cX15_tyType : ByteArray := prog_60_method_76_code
def yX15_tyType : MethodName := ⟨RX15, "tyType", "(I)I"⟩
abbrev cX15_tyList : ByteArray := prog_60_method_77_code
def yX15_tyList : MethodName := ⟨RX15, "tyList", "(I)I"⟩
abbrev cX15_data_2 : ByteArray := prog_60_method_60_code
def yX15_data_2 : MethodName := ⟨RX15, "data", "(II)I"⟩
abbrev cX15_tupleType : ByteArray := prog_60_method_81_code
def yX15_tupleType : MethodName := ⟨RX15, "tupleType", "(I)I"⟩
abbrev cX15_equation : ByteArray := prog_60_method_67_code
def yX15_equation : MethodName := ⟨RX15, "equation", "(III)V"⟩
abbrev cX15_unify : ByteArray := prog_60_method_64_code
def yX15_unify : MethodName := ⟨RX15, "unify", "(II)Z"⟩
abbrev cX15_push : ByteArray := prog_60_method_62_code
def yX15_push : MethodName := ⟨RX15, "push", "(I)V"⟩
abbrev cX15_prune : ByteArray := prog_60_method_61_code
def yX15_prune : MethodName := ⟨RX15, "prune", "(I)I"⟩
abbrev cX15_same : ByteArray := prog_60_method_66_code
def yX15_same : MethodName := ⟨RX15, "same", "(II)V"⟩
abbrev cX15_both : ByteArray := prog_60_method_65_code
def yX15_both : MethodName := ⟨RX15, "both", "(II)Z"⟩
abbrev cX15_occurs : ByteArray := prog_60_method_63_code
def yX15_occurs : MethodName := ⟨RX15, "occurs", "(II)Z"⟩
abbrev cX15_matchType : ByteArray := prog_60_method_79_code
def yX15_matchType : MethodName := ⟨RX15, "matchType", "(I)V"⟩
abbrev cX15_patType : ByteArray := prog_60_method_78_code
def yX15_patType : MethodName := ⟨RX15, "patType", "(I)I"⟩
abbrev cX15_bindType : ByteArray := prog_60_method_68_code
def yX15_bindType : MethodName := ⟨RX15, "bindType", "(II)V"⟩
abbrev cX15_chainType : ByteArray := prog_60_method_82_code
def yX15_chainType : MethodName := ⟨RX15, "chainType", "(I)I"⟩
abbrev cX15_isStill : ByteArray := prog_60_method_83_code
def yX15_isStill : MethodName := ⟨RX15, "isStill", "(I)Z"⟩
abbrev cX15_generalize : ByteArray := prog_60_method_87_code
def yX15_generalize : MethodName := ⟨RX15, "generalize", "(I)V"⟩
abbrev cX15_parts : ByteArray := prog_60_method_86_code
def yX15_parts : MethodName := ⟨RX15, "parts", "(II)I"⟩
abbrev cX15_scheme : ByteArray := prog_60_method_84_code
def yX15_scheme : MethodName := ⟨RX15, "scheme", "(I)I"⟩
abbrev cX15_schemeList : ByteArray := prog_60_method_85_code
def yX15_schemeList : MethodName := ⟨RX15, "schemeList", "(I)I"⟩
abbrev cX15_functionType : ByteArray := prog_60_method_89_code
def yX15_functionType : MethodName := ⟨RX15, "functionType", "(II)V"⟩
abbrev cX15_tooMuch : ByteArray := prog_60_method_90_code
def yX15_tooMuch : MethodName := ⟨RX15, "tooMuch", "(IIZ)V"⟩
abbrev cX15_warnDecs : ByteArray := prog_60_method_108_code
def yX15_warnDecs : MethodName := ⟨RX15, "warnDecs", "(I)V"⟩
abbrev cX15_check : ByteArray := prog_60_method_106_code
def yX15_check : MethodName := ⟨RX15, "check", "(IIZ)V"⟩
abbrev cX15_any : ByteArray := prog_60_method_91_code
def yX15_any : MethodName := ⟨RX15, "any", "(II)I"⟩
abbrev cX15_explore : ByteArray := prog_60_method_96_code
def yX15_explore : MethodName := ⟨RX15, "explore", "(III)V"⟩
abbrev cX15_fitsAll : ByteArray := prog_60_method_95_code
def yX15_fitsAll : MethodName := ⟨RX15, "fitsAll", "(II)I"⟩
abbrev cX15_fits : ByteArray := prog_60_method_93_code
def yX15_fits : MethodName := ⟨RX15, "fits", "(II)I"⟩
abbrev cX15_ask : ByteArray := prog_60_method_94_code
def yX15_ask : MethodName := ⟨RX15, "ask", "(II)I"⟩
abbrev cX15_isNot : ByteArray := prog_60_method_92_code
def yX15_isNot : MethodName := ⟨RX15, "isNot", "(II)Z"⟩
abbrev cX15_split : ByteArray := prog_60_method_100_code
def yX15_split : MethodName := ⟨RX15, "split", "(IIIII)V"⟩
abbrev cX15_cons : ByteArray := prog_60_method_104_code
def yX15_cons : MethodName := ⟨RX15, "cons", "(I)V"⟩
abbrev cX15_fail_2 : ByteArray := prog_60_method_97_code
def yX15_fail_2 : MethodName := ⟨RX15, "fail", "(IIII)V"⟩
abbrev cX15_patternAt : ByteArray := prog_60_method_98_code
def yX15_patternAt : MethodName := ⟨RX15, "patternAt", "(II)I"⟩
abbrev cX15_isLooked : ByteArray := prog_60_method_99_code
def yX15_isLooked : MethodName := ⟨RX15, "isLooked", "(I)Z"⟩
abbrev cX15_not : ByteArray := prog_60_method_101_code
def yX15_not : MethodName := ⟨RX15, "not", "(IIII)V"⟩
abbrev cX15_splitData : ByteArray := prog_60_method_102_code
def yX15_splitData : MethodName := ⟨RX15, "splitData", "(IIIIII)V"⟩
abbrev cX15_warn : ByteArray := prog_60_method_105_code
def yX15_warn : MethodName := ⟨RX15, "warn", "(II)V"⟩
abbrev cX15_seek : ByteArray := prog_60_method_107_code
def yX15_seek : MethodName := ⟨RX15, "seek", "(IIIII)V"⟩
abbrev cX15_shape : ByteArray := prog_60_method_103_code
def yX15_shape : MethodName := ⟨RX15, "shape", "(II)V"⟩
abbrev cX15_warnExp : ByteArray := prog_60_method_109_code
def yX15_warnExp : MethodName := ⟨RX15, "warnExp", "(I)V"⟩
abbrev cX15_again : ByteArray := prog_60_method_112_code
def yX15_again : MethodName := ⟨RX15, "again", "(I)I"⟩
abbrev cX15_put : ByteArray := prog_60_method_114_code
def yX15_put : MethodName := ⟨RX15, "put", "(III)I"⟩
abbrev cX15_isHidden : ByteArray := prog_60_method_113_code
def yX15_isHidden : MethodName := ⟨RX15, "isHidden", "(I)Z"⟩
abbrev cX15_keep : ByteArray := prog_60_method_110_code
def yX15_keep : MethodName := ⟨RX15, "keep", "(I)I"⟩
abbrev cX15_keepList : ByteArray := prog_60_method_111_code
def yX15_keepList : MethodName := ⟨RX15, "keepList", "(I)I"⟩
abbrev cX15_run : ByteArray := prog_60_method_141_code
def yX15_run : MethodName := ⟨RX15, "run", "(I)I"⟩
abbrev cX15_go : ByteArray := prog_60_method_123_code
def yX15_go : MethodName := ⟨RX15, "go", "(I)V"⟩
abbrev cX15_frame : ByteArray := prog_60_method_122_code
def yX15_frame : MethodName := ⟨RX15, "frame", "(IIII)V"⟩
abbrev cX15_startDecs : ByteArray := prog_60_method_124_code
def yX15_startDecs : MethodName := ⟨RX15, "startDecs", "(I)V"⟩
abbrev cX15_functions : ByteArray := prog_60_method_125_code
def yX15_functions : MethodName := ⟨RX15, "functions", "(II)V"⟩
abbrev cX15_pay : ByteArray := prog_60_method_118_code
def yX15_pay : MethodName := ⟨RX15, "pay", "(I)Z"⟩
abbrev cX15_value0 : ByteArray := prog_60_method_126_code
def yX15_value0 : MethodName := ⟨RX15, "value0", "(I)I"⟩
abbrev cX15_box : ByteArray := prog_60_method_117_code
def yX15_box : MethodName := ⟨RX15, "box", "(III)I"⟩
abbrev cX15_back : ByteArray := prog_60_method_130_code
def yX15_back : MethodName := ⟨RX15, "back", "()V"⟩
abbrev cX15_matches : ByteArray := prog_60_method_120_code
def yX15_matches : MethodName := ⟨RX15, "matches", "(II)Z"⟩
abbrev cX15_bind : ByteArray := prog_60_method_121_code
def yX15_bind : MethodName := ⟨RX15, "bind", "(II)V"⟩
abbrev cX15_eval : ByteArray := prog_60_method_131_code
def yX15_eval : MethodName := ⟨RX15, "eval", "(II)V"⟩
abbrev cX15_parts_2 : ByteArray := prog_60_method_132_code
def yX15_parts_2 : MethodName := ⟨RX15, "parts", "(I)V"⟩
abbrev cX15_give : ByteArray := prog_60_method_127_code
def yX15_give : MethodName := ⟨RX15, "give", "(I)V"⟩
abbrev cX15_clauses : ByteArray := prog_60_method_136_code
def yX15_clauses : MethodName := ⟨RX15, "clauses", "(III)V"⟩
abbrev cX15_call : ByteArray := prog_60_method_137_code
def yX15_call : MethodName := ⟨RX15, "call", "(II)V"⟩
abbrev cX15_part : ByteArray := prog_60_method_138_code
def yX15_part : MethodName := ⟨RX15, "part", "(II)V"⟩
abbrev cX15_argument : ByteArray := prog_60_method_139_code
def yX15_argument : MethodName := ⟨RX15, "argument", "(IIII)I"⟩
abbrev cX15_builtIn : ByteArray := prog_60_method_140_code
def yX15_builtIn : MethodName := ⟨RX15, "builtIn", "(II)V"⟩
abbrev cX15_chain : ByteArray := prog_60_method_134_code
def yX15_chain : MethodName := ⟨RX15, "chain", "(IIIII)V"⟩
abbrev cX15_two : ByteArray := prog_60_method_135_code
def yX15_two : MethodName := ⟨RX15, "two", "(III)I"⟩
abbrev cX15_append : ByteArray := prog_60_method_133_code
def yX15_append : MethodName := ⟨RX15, "append", "(II)V"⟩
abbrev cX15_step : ByteArray := prog_60_method_128_code
def yX15_step : MethodName := ⟨RX15, "step", "()V"⟩
abbrev cX15_plain : ByteArray := prog_60_method_129_code
def yX15_plain : MethodName := ⟨RX15, "plain", "(I)V"⟩
abbrev cX15_find : ByteArray := prog_60_method_119_code
def yX15_find : MethodName := ⟨RX15, "find", "(II)I"⟩
abbrev cX15_look : ByteArray := prog_60_method_149_code
def yX15_look : MethodName := ⟨RX15, "look", "(I)I"⟩
abbrev cX15_printType : ByteArray := prog_60_method_146_code
def yX15_printType : MethodName := ⟨RX15, "printType", "(II)V"⟩
abbrev cX15_printText : ByteArray := prog_60_method_144_code
def yX15_printText : MethodName := ⟨RX15, "printText", "(I)V"⟩
abbrev cX15_print : ByteArray := prog_60_method_142_code
def yX15_print : MethodName := ⟨RX15, "print", "(I)V"⟩
abbrev cX15_printNumber : ByteArray := prog_60_method_145_code
def yX15_printNumber : MethodName := ⟨RX15, "printNumber", "(J)V"⟩
abbrev cX15_print_2 : ByteArray := prog_60_method_143_code
def yX15_print_2 : MethodName := ⟨RX15, "print", "(Ljava/lang/String;)V"⟩
abbrev cX15_printValue : ByteArray := prog_60_method_147_code
def yX15_printValue : MethodName := ⟨RX15, "printValue", "(II)V"⟩
abbrev cX15_inner : ByteArray := prog_60_method_148_code
def yX15_inner : MethodName := ⟨RX15, "inner", "(II)V"⟩
abbrev cX15_letter : ByteArray := prog_60_method_150_code
def yX15_letter : MethodName := ⟨RX15, "letter", "(I)I"⟩
abbrev cX15_warning : ByteArray := prog_60_method_151_code
def yX15_warning : MethodName := ⟨RX15, "warning", "(II)I"⟩
abbrev cX15_init : ByteArray := prog_60_method_152_code
def yX15_init : MethodName := ⟨RX15, "<init>", "()V"⟩
abbrev cX15_first : ByteArray := prog_60_method_155_code
def yX15_first : MethodName := ⟨RX15, "first", "()V"⟩
abbrev cX15_dataBuilt : ByteArray := prog_60_method_154_code
def yX15_dataBuilt : MethodName := ⟨RX15, "dataBuilt", "(Ljava/lang/String;I)V"⟩
abbrev cX15_builtIn_2 : ByteArray := prog_60_method_6_code
def yX15_builtIn_2 : MethodName := ⟨RX15, "builtIn", "(Ljava/lang/String;)I"⟩
abbrev cX15_built : ByteArray := prog_60_method_153_code
def yX15_built : MethodName := ⟨RX15, "built", "(III)V"⟩
abbrev cX15_clear : ByteArray := prog_60_method_156_code
def yX15_clear : MethodName := ⟨RX15, "clear", "()V"⟩
abbrev cX15_count : ByteArray := prog_60_method_157_code
def yX15_count : MethodName := ⟨RX15, "count", "(I)I"⟩
theorem q229 : (Jvm.Cond.initialized "LetMillModel") ∈ lw_all := lw_g (lw_at lw_m1 19 rfl) rfl
theorem q3418 : (Jvm.Cond.instanceMethod ({ cls := "LetMillModel", name := "thrown", desc := "()I" } : Jvm.MethodName)) ∈ lw_all := lw_g (lw_at lw_m14 88 rfl) rfl
theorem q3419 : (Jvm.Cond.selects "LetMillModel" ({ cls := "LetMillModel", name := "thrown", desc := "()I" } : Jvm.MethodName) ({ cls := "LetMillModel", name := "thrown", desc := "()I" } : Jvm.MethodName)) ∈ lw_all := lw_g (lw_at lw_m14 89 rfl) rfl
theorem q3420 : (Jvm.Cond.code ({ cls := "LetMillModel", name := "thrown", desc := "()I" } : Jvm.MethodName) prog_60_method_1_code (1 : Nat) (Option.some Jvm.ClassFile.FieldType.int)) ∈ lw_all := lw_g (lw_at lw_m14 90 rfl) rfl
theorem q3422 : (Jvm.Cond.instanceMethod ({ cls := "LetMillModel", name := "feed", desc := "(IIIII)I" } : Jvm.MethodName)) ∈ lw_all := lw_g (lw_at lw_m14 92 rfl) rfl
theorem q3423 : (Jvm.Cond.selects "LetMillModel" ({ cls := "LetMillModel", name := "feed", desc := "(IIIII)I" } : Jvm.MethodName) ({ cls := "LetMillModel", name := "feed", desc := "(IIIII)I" } : Jvm.MethodName)) ∈ lw_all := lw_g (lw_at lw_m14 93 rfl) rfl
theorem q3424 : (Jvm.Cond.code ({ cls := "LetMillModel", name := "feed", desc := "(IIIII)I" } : Jvm.MethodName) prog_60_method_3_code (8 : Nat) (Option.some Jvm.ClassFile.FieldType.int)) ∈ lw_all := lw_g (lw_at lw_m14 94 rfl) rfl
theorem q3425 : (Jvm.Cond.methodLink "LetMillModel" (10 : Nat) ({ cls := "LetMillModel", name := "no", desc := "(I)I" } : Jvm.MethodName)) ∈ lw_all := lw_g (lw_at lw_m14 95 rfl) rfl
theorem q3427 : (Jvm.Cond.instanceMethod ({ cls := "LetMillModel", name := "no", desc := "(I)I" } : Jvm.MethodName)) ∈ lw_all := lw_g (lw_at lw_m14 97 rfl) rfl
theorem q3428 : (Jvm.Cond.instantiable "LetMillModel" (158 : Nat)) ∈ lw_all := lw_g (lw_at lw_m14 98 rfl) rfl
theorem q3429 : (Jvm.Cond.code ({ cls := "LetMillModel", name := "no", desc := "(I)I" } : Jvm.MethodName) prog_60_method_2_code (2 : Nat) (Option.some Jvm.ClassFile.FieldType.int)) ∈ lw_all := lw_g (lw_at lw_m14 99 rfl) rfl
theorem q3431 : (Jvm.Cond.instanceMethod ({ cls := "LetMillModel", name := "end", desc := "(I)I" } : Jvm.MethodName)) ∈ lw_all := lw_g (lw_at lw_m14 101 rfl) rfl
theorem q3432 : (Jvm.Cond.selects "LetMillModel" ({ cls := "LetMillModel", name := "end", desc := "(I)I" } : Jvm.MethodName) ({ cls := "LetMillModel", name := "end", desc := "(I)I" } : Jvm.MethodName)) ∈ lw_all := lw_g (lw_at lw_m14 102 rfl) rfl
theorem q3433 : (Jvm.Cond.code ({ cls := "LetMillModel", name := "end", desc := "(I)I" } : Jvm.MethodName) prog_60_method_4_code (2 : Nat) (Option.some Jvm.ClassFile.FieldType.int)) ∈ lw_all := lw_g (lw_at lw_m14 103 rfl) rfl
theorem q3435 : (Jvm.Cond.instanceMethod ({ cls := "LetMillModel", name := "build", desc := "()I" } : Jvm.MethodName)) ∈ lw_all := lw_g (lw_at lw_m14 105 rfl) rfl
theorem q3436 : (Jvm.Cond.selects "LetMillModel" ({ cls := "LetMillModel", name := "build", desc := "()I" } : Jvm.MethodName) ({ cls := "LetMillModel", name := "build", desc := "()I" } : Jvm.MethodName)) ∈ lw_all := lw_g (lw_at lw_m14 106 rfl) rfl
theorem q3437 : (Jvm.Cond.code ({ cls := "LetMillModel", name := "build", desc := "()I" } : Jvm.MethodName) prog_60_method_115_code (7 : Nat) (Option.some Jvm.ClassFile.FieldType.int)) ∈ lw_all := lw_g (lw_at lw_m14 107 rfl) rfl
theorem q3438 : (Jvm.Cond.methodLink "LetMillModel" (639 : Nat) ({ cls := "LetMillModel", name := "cut", desc := "()V" } : Jvm.MethodName)) ∈ lw_all := lw_g (lw_at lw_m14 108 rfl) rfl
theorem q3440 : (Jvm.Cond.instanceMethod ({ cls := "LetMillModel", name := "cut", desc := "()V" } : Jvm.MethodName)) ∈ lw_all := lw_g (lw_at lw_m14 110 rfl) rfl
theorem q3441 : (Jvm.Cond.code ({ cls := "LetMillModel", name := "cut", desc := "()V" } : Jvm.MethodName) prog_60_method_10_code (2 : Nat) (Option.none : Option Jvm.ClassFile.FieldType)) ∈ lw_all := lw_g (lw_at lw_m14 111 rfl) rfl
theorem q3442 : (Jvm.Cond.methodLink "LetMillModel" (43 : Nat) ({ cls := "LetMillModel", name := "byteAt", desc := "(I)I" } : Jvm.MethodName)) ∈ lw_all := lw_g (lw_at lw_m14 112 rfl) rfl
theorem q3444 : (Jvm.Cond.instanceMethod ({ cls := "LetMillModel", name := "byteAt", desc := "(I)I" } : Jvm.MethodName)) ∈ lw_all := lw_g (lw_at lw_m14 114 rfl) rfl
theorem q3445 : (Jvm.Cond.code ({ cls := "LetMillModel", name := "byteAt", desc := "(I)I" } : Jvm.MethodName) prog_60_method_8_code (2 : Nat) (Option.some Jvm.ClassFile.FieldType.int)) ∈ lw_all := lw_g (lw_at lw_m14 115 rfl) rfl
theorem q3446 : (Jvm.Cond.methodLink "LetMillModel" (55 : Nat) ({ cls := "LetMillModel", name := "one", desc := "(I)I" } : Jvm.MethodName)) ∈ lw_all := lw_g (lw_at lw_m14 116 rfl) rfl
theorem q3448 : (Jvm.Cond.instanceMethod ({ cls := "LetMillModel", name := "one", desc := "(I)I" } : Jvm.MethodName)) ∈ lw_all := lw_g (lw_at lw_m14 118 rfl) rfl
theorem q3449 : (Jvm.Cond.code ({ cls := "LetMillModel", name := "one", desc := "(I)I" } : Jvm.MethodName) prog_60_method_11_code (7 : Nat) (Option.some Jvm.ClassFile.FieldType.int)) ∈ lw_all := lw_g (lw_at lw_m14 119 rfl) rfl
theorem q3450 : (Jvm.Cond.methodLink "LetMillModel" (58 : Nat) ({ cls := "LetMillModel", name := "isLetter", desc := "(I)Z" } : Jvm.MethodName)) ∈ lw_all := lw_g (lw_at lw_m14 120 rfl) rfl
theorem q3451 : (Jvm.Cond.static ({ cls := "LetMillModel", name := "isLetter", desc := "(I)Z" } : Jvm.MethodName)) ∈ lw_all := lw_g (lw_at lw_m14 121 rfl) rfl
theorem q3452 : (Jvm.Cond.code ({ cls := "LetMillModel", name := "isLetter", desc := "(I)Z" } : Jvm.MethodName) prog_60_method_7_code (1 : Nat) (Option.some Jvm.ClassFile.FieldType.boolean)) ∈ lw_all := lw_g (lw_at lw_m14 122 rfl) rfl
theorem q3453 : (Jvm.Cond.methodLink "LetMillModel" (62 : Nat) ({ cls := "LetMillModel", name := "word", desc := "(II)I" } : Jvm.MethodName)) ∈ lw_all := lw_g (lw_at lw_m14 123 rfl) rfl
theorem q3455 : (Jvm.Cond.instanceMethod ({ cls := "LetMillModel", name := "word", desc := "(II)I" } : Jvm.MethodName)) ∈ lw_all := lw_g (lw_at lw_m14 125 rfl) rfl
theorem q3456 : (Jvm.Cond.code ({ cls := "LetMillModel", name := "word", desc := "(II)I" } : Jvm.MethodName) prog_60_method_9_code (7 : Nat) (Option.some Jvm.ClassFile.FieldType.int)) ∈ lw_all := lw_g (lw_at lw_m14 126 rfl) rfl
theorem q3457 : (Jvm.Cond.stringRef "LetMillModel" (38 : Nat) "and case datatype div else end fn fun if in let mod of orelse andalso then true false val ") ∈ lw_tbl := lw_at lw_m14 127 rfl
theorem q3458 : (Jvm.Cond.methodLink "LetMillModel" (28 : Nat) ({ cls := "java/lang/String", name := "length", desc := "()I" } : Jvm.MethodName)) ∈ lw_all := lw_g (lw_at lw_m14 128 rfl) rfl
theorem q3459 : (Jvm.Cond.methodLink "LetMillModel" (34 : Nat) ({ cls := "java/lang/String", name := "charAt", desc := "(I)C" } : Jvm.MethodName)) ∈ lw_all := lw_g (lw_at lw_m14 129 rfl) rfl
theorem q3460 : (Jvm.Cond.methodLink "LetMillModel" (66 : Nat) ({ cls := "LetMillModel", name := "textOf", desc := "(II)I" } : Jvm.MethodName)) ∈ lw_all := lw_g (lw_at lw_m14 130 rfl) rfl
theorem q3462 : (Jvm.Cond.instanceMethod ({ cls := "LetMillModel", name := "textOf", desc := "(II)I" } : Jvm.MethodName)) ∈ lw_all := lw_g (lw_at lw_m14 132 rfl) rfl
theorem q3463 : (Jvm.Cond.code ({ cls := "LetMillModel", name := "textOf", desc := "(II)I" } : Jvm.MethodName) prog_60_method_5_code (7 : Nat) (Option.some Jvm.ClassFile.FieldType.int)) ∈ lw_all := lw_g (lw_at lw_m14 133 rfl) rfl
theorem q3464 : (Jvm.Cond.constantLong "LetMillModel" (69 : Nat) (10000000000 : Int64)) ∈ lw_all := lw_g (lw_at lw_m14 134 rfl) rfl
theorem q3465 : (Jvm.Cond.constantLong "LetMillModel" (71 : Nat) (10 : Int64)) ∈ lw_all := lw_g (lw_at lw_m14 135 rfl) rfl
theorem q3466 : (Jvm.Cond.constantLong "LetMillModel" (73 : Nat) (48 : Int64)) ∈ lw_all := lw_g (lw_at lw_m14 136 rfl) rfl
theorem q3467 : (Jvm.Cond.constantLong "LetMillModel" (75 : Nat) (2147483648 : Int64)) ∈ lw_all := lw_g (lw_at lw_m14 137 rfl) rfl
theorem q3468 : (Jvm.Cond.methodLink "LetMillModel" (642 : Nat) ({ cls := "LetMillModel", name := "text", desc := "()I" } : Jvm.MethodName)) ∈ lw_all := lw_g (lw_at lw_m14 138 rfl) rfl
theorem q3470 : (Jvm.Cond.instanceMethod ({ cls := "LetMillModel", name := "text", desc := "()I" } : Jvm.MethodName)) ∈ lw_all := lw_g (lw_at lw_m14 140 rfl) rfl
theorem q3471 : (Jvm.Cond.code ({ cls := "LetMillModel", name := "text", desc := "()I" } : Jvm.MethodName) prog_60_method_20_code (4 : Nat) (Option.some Jvm.ClassFile.FieldType.int)) ∈ lw_all := lw_g (lw_at lw_m14 141 rfl) rfl
theorem q3472 : (Jvm.Cond.methodLink "LetMillModel" (123 : Nat) ({ cls := "LetMillModel", name := "dec", desc := "()I" } : Jvm.MethodName)) ∈ lw_all := lw_g (lw_at lw_m14 142 rfl) rfl
theorem q3474 : (Jvm.Cond.instanceMethod ({ cls := "LetMillModel", name := "dec", desc := "()I" } : Jvm.MethodName)) ∈ lw_all := lw_g (lw_at lw_m14 144 rfl) rfl
theorem q3475 : (Jvm.Cond.code ({ cls := "LetMillModel", name := "dec", desc := "()I" } : Jvm.MethodName) prog_60_method_21_code (5 : Nat) (Option.some Jvm.ClassFile.FieldType.int)) ∈ lw_all := lw_g (lw_at lw_m14 145 rfl) rfl
theorem q3476 : (Jvm.Cond.methodLink "LetMillModel" (118 : Nat) ({ cls := "LetMillModel", name := "bad", desc := "()I" } : Jvm.MethodName)) ∈ lw_all := lw_g (lw_at lw_m14 146 rfl) rfl
theorem q3478 : (Jvm.Cond.instanceMethod ({ cls := "LetMillModel", name := "bad", desc := "()I" } : Jvm.MethodName)) ∈ lw_all := lw_g (lw_at lw_m14 148 rfl) rfl
theorem q3479 : (Jvm.Cond.code ({ cls := "LetMillModel", name := "bad", desc := "()I" } : Jvm.MethodName) prog_60_method_15_code (1 : Nat) (Option.some Jvm.ClassFile.FieldType.int)) ∈ lw_all := lw_g (lw_at lw_m14 149 rfl) rfl
theorem q3480 : (Jvm.Cond.methodLink "LetMillModel" (111 : Nat) ({ cls := "LetMillModel", name := "fail", desc := "(II)V" } : Jvm.MethodName)) ∈ lw_all := lw_g (lw_at lw_m14 150 rfl) rfl
theorem q3482 : (Jvm.Cond.instanceMethod ({ cls := "LetMillModel", name := "fail", desc := "(II)V" } : Jvm.MethodName)) ∈ lw_all := lw_g (lw_at lw_m14 152 rfl) rfl
theorem q3483 : (Jvm.Cond.code ({ cls := "LetMillModel", name := "fail", desc := "(II)V" } : Jvm.MethodName) prog_60_method_14_code (3 : Nat) (Option.none : Option Jvm.ClassFile.FieldType)) ∈ lw_all := lw_g (lw_at lw_m14 153 rfl) rfl
theorem q3484 : (Jvm.Cond.methodLink "LetMillModel" (121 : Nat) ({ cls := "LetMillModel", name := "next", desc := "()I" } : Jvm.MethodName)) ∈ lw_all := lw_g (lw_at lw_m14 154 rfl) rfl
theorem q3486 : (Jvm.Cond.instanceMethod ({ cls := "LetMillModel", name := "next", desc := "()I" } : Jvm.MethodName)) ∈ lw_all := lw_g (lw_at lw_m14 156 rfl) rfl
theorem q3487 : (Jvm.Cond.code ({ cls := "LetMillModel", name := "next", desc := "()I" } : Jvm.MethodName) prog_60_method_16_code (1 : Nat) (Option.some Jvm.ClassFile.FieldType.int)) ∈ lw_all := lw_g (lw_at lw_m14 157 rfl) rfl
theorem q3488 : (Jvm.Cond.methodLink "LetMillModel" (132 : Nat) ({ cls := "LetMillModel", name := "most", desc := "(II)V" } : Jvm.MethodName)) ∈ lw_all := lw_g (lw_at lw_m14 158 rfl) rfl
theorem q3490 : (Jvm.Cond.instanceMethod ({ cls := "LetMillModel", name := "most", desc := "(II)V" } : Jvm.MethodName)) ∈ lw_all := lw_g (lw_at lw_m14 160 rfl) rfl
theorem q3491 : (Jvm.Cond.code ({ cls := "LetMillModel", name := "most", desc := "(II)V" } : Jvm.MethodName) prog_60_method_19_code (3 : Nat) (Option.none : Option Jvm.ClassFile.FieldType)) ∈ lw_all := lw_g (lw_at lw_m14 161 rfl) rfl
theorem q3492 : (Jvm.Cond.methodLink "LetMillModel" (138 : Nat) ({ cls := "LetMillModel", name := "pat", desc := "()I" } : Jvm.MethodName)) ∈ lw_all := lw_g (lw_at lw_m14 162 rfl) rfl
theorem q3494 : (Jvm.Cond.instanceMethod ({ cls := "LetMillModel", name := "pat", desc := "()I" } : Jvm.MethodName)) ∈ lw_all := lw_g (lw_at lw_m14 164 rfl) rfl
theorem q3495 : (Jvm.Cond.code ({ cls := "LetMillModel", name := "pat", desc := "()I" } : Jvm.MethodName) prog_60_method_29_code (4 : Nat) (Option.some Jvm.ClassFile.FieldType.int)) ∈ lw_all := lw_g (lw_at lw_m14 165 rfl) rfl
theorem q3496 : (Jvm.Cond.methodLink "LetMillModel" (172 : Nat) ({ cls := "LetMillModel", name := "aPat", desc := "()I" } : Jvm.MethodName)) ∈ lw_all := lw_g (lw_at lw_m14 166 rfl) rfl
theorem q3498 : (Jvm.Cond.instanceMethod ({ cls := "LetMillModel", name := "aPat", desc := "()I" } : Jvm.MethodName)) ∈ lw_all := lw_g (lw_at lw_m14 168 rfl) rfl
theorem q3499 : (Jvm.Cond.code ({ cls := "LetMillModel", name := "aPat", desc := "()I" } : Jvm.MethodName) prog_60_method_31_code (3 : Nat) (Option.some Jvm.ClassFile.FieldType.int)) ∈ lw_all := lw_g (lw_at lw_m14 169 rfl) rfl
theorem q3500 : (Jvm.Cond.methodLink "LetMillModel" (157 : Nat) ({ cls := "LetMillModel", name := "atPat", desc := "()I" } : Jvm.MethodName)) ∈ lw_all := lw_g (lw_at lw_m14 170 rfl) rfl
theorem q3502 : (Jvm.Cond.instanceMethod ({ cls := "LetMillModel", name := "atPat", desc := "()I" } : Jvm.MethodName)) ∈ lw_all := lw_g (lw_at lw_m14 172 rfl) rfl
theorem q3503 : (Jvm.Cond.code ({ cls := "LetMillModel", name := "atPat", desc := "()I" } : Jvm.MethodName) prog_60_method_32_code (3 : Nat) (Option.some Jvm.ClassFile.FieldType.int)) ∈ lw_all := lw_g (lw_at lw_m14 173 rfl) rfl
theorem q3504 : (Jvm.Cond.methodLink "LetMillModel" (175 : Nat) ({ cls := "LetMillModel", name := "startsPat", desc := "()Z" } : Jvm.MethodName)) ∈ lw_all := lw_g (lw_at lw_m14 174 rfl) rfl
theorem q3506 : (Jvm.Cond.instanceMethod ({ cls := "LetMillModel", name := "startsPat", desc := "()Z" } : Jvm.MethodName)) ∈ lw_all := lw_g (lw_at lw_m14 176 rfl) rfl
theorem q3507 : (Jvm.Cond.code ({ cls := "LetMillModel", name := "startsPat", desc := "()Z" } : Jvm.MethodName) prog_60_method_30_code (2 : Nat) (Option.some Jvm.ClassFile.FieldType.boolean)) ∈ lw_all := lw_g (lw_at lw_m14 177 rfl) rfl
theorem q3508 : (Jvm.Cond.methodLink "LetMillModel" (169 : Nat) ({ cls := "LetMillModel", name := "patNext", desc := "()I" } : Jvm.MethodName)) ∈ lw_all := lw_g (lw_at lw_m14 178 rfl) rfl
theorem q3510 : (Jvm.Cond.instanceMethod ({ cls := "LetMillModel", name := "patNext", desc := "()I" } : Jvm.MethodName)) ∈ lw_all := lw_g (lw_at lw_m14 180 rfl) rfl
theorem q3511 : (Jvm.Cond.code ({ cls := "LetMillModel", name := "patNext", desc := "()I" } : Jvm.MethodName) prog_60_method_27_code (2 : Nat) (Option.some Jvm.ClassFile.FieldType.int)) ∈ lw_all := lw_g (lw_at lw_m14 181 rfl) rfl
theorem q3512 : (Jvm.Cond.methodLink "LetMillModel" (144 : Nat) ({ cls := "LetMillModel", name := "make", desc := "(IIIII)I" } : Jvm.MethodName)) ∈ lw_all := lw_g (lw_at lw_m14 182 rfl) rfl
theorem q3514 : (Jvm.Cond.instanceMethod ({ cls := "LetMillModel", name := "make", desc := "(IIIII)I" } : Jvm.MethodName)) ∈ lw_all := lw_g (lw_at lw_m14 184 rfl) rfl
theorem q3515 : (Jvm.Cond.code ({ cls := "LetMillModel", name := "make", desc := "(IIIII)I" } : Jvm.MethodName) prog_60_method_12_code (6 : Nat) (Option.some Jvm.ClassFile.FieldType.int)) ∈ lw_all := lw_g (lw_at lw_m14 185 rfl) rfl
theorem q3516 : (Jvm.Cond.methodLink "LetMillModel" (179 : Nat) ({ cls := "LetMillModel", name := "patNeed", desc := "(I)I" } : Jvm.MethodName)) ∈ lw_all := lw_g (lw_at lw_m14 186 rfl) rfl
theorem q3518 : (Jvm.Cond.instanceMethod ({ cls := "LetMillModel", name := "patNeed", desc := "(I)I" } : Jvm.MethodName)) ∈ lw_all := lw_g (lw_at lw_m14 188 rfl) rfl
theorem q3519 : (Jvm.Cond.code ({ cls := "LetMillModel", name := "patNeed", desc := "(I)I" } : Jvm.MethodName) prog_60_method_28_code (2 : Nat) (Option.some Jvm.ClassFile.FieldType.int)) ∈ lw_all := lw_g (lw_at lw_m14 189 rfl) rfl
theorem q3520 : (Jvm.Cond.methodLink "LetMillModel" (182 : Nat) ({ cls := "LetMillModel", name := "patList", desc := "(I)I" } : Jvm.MethodName)) ∈ lw_all := lw_g (lw_at lw_m14 190 rfl) rfl
theorem q3522 : (Jvm.Cond.instanceMethod ({ cls := "LetMillModel", name := "patList", desc := "(I)I" } : Jvm.MethodName)) ∈ lw_all := lw_g (lw_at lw_m14 192 rfl) rfl
theorem q3523 : (Jvm.Cond.code ({ cls := "LetMillModel", name := "patList", desc := "(I)I" } : Jvm.MethodName) prog_60_method_33_code (7 : Nat) (Option.some Jvm.ClassFile.FieldType.int)) ∈ lw_all := lw_g (lw_at lw_m14 193 rfl) rfl
theorem q3524 : (Jvm.Cond.methodLink "LetMillModel" (126 : Nat) ({ cls := "LetMillModel", name := "need", desc := "(I)I" } : Jvm.MethodName)) ∈ lw_all := lw_g (lw_at lw_m14 194 rfl) rfl
theorem q3526 : (Jvm.Cond.instanceMethod ({ cls := "LetMillModel", name := "need", desc := "(I)I" } : Jvm.MethodName)) ∈ lw_all := lw_g (lw_at lw_m14 196 rfl) rfl
theorem q3527 : (Jvm.Cond.code ({ cls := "LetMillModel", name := "need", desc := "(I)I" } : Jvm.MethodName) prog_60_method_17_code (2 : Nat) (Option.some Jvm.ClassFile.FieldType.int)) ∈ lw_all := lw_g (lw_at lw_m14 197 rfl) rfl
theorem q3528 : (Jvm.Cond.methodLink "LetMillModel" (141 : Nat) ({ cls := "LetMillModel", name := "exp", desc := "()I" } : Jvm.MethodName)) ∈ lw_all := lw_g (lw_at lw_m14 198 rfl) rfl
theorem q3530 : (Jvm.Cond.instanceMethod ({ cls := "LetMillModel", name := "exp", desc := "()I" } : Jvm.MethodName)) ∈ lw_all := lw_g (lw_at lw_m14 200 rfl) rfl
theorem q3531 : (Jvm.Cond.code ({ cls := "LetMillModel", name := "exp", desc := "()I" } : Jvm.MethodName) prog_60_method_35_code (5 : Nat) (Option.some Jvm.ClassFile.FieldType.int)) ∈ lw_all := lw_g (lw_at lw_m14 201 rfl) rfl
theorem q3532 : (Jvm.Cond.methodLink "LetMillModel" (185 : Nat) ({ cls := "LetMillModel", name := "match", desc := "()I" } : Jvm.MethodName)) ∈ lw_all := lw_g (lw_at lw_m14 202 rfl) rfl
theorem q3534 : (Jvm.Cond.instanceMethod ({ cls := "LetMillModel", name := "match", desc := "()I" } : Jvm.MethodName)) ∈ lw_all := lw_g (lw_at lw_m14 204 rfl) rfl
theorem q3535 : (Jvm.Cond.code ({ cls := "LetMillModel", name := "match", desc := "()I" } : Jvm.MethodName) prog_60_method_34_code (8 : Nat) (Option.some Jvm.ClassFile.FieldType.int)) ∈ lw_all := lw_g (lw_at lw_m14 205 rfl) rfl
theorem q3536 : (Jvm.Cond.methodLink "LetMillModel" (154 : Nat) ({ cls := "LetMillModel", name := "takes", desc := "(I)Z" } : Jvm.MethodName)) ∈ lw_all := lw_g (lw_at lw_m14 206 rfl) rfl
theorem q3538 : (Jvm.Cond.instanceMethod ({ cls := "LetMillModel", name := "takes", desc := "(I)Z" } : Jvm.MethodName)) ∈ lw_all := lw_g (lw_at lw_m14 208 rfl) rfl
theorem q3539 : (Jvm.Cond.code ({ cls := "LetMillModel", name := "takes", desc := "(I)Z" } : Jvm.MethodName) prog_60_method_18_code (2 : Nat) (Option.some Jvm.ClassFile.FieldType.boolean)) ∈ lw_all := lw_g (lw_at lw_m14 209 rfl) rfl
theorem q3540 : (Jvm.Cond.methodLink "LetMillModel" (188 : Nat) ({ cls := "LetMillModel", name := "ops", desc := "(I)I" } : Jvm.MethodName)) ∈ lw_all := lw_g (lw_at lw_m14 210 rfl) rfl
theorem q3542 : (Jvm.Cond.instanceMethod ({ cls := "LetMillModel", name := "ops", desc := "(I)I" } : Jvm.MethodName)) ∈ lw_all := lw_g (lw_at lw_m14 212 rfl) rfl
theorem q3543 : (Jvm.Cond.code ({ cls := "LetMillModel", name := "ops", desc := "(I)I" } : Jvm.MethodName) prog_60_method_37_code (9 : Nat) (Option.some Jvm.ClassFile.FieldType.int)) ∈ lw_all := lw_g (lw_at lw_m14 213 rfl) rfl
theorem q3544 : (Jvm.Cond.methodLink "LetMillModel" (191 : Nat) ({ cls := "LetMillModel", name := "app", desc := "()I" } : Jvm.MethodName)) ∈ lw_all := lw_g (lw_at lw_m14 214 rfl) rfl
theorem q3546 : (Jvm.Cond.instanceMethod ({ cls := "LetMillModel", name := "app", desc := "()I" } : Jvm.MethodName)) ∈ lw_all := lw_g (lw_at lw_m14 216 rfl) rfl
theorem q3547 : (Jvm.Cond.code ({ cls := "LetMillModel", name := "app", desc := "()I" } : Jvm.MethodName) prog_60_method_39_code (8 : Nat) (Option.some Jvm.ClassFile.FieldType.int)) ∈ lw_all := lw_g (lw_at lw_m14 217 rfl) rfl
theorem q3548 : (Jvm.Cond.methodLink "LetMillModel" (197 : Nat) ({ cls := "LetMillModel", name := "atExp", desc := "()I" } : Jvm.MethodName)) ∈ lw_all := lw_g (lw_at lw_m14 218 rfl) rfl
theorem q3550 : (Jvm.Cond.instanceMethod ({ cls := "LetMillModel", name := "atExp", desc := "()I" } : Jvm.MethodName)) ∈ lw_all := lw_g (lw_at lw_m14 220 rfl) rfl
theorem q3551 : (Jvm.Cond.code ({ cls := "LetMillModel", name := "atExp", desc := "()I" } : Jvm.MethodName) prog_60_method_40_code (2 : Nat) (Option.some Jvm.ClassFile.FieldType.int)) ∈ lw_all := lw_g (lw_at lw_m14 221 rfl) rfl
theorem q3552 : (Jvm.Cond.methodLink "LetMillModel" (200 : Nat) ({ cls := "LetMillModel", name := "startsExp", desc := "()Z" } : Jvm.MethodName)) ∈ lw_all := lw_g (lw_at lw_m14 222 rfl) rfl
theorem q3554 : (Jvm.Cond.instanceMethod ({ cls := "LetMillModel", name := "startsExp", desc := "()Z" } : Jvm.MethodName)) ∈ lw_all := lw_g (lw_at lw_m14 224 rfl) rfl
theorem q3555 : (Jvm.Cond.code ({ cls := "LetMillModel", name := "startsExp", desc := "()Z" } : Jvm.MethodName) prog_60_method_38_code (2 : Nat) (Option.some Jvm.ClassFile.FieldType.boolean)) ∈ lw_all := lw_g (lw_at lw_m14 225 rfl) rfl
theorem q3556 : (Jvm.Cond.methodLink "LetMillModel" (203 : Nat) ({ cls := "LetMillModel", name := "let", desc := "(I)I" } : Jvm.MethodName)) ∈ lw_all := lw_g (lw_at lw_m14 226 rfl) rfl
theorem q3558 : (Jvm.Cond.instanceMethod ({ cls := "LetMillModel", name := "let", desc := "(I)I" } : Jvm.MethodName)) ∈ lw_all := lw_g (lw_at lw_m14 228 rfl) rfl
theorem q3559 : (Jvm.Cond.code ({ cls := "LetMillModel", name := "let", desc := "(I)I" } : Jvm.MethodName) prog_60_method_41_code (9 : Nat) (Option.some Jvm.ClassFile.FieldType.int)) ∈ lw_all := lw_g (lw_at lw_m14 229 rfl) rfl
theorem q3560 : (Jvm.Cond.methodLink "LetMillModel" (206 : Nat) ({ cls := "LetMillModel", name := "brackets", desc := "(I)I" } : Jvm.MethodName)) ∈ lw_all := lw_g (lw_at lw_m14 230 rfl) rfl
theorem q3562 : (Jvm.Cond.instanceMethod ({ cls := "LetMillModel", name := "brackets", desc := "(I)I" } : Jvm.MethodName)) ∈ lw_all := lw_g (lw_at lw_m14 232 rfl) rfl
theorem q3563 : (Jvm.Cond.code ({ cls := "LetMillModel", name := "brackets", desc := "(I)I" } : Jvm.MethodName) prog_60_method_42_code (8 : Nat) (Option.some Jvm.ClassFile.FieldType.int)) ∈ lw_all := lw_g (lw_at lw_m14 233 rfl) rfl
theorem q3564 : (Jvm.Cond.methodLink "LetMillModel" (194 : Nat) ({ cls := "LetMillModel", name := "level", desc := "(I)I" } : Jvm.MethodName)) ∈ lw_all := lw_g (lw_at lw_m14 234 rfl) rfl
theorem q3565 : (Jvm.Cond.static ({ cls := "LetMillModel", name := "level", desc := "(I)I" } : Jvm.MethodName)) ∈ lw_all := lw_g (lw_at lw_m14 235 rfl) rfl
theorem q3566 : (Jvm.Cond.code ({ cls := "LetMillModel", name := "level", desc := "(I)I" } : Jvm.MethodName) prog_60_method_36_code (1 : Nat) (Option.some Jvm.ClassFile.FieldType.int)) ∈ lw_all := lw_g (lw_at lw_m14 236 rfl) rfl
theorem q3567 : (Jvm.Cond.methodLink "LetMillModel" (148 : Nat) ({ cls := "LetMillModel", name := "function", desc := "()I" } : Jvm.MethodName)) ∈ lw_all := lw_g (lw_at lw_m14 237 rfl) rfl
theorem q3569 : (Jvm.Cond.instanceMethod ({ cls := "LetMillModel", name := "function", desc := "()I" } : Jvm.MethodName)) ∈ lw_all := lw_g (lw_at lw_m14 239 rfl) rfl
theorem q3570 : (Jvm.Cond.code ({ cls := "LetMillModel", name := "function", desc := "()I" } : Jvm.MethodName) prog_60_method_22_code (10 : Nat) (Option.some Jvm.ClassFile.FieldType.int)) ∈ lw_all := lw_g (lw_at lw_m15 0 rfl) rfl
theorem q3571 : (Jvm.Cond.methodLink "LetMillModel" (151 : Nat) ({ cls := "LetMillModel", name := "data", desc := "()I" } : Jvm.MethodName)) ∈ lw_all := lw_g (lw_at lw_m15 1 rfl) rfl
theorem q3573 : (Jvm.Cond.instanceMethod ({ cls := "LetMillModel", name := "data", desc := "()I" } : Jvm.MethodName)) ∈ lw_all := lw_g (lw_at lw_m15 3 rfl) rfl
theorem q3574 : (Jvm.Cond.code ({ cls := "LetMillModel", name := "data", desc := "()I" } : Jvm.MethodName) prog_60_method_23_code (10 : Nat) (Option.some Jvm.ClassFile.FieldType.int)) ∈ lw_all := lw_g (lw_at lw_m15 4 rfl) rfl
theorem q3575 : (Jvm.Cond.methodLink "LetMillModel" (160 : Nat) ({ cls := "LetMillModel", name := "ty", desc := "()I" } : Jvm.MethodName)) ∈ lw_all := lw_g (lw_at lw_m15 5 rfl) rfl
theorem q3577 : (Jvm.Cond.instanceMethod ({ cls := "LetMillModel", name := "ty", desc := "()I" } : Jvm.MethodName)) ∈ lw_all := lw_g (lw_at lw_m15 7 rfl) rfl
theorem q3578 : (Jvm.Cond.code ({ cls := "LetMillModel", name := "ty", desc := "()I" } : Jvm.MethodName) prog_60_method_24_code (4 : Nat) (Option.some Jvm.ClassFile.FieldType.int)) ∈ lw_all := lw_g (lw_at lw_m15 8 rfl) rfl
theorem q3579 : (Jvm.Cond.methodLink "LetMillModel" (163 : Nat) ({ cls := "LetMillModel", name := "prod", desc := "()I" } : Jvm.MethodName)) ∈ lw_all := lw_g (lw_at lw_m15 9 rfl) rfl
theorem q3581 : (Jvm.Cond.instanceMethod ({ cls := "LetMillModel", name := "prod", desc := "()I" } : Jvm.MethodName)) ∈ lw_all := lw_g (lw_at lw_m15 11 rfl) rfl
theorem q3582 : (Jvm.Cond.code ({ cls := "LetMillModel", name := "prod", desc := "()I" } : Jvm.MethodName) prog_60_method_25_code (6 : Nat) (Option.some Jvm.ClassFile.FieldType.int)) ∈ lw_all := lw_g (lw_at lw_m15 12 rfl) rfl
theorem q3583 : (Jvm.Cond.methodLink "LetMillModel" (166 : Nat) ({ cls := "LetMillModel", name := "appl", desc := "()I" } : Jvm.MethodName)) ∈ lw_all := lw_g (lw_at lw_m15 13 rfl) rfl
theorem q3585 : (Jvm.Cond.instanceMethod ({ cls := "LetMillModel", name := "appl", desc := "()I" } : Jvm.MethodName)) ∈ lw_all := lw_g (lw_at lw_m15 15 rfl) rfl
theorem q3586 : (Jvm.Cond.code ({ cls := "LetMillModel", name := "appl", desc := "()I" } : Jvm.MethodName) prog_60_method_26_code (7 : Nat) (Option.some Jvm.ClassFile.FieldType.int)) ∈ lw_all := lw_g (lw_at lw_m15 16 rfl) rfl
theorem q3587 : (Jvm.Cond.methodLink "LetMillModel" (645 : Nat) ({ cls := "LetMillModel", name := "names", desc := "(I)V" } : Jvm.MethodName)) ∈ lw_all := lw_g (lw_at lw_m15 17 rfl) rfl
theorem q3589 : (Jvm.Cond.instanceMethod ({ cls := "LetMillModel", name := "names", desc := "(I)V" } : Jvm.MethodName)) ∈ lw_all := lw_g (lw_at lw_m15 19 rfl) rfl
theorem q3590 : (Jvm.Cond.code ({ cls := "LetMillModel", name := "names", desc := "(I)V" } : Jvm.MethodName) prog_60_method_116_code (3 : Nat) (Option.none : Option Jvm.ClassFile.FieldType)) ∈ lw_all := lw_g (lw_at lw_m15 20 rfl) rfl
theorem q3591 : (Jvm.Cond.methodLink "LetMillModel" (250 : Nat) ({ cls := "LetMillModel", name := "knowName", desc := "(I)V" } : Jvm.MethodName)) ∈ lw_all := lw_g (lw_at lw_m15 21 rfl) rfl
theorem q3593 : (Jvm.Cond.instanceMethod ({ cls := "LetMillModel", name := "knowName", desc := "(I)V" } : Jvm.MethodName)) ∈ lw_all := lw_g (lw_at lw_m15 23 rfl) rfl
theorem q3594 : (Jvm.Cond.code ({ cls := "LetMillModel", name := "knowName", desc := "(I)V" } : Jvm.MethodName) prog_60_method_46_code (2 : Nat) (Option.none : Option Jvm.ClassFile.FieldType)) ∈ lw_all := lw_g (lw_at lw_m15 24 rfl) rfl
theorem q3595 : (Jvm.Cond.methodLink "LetMillModel" (310 : Nat) ({ cls := "LetMillModel", name := "resolveDecs", desc := "(I)V" } : Jvm.MethodName)) ∈ lw_all := lw_g (lw_at lw_m15 25 rfl) rfl
theorem q3597 : (Jvm.Cond.instanceMethod ({ cls := "LetMillModel", name := "resolveDecs", desc := "(I)V" } : Jvm.MethodName)) ∈ lw_all := lw_g (lw_at lw_m15 27 rfl) rfl
theorem q3598 : (Jvm.Cond.code ({ cls := "LetMillModel", name := "resolveDecs", desc := "(I)V" } : Jvm.MethodName) prog_60_method_47_code (3 : Nat) (Option.none : Option Jvm.ClassFile.FieldType)) ∈ lw_all := lw_g (lw_at lw_m15 28 rfl) rfl
theorem q3599 : (Jvm.Cond.methodLink "LetMillModel" (236 : Nat) ({ cls := "LetMillModel", name := "resolveDec", desc := "(I)V" } : Jvm.MethodName)) ∈ lw_all := lw_g (lw_at lw_m15 29 rfl) rfl
theorem q3601 : (Jvm.Cond.instanceMethod ({ cls := "LetMillModel", name := "resolveDec", desc := "(I)V" } : Jvm.MethodName)) ∈ lw_all := lw_g (lw_at lw_m15 31 rfl) rfl
theorem q3602 : (Jvm.Cond.code ({ cls := "LetMillModel", name := "resolveDec", desc := "(I)V" } : Jvm.MethodName) prog_60_method_48_code (5 : Nat) (Option.none : Option Jvm.ClassFile.FieldType)) ∈ lw_all := lw_g (lw_at lw_m15 32 rfl) rfl
theorem q3603 : (Jvm.Cond.methodLink "LetMillModel" (240 : Nat) ({ cls := "LetMillModel", name := "resolve", desc := "(I)V" } : Jvm.MethodName)) ∈ lw_all := lw_g (lw_at lw_m15 33 rfl) rfl
theorem q3605 : (Jvm.Cond.instanceMethod ({ cls := "LetMillModel", name := "resolve", desc := "(I)V" } : Jvm.MethodName)) ∈ lw_all := lw_g (lw_at lw_m15 35 rfl) rfl
theorem q3606 : (Jvm.Cond.code ({ cls := "LetMillModel", name := "resolve", desc := "(I)V" } : Jvm.MethodName) prog_60_method_55_code (5 : Nat) (Option.none : Option Jvm.ClassFile.FieldType)) ∈ lw_all := lw_g (lw_at lw_m15 36 rfl) rfl
theorem q3607 : (Jvm.Cond.methodLink "LetMillModel" (304 : Nat) ({ cls := "LetMillModel", name := "isKnown", desc := "(I)Z" } : Jvm.MethodName)) ∈ lw_all := lw_g (lw_at lw_m15 37 rfl) rfl
theorem q3609 : (Jvm.Cond.instanceMethod ({ cls := "LetMillModel", name := "isKnown", desc := "(I)Z" } : Jvm.MethodName)) ∈ lw_all := lw_g (lw_at lw_m15 39 rfl) rfl
theorem q3610 : (Jvm.Cond.code ({ cls := "LetMillModel", name := "isKnown", desc := "(I)Z" } : Jvm.MethodName) prog_60_method_54_code (3 : Nat) (Option.some Jvm.ClassFile.FieldType.boolean)) ∈ lw_all := lw_g (lw_at lw_m15 40 rfl) rfl
theorem q3611 : (Jvm.Cond.methodLink "LetMillModel" (259 : Nat) ({ cls := "LetMillModel", name := "note", desc := "(II)V" } : Jvm.MethodName)) ∈ lw_all := lw_g (lw_at lw_m15 41 rfl) rfl
theorem q3613 : (Jvm.Cond.instanceMethod ({ cls := "LetMillModel", name := "note", desc := "(II)V" } : Jvm.MethodName)) ∈ lw_all := lw_g (lw_at lw_m15 43 rfl) rfl
theorem q3614 : (Jvm.Cond.code ({ cls := "LetMillModel", name := "note", desc := "(II)V" } : Jvm.MethodName) prog_60_method_43_code (3 : Nat) (Option.none : Option Jvm.ClassFile.FieldType)) ∈ lw_all := lw_g (lw_at lw_m15 44 rfl) rfl
theorem q3615 : (Jvm.Cond.methodLink "LetMillModel" (301 : Nat) ({ cls := "LetMillModel", name := "findCon", desc := "(I)I" } : Jvm.MethodName)) ∈ lw_all := lw_g (lw_at lw_m15 45 rfl) rfl
theorem q3617 : (Jvm.Cond.instanceMethod ({ cls := "LetMillModel", name := "findCon", desc := "(I)I" } : Jvm.MethodName)) ∈ lw_all := lw_g (lw_at lw_m15 47 rfl) rfl
theorem q3618 : (Jvm.Cond.code ({ cls := "LetMillModel", name := "findCon", desc := "(I)I" } : Jvm.MethodName) prog_60_method_45_code (3 : Nat) (Option.some Jvm.ClassFile.FieldType.int)) ∈ lw_all := lw_g (lw_at lw_m15 48 rfl) rfl
theorem q3619 : (Jvm.Cond.methodLink "LetMillModel" (307 : Nat) ({ cls := "LetMillModel", name := "resolveMatch", desc := "(I)V" } : Jvm.MethodName)) ∈ lw_all := lw_g (lw_at lw_m15 49 rfl) rfl
theorem q3621 : (Jvm.Cond.instanceMethod ({ cls := "LetMillModel", name := "resolveMatch", desc := "(I)V" } : Jvm.MethodName)) ∈ lw_all := lw_g (lw_at lw_m15 51 rfl) rfl
theorem q3622 : (Jvm.Cond.code ({ cls := "LetMillModel", name := "resolveMatch", desc := "(I)V" } : Jvm.MethodName) prog_60_method_56_code (4 : Nat) (Option.none : Option Jvm.ClassFile.FieldType)) ∈ lw_all := lw_g (lw_at lw_m15 52 rfl) rfl
theorem q3623 : (Jvm.Cond.methodLink "LetMillModel" (243 : Nat) ({ cls := "LetMillModel", name := "resolvePat", desc := "(II)V" } : Jvm.MethodName)) ∈ lw_all := lw_g (lw_at lw_m15 53 rfl) rfl
theorem q3625 : (Jvm.Cond.instanceMethod ({ cls := "LetMillModel", name := "resolvePat", desc := "(II)V" } : Jvm.MethodName)) ∈ lw_all := lw_g (lw_at lw_m15 55 rfl) rfl
theorem q3626 : (Jvm.Cond.code ({ cls := "LetMillModel", name := "resolvePat", desc := "(II)V" } : Jvm.MethodName) prog_60_method_53_code (5 : Nat) (Option.none : Option Jvm.ClassFile.FieldType)) ∈ lw_all := lw_g (lw_at lw_m15 56 rfl) rfl
theorem q3627 : (Jvm.Cond.methodLink "LetMillModel" (246 : Nat) ({ cls := "LetMillModel", name := "told", desc := "([IIIII)V" } : Jvm.MethodName)) ∈ lw_all := lw_g (lw_at lw_m15 57 rfl) rfl
theorem q3629 : (Jvm.Cond.instanceMethod ({ cls := "LetMillModel", name := "told", desc := "([IIIII)V" } : Jvm.MethodName)) ∈ lw_all := lw_g (lw_at lw_m15 59 rfl) rfl
theorem q3630 : (Jvm.Cond.code ({ cls := "LetMillModel", name := "told", desc := "([IIIII)V" } : Jvm.MethodName) prog_60_method_49_code (7 : Nat) (Option.none : Option Jvm.ClassFile.FieldType)) ∈ lw_all := lw_g (lw_at lw_m15 60 rfl) rfl
theorem q3631 : (Jvm.Cond.methodLink "LetMillModel" (253 : Nat) ({ cls := "LetMillModel", name := "resolveClause", desc := "(II)V" } : Jvm.MethodName)) ∈ lw_all := lw_g (lw_at lw_m15 61 rfl) rfl
theorem q3633 : (Jvm.Cond.instanceMethod ({ cls := "LetMillModel", name := "resolveClause", desc := "(II)V" } : Jvm.MethodName)) ∈ lw_all := lw_g (lw_at lw_m15 63 rfl) rfl
theorem q3634 : (Jvm.Cond.code ({ cls := "LetMillModel", name := "resolveClause", desc := "(II)V" } : Jvm.MethodName) prog_60_method_50_code (5 : Nat) (Option.none : Option Jvm.ClassFile.FieldType)) ∈ lw_all := lw_g (lw_at lw_m15 64 rfl) rfl
theorem q3635 : (Jvm.Cond.methodLink "LetMillModel" (256 : Nat) ({ cls := "LetMillModel", name := "resolveData", desc := "(I)V" } : Jvm.MethodName)) ∈ lw_all := lw_g (lw_at lw_m15 65 rfl) rfl
theorem q3637 : (Jvm.Cond.instanceMethod ({ cls := "LetMillModel", name := "resolveData", desc := "(I)V" } : Jvm.MethodName)) ∈ lw_all := lw_g (lw_at lw_m15 67 rfl) rfl
theorem q3638 : (Jvm.Cond.code ({ cls := "LetMillModel", name := "resolveData", desc := "(I)V" } : Jvm.MethodName) prog_60_method_51_code (7 : Nat) (Option.none : Option Jvm.ClassFile.FieldType)) ∈ lw_all := lw_g (lw_at lw_m15 68 rfl) rfl
theorem q3639 : (Jvm.Cond.methodLink "LetMillModel" (271 : Nat) ({ cls := "LetMillModel", name := "many", desc := "(I)I" } : Jvm.MethodName)) ∈ lw_all := lw_g (lw_at lw_m15 69 rfl) rfl
theorem q3641 : (Jvm.Cond.instanceMethod ({ cls := "LetMillModel", name := "many", desc := "(I)I" } : Jvm.MethodName)) ∈ lw_all := lw_g (lw_at lw_m15 71 rfl) rfl
theorem q3642 : (Jvm.Cond.code ({ cls := "LetMillModel", name := "many", desc := "(I)I" } : Jvm.MethodName) prog_60_method_13_code (4 : Nat) (Option.some Jvm.ClassFile.FieldType.int)) ∈ lw_all := lw_g (lw_at lw_m15 72 rfl) rfl
theorem q3643 : (Jvm.Cond.methodLink "LetMillModel" (295 : Nat) ({ cls := "LetMillModel", name := "resolveTy", desc := "(II)V" } : Jvm.MethodName)) ∈ lw_all := lw_g (lw_at lw_m15 73 rfl) rfl
theorem q3645 : (Jvm.Cond.instanceMethod ({ cls := "LetMillModel", name := "resolveTy", desc := "(II)V" } : Jvm.MethodName)) ∈ lw_all := lw_g (lw_at lw_m15 75 rfl) rfl
theorem q3646 : (Jvm.Cond.code ({ cls := "LetMillModel", name := "resolveTy", desc := "(II)V" } : Jvm.MethodName) prog_60_method_52_code (7 : Nat) (Option.none : Option Jvm.ClassFile.FieldType)) ∈ lw_all := lw_g (lw_at lw_m15 76 rfl) rfl
theorem q3647 : (Jvm.Cond.methodLink "LetMillModel" (298 : Nat) ({ cls := "LetMillModel", name := "findData", desc := "(I)I" } : Jvm.MethodName)) ∈ lw_all := lw_g (lw_at lw_m15 77 rfl) rfl
theorem q3649 : (Jvm.Cond.instanceMethod ({ cls := "LetMillModel", name := "findData", desc := "(I)I" } : Jvm.MethodName)) ∈ lw_all := lw_g (lw_at lw_m15 79 rfl) rfl
theorem q3650 : (Jvm.Cond.code ({ cls := "LetMillModel", name := "findData", desc := "(I)I" } : Jvm.MethodName) prog_60_method_44_code (3 : Nat) (Option.some Jvm.ClassFile.FieldType.int)) ∈ lw_all := lw_g (lw_at lw_m15 80 rfl) rfl
theorem q3651 : (Jvm.Cond.methodLink "LetMillModel" (465 : Nat) ({ cls := "LetMillModel", name := "decType", desc := "(IZ)V" } : Jvm.MethodName)) ∈ lw_all := lw_g (lw_at lw_m15 81 rfl) rfl
theorem q3653 : (Jvm.Cond.instanceMethod ({ cls := "LetMillModel", name := "decType", desc := "(IZ)V" } : Jvm.MethodName)) ∈ lw_all := lw_g (lw_at lw_m15 83 rfl) rfl
theorem q3654 : (Jvm.Cond.code ({ cls := "LetMillModel", name := "decType", desc := "(IZ)V" } : Jvm.MethodName) prog_60_method_88_code (6 : Nat) (Option.none : Option Jvm.ClassFile.FieldType)) ∈ lw_all := lw_g (lw_at lw_m15 84 rfl) rfl
theorem q3655 : (Jvm.Cond.methodLink "LetMillModel" (450 : Nat) ({ cls := "LetMillModel", name := "expType", desc := "(I)I" } : Jvm.MethodName)) ∈ lw_all := lw_g (lw_at lw_m15 85 rfl) rfl
theorem q3657 : (Jvm.Cond.instanceMethod ({ cls := "LetMillModel", name := "expType", desc := "(I)I" } : Jvm.MethodName)) ∈ lw_all := lw_g (lw_at lw_m15 87 rfl) rfl
theorem q3658 : (Jvm.Cond.code ({ cls := "LetMillModel", name := "expType", desc := "(I)I" } : Jvm.MethodName) prog_60_method_80_code (9 : Nat) (Option.some Jvm.ClassFile.FieldType.int)) ∈ lw_all := lw_g (lw_at lw_m15 88 rfl) rfl
theorem q3659 : (Jvm.Cond.methodLink "LetMillModel" (397 : Nat) ({ cls := "LetMillModel", name := "base", desc := "(I)I" } : Jvm.MethodName)) ∈ lw_all := lw_g (lw_at lw_m15 89 rfl) rfl
theorem q3661 : (Jvm.Cond.instanceMethod ({ cls := "LetMillModel", name := "base", desc := "(I)I" } : Jvm.MethodName)) ∈ lw_all := lw_g (lw_at lw_m15 91 rfl) rfl
theorem q3662 : (Jvm.Cond.code ({ cls := "LetMillModel", name := "base", desc := "(I)I" } : Jvm.MethodName) prog_60_method_59_code (2 : Nat) (Option.some Jvm.ClassFile.FieldType.int)) ∈ lw_all := lw_g (lw_at lw_m15 92 rfl) rfl
theorem q3663 : (Jvm.Cond.methodLink "LetMillModel" (325 : Nat) ({ cls := "LetMillModel", name := "type", desc := "(III)I" } : Jvm.MethodName)) ∈ lw_all := lw_g (lw_at lw_m15 93 rfl) rfl
theorem q3665 : (Jvm.Cond.instanceMethod ({ cls := "LetMillModel", name := "type", desc := "(III)I" } : Jvm.MethodName)) ∈ lw_all := lw_g (lw_at lw_m15 95 rfl) rfl
theorem q3666 : (Jvm.Cond.code ({ cls := "LetMillModel", name := "type", desc := "(III)I" } : Jvm.MethodName) prog_60_method_57_code (4 : Nat) (Option.some Jvm.ClassFile.FieldType.int)) ∈ lw_all := lw_g (lw_at lw_m15 96 rfl) rfl
theorem q3667 : (Jvm.Cond.methodLink "LetMillModel" (459 : Nat) ({ cls := "LetMillModel", name := "nameType", desc := "(I)I" } : Jvm.MethodName)) ∈ lw_all := lw_g (lw_at lw_m15 97 rfl) rfl
theorem q3669 : (Jvm.Cond.instanceMethod ({ cls := "LetMillModel", name := "nameType", desc := "(I)I" } : Jvm.MethodName)) ∈ lw_all := lw_g (lw_at lw_m15 99 rfl) rfl
theorem q3670 : (Jvm.Cond.code ({ cls := "LetMillModel", name := "nameType", desc := "(I)I" } : Jvm.MethodName) prog_60_method_74_code (3 : Nat) (Option.some Jvm.ClassFile.FieldType.int)) ∈ lw_all := lw_g (lw_at lw_m15 100 rfl) rfl
theorem q3671 : (Jvm.Cond.methodLink "LetMillModel" (400 : Nat) ({ cls := "LetMillModel", name := "renew", desc := "()V" } : Jvm.MethodName)) ∈ lw_all := lw_g (lw_at lw_m15 101 rfl) rfl
theorem q3673 : (Jvm.Cond.instanceMethod ({ cls := "LetMillModel", name := "renew", desc := "()V" } : Jvm.MethodName)) ∈ lw_all := lw_g (lw_at lw_m15 103 rfl) rfl
theorem q3674 : (Jvm.Cond.code ({ cls := "LetMillModel", name := "renew", desc := "()V" } : Jvm.MethodName) prog_60_method_73_code (2 : Nat) (Option.none : Option Jvm.ClassFile.FieldType)) ∈ lw_all := lw_g (lw_at lw_m15 104 rfl) rfl
theorem q3675 : (Jvm.Cond.methodLink "LetMillModel" (379 : Nat) ({ cls := "LetMillModel", name := "copy", desc := "(I)I" } : Jvm.MethodName)) ∈ lw_all := lw_g (lw_at lw_m15 105 rfl) rfl
theorem q3677 : (Jvm.Cond.instanceMethod ({ cls := "LetMillModel", name := "copy", desc := "(I)I" } : Jvm.MethodName)) ∈ lw_all := lw_g (lw_at lw_m15 107 rfl) rfl
theorem q3678 : (Jvm.Cond.code ({ cls := "LetMillModel", name := "copy", desc := "(I)I" } : Jvm.MethodName) prog_60_method_70_code (4 : Nat) (Option.some Jvm.ClassFile.FieldType.int)) ∈ lw_all := lw_g (lw_at lw_m15 108 rfl) rfl
theorem q3679 : (Jvm.Cond.methodLink "LetMillModel" (376 : Nat) ({ cls := "LetMillModel", name := "free", desc := "()I" } : Jvm.MethodName)) ∈ lw_all := lw_g (lw_at lw_m15 109 rfl) rfl
theorem q3681 : (Jvm.Cond.instanceMethod ({ cls := "LetMillModel", name := "free", desc := "()I" } : Jvm.MethodName)) ∈ lw_all := lw_g (lw_at lw_m15 111 rfl) rfl
theorem q3682 : (Jvm.Cond.code ({ cls := "LetMillModel", name := "free", desc := "()I" } : Jvm.MethodName) prog_60_method_58_code (1 : Nat) (Option.some Jvm.ClassFile.FieldType.int)) ∈ lw_all := lw_g (lw_at lw_m15 112 rfl) rfl
theorem q3683 : (Jvm.Cond.methodLink "LetMillModel" (382 : Nat) ({ cls := "LetMillModel", name := "copyList", desc := "(I)I" } : Jvm.MethodName)) ∈ lw_all := lw_g (lw_at lw_m15 113 rfl) rfl
theorem q3685 : (Jvm.Cond.instanceMethod ({ cls := "LetMillModel", name := "copyList", desc := "(I)I" } : Jvm.MethodName)) ∈ lw_all := lw_g (lw_at lw_m15 115 rfl) rfl
theorem q3686 : (Jvm.Cond.code ({ cls := "LetMillModel", name := "copyList", desc := "(I)I" } : Jvm.MethodName) prog_60_method_71_code (3 : Nat) (Option.some Jvm.ClassFile.FieldType.int)) ∈ lw_all := lw_g (lw_at lw_m15 116 rfl) rfl
theorem q3687 : (Jvm.Cond.methodLink "LetMillModel" (391 : Nat) ({ cls := "LetMillModel", name := "lift", desc := "(I)I" } : Jvm.MethodName)) ∈ lw_all := lw_g (lw_at lw_m15 117 rfl) rfl
theorem q3689 : (Jvm.Cond.instanceMethod ({ cls := "LetMillModel", name := "lift", desc := "(I)I" } : Jvm.MethodName)) ∈ lw_all := lw_g (lw_at lw_m15 119 rfl) rfl
theorem q3690 : (Jvm.Cond.code ({ cls := "LetMillModel", name := "lift", desc := "(I)I" } : Jvm.MethodName) prog_60_method_72_code (3 : Nat) (Option.some Jvm.ClassFile.FieldType.int)) ∈ lw_all := lw_g (lw_at lw_m15 120 rfl) rfl
theorem q3691 : (Jvm.Cond.methodLink "LetMillModel" (438 : Nat) ({ cls := "LetMillModel", name := "conType", desc := "(I)I" } : Jvm.MethodName)) ∈ lw_all := lw_g (lw_at lw_m15 121 rfl) rfl
theorem q3693 : (Jvm.Cond.instanceMethod ({ cls := "LetMillModel", name := "conType", desc := "(I)I" } : Jvm.MethodName)) ∈ lw_all := lw_g (lw_at lw_m15 123 rfl) rfl
theorem q3694 : (Jvm.Cond.code ({ cls := "LetMillModel", name := "conType", desc := "(I)I" } : Jvm.MethodName) prog_60_method_75_code (5 : Nat) (Option.some Jvm.ClassFile.FieldType.int)) ∈ lw_all := lw_g (lw_at lw_m15 124 rfl) rfl
theorem q3695 : (Jvm.Cond.methodLink "LetMillModel" (425 : Nat) ({ cls := "LetMillModel", name := "list", desc := "([II)I" } : Jvm.MethodName)) ∈ lw_all := lw_g (lw_at lw_m15 125 rfl) rfl
theorem q3697 : (Jvm.Cond.instanceMethod ({ cls := "LetMillModel", name := "list", desc := "([II)I" } : Jvm.MethodName)) ∈ lw_all := lw_g (lw_at lw_m15 127 rfl) rfl
theorem q3698 : (Jvm.Cond.code ({ cls := "LetMillModel", name := "list", desc := "([II)I" } : Jvm.MethodName) prog_60_method_69_code (5 : Nat) (Option.some Jvm.ClassFile.FieldType.int)) ∈ lw_all := lw_g (lw_at lw_m15 128 rfl) rfl
theorem q3699 : (Jvm.Cond.methodLink "LetMillModel" (429 : Nat) ({ cls := "LetMillModel", name := "tyType", desc := "(I)I" } : Jvm.MethodName)) ∈ lw_all := lw_g (lw_at lw_m15 129 rfl) rfl
theorem q3701 : (Jvm.Cond.instanceMethod ({ cls := "LetMillModel", name := "tyType", desc := "(I)I" } : Jvm.MethodName)) ∈ lw_all := lw_g (lw_at lw_m15 131 rfl) rfl
theorem q3702 : (Jvm.Cond.code ({ cls := "LetMillModel", name := "tyType", desc := "(I)I" } : Jvm.MethodName) prog_60_method_76_code (3 : Nat) (Option.some Jvm.ClassFile.FieldType.int)) ∈ lw_all := lw_g (lw_at lw_m15 132 rfl) rfl
theorem q3703 : (Jvm.Cond.methodLink "LetMillModel" (432 : Nat) ({ cls := "LetMillModel", name := "tyList", desc := "(I)I" } : Jvm.MethodName)) ∈ lw_all := lw_g (lw_at lw_m15 133 rfl) rfl
theorem q3705 : (Jvm.Cond.instanceMethod ({ cls := "LetMillModel", name := "tyList", desc := "(I)I" } : Jvm.MethodName)) ∈ lw_all := lw_g (lw_at lw_m15 135 rfl) rfl
theorem q3706 : (Jvm.Cond.code ({ cls := "LetMillModel", name := "tyList", desc := "(I)I" } : Jvm.MethodName) prog_60_method_77_code (3 : Nat) (Option.some Jvm.ClassFile.FieldType.int)) ∈ lw_all := lw_g (lw_at lw_m15 136 rfl) rfl
theorem q3707 : (Jvm.Cond.methodLink "LetMillModel" (448 : Nat) ({ cls := "LetMillModel", name := "data", desc := "(II)I" } : Jvm.MethodName)) ∈ lw_all := lw_g (lw_at lw_m15 137 rfl) rfl
theorem q3709 : (Jvm.Cond.instanceMethod ({ cls := "LetMillModel", name := "data", desc := "(II)I" } : Jvm.MethodName)) ∈ lw_all := lw_g (lw_at lw_m15 139 rfl) rfl
theorem q3710 : (Jvm.Cond.code ({ cls := "LetMillModel", name := "data", desc := "(II)I" } : Jvm.MethodName) prog_60_method_60_code (3 : Nat) (Option.some Jvm.ClassFile.FieldType.int)) ∈ lw_all := lw_g (lw_at lw_m15 140 rfl) rfl
theorem q3711 : (Jvm.Cond.methodLink "LetMillModel" (462 : Nat) ({ cls := "LetMillModel", name := "tupleType", desc := "(I)I" } : Jvm.MethodName)) ∈ lw_all := lw_g (lw_at lw_m15 141 rfl) rfl
theorem q3713 : (Jvm.Cond.instanceMethod ({ cls := "LetMillModel", name := "tupleType", desc := "(I)I" } : Jvm.MethodName)) ∈ lw_all := lw_g (lw_at lw_m15 143 rfl) rfl
theorem q3714 : (Jvm.Cond.code ({ cls := "LetMillModel", name := "tupleType", desc := "(I)I" } : Jvm.MethodName) prog_60_method_81_code (7 : Nat) (Option.some Jvm.ClassFile.FieldType.int)) ∈ lw_all := lw_g (lw_at lw_m15 144 rfl) rfl
theorem q3715 : (Jvm.Cond.methodLink "LetMillModel" (444 : Nat) ({ cls := "LetMillModel", name := "equation", desc := "(III)V" } : Jvm.MethodName)) ∈ lw_all := lw_g (lw_at lw_m15 145 rfl) rfl
theorem q3717 : (Jvm.Cond.instanceMethod ({ cls := "LetMillModel", name := "equation", desc := "(III)V" } : Jvm.MethodName)) ∈ lw_all := lw_g (lw_at lw_m15 147 rfl) rfl
theorem q3718 : (Jvm.Cond.code ({ cls := "LetMillModel", name := "equation", desc := "(III)V" } : Jvm.MethodName) prog_60_method_67_code (4 : Nat) (Option.none : Option Jvm.ClassFile.FieldType)) ∈ lw_all := lw_g (lw_at lw_m15 148 rfl) rfl
theorem q3719 : (Jvm.Cond.methodLink "LetMillModel" (357 : Nat) ({ cls := "LetMillModel", name := "unify", desc := "(II)Z" } : Jvm.MethodName)) ∈ lw_all := lw_g (lw_at lw_m15 149 rfl) rfl
theorem q3721 : (Jvm.Cond.instanceMethod ({ cls := "LetMillModel", name := "unify", desc := "(II)Z" } : Jvm.MethodName)) ∈ lw_all := lw_g (lw_at lw_m15 151 rfl) rfl
theorem q3722 : (Jvm.Cond.code ({ cls := "LetMillModel", name := "unify", desc := "(II)Z" } : Jvm.MethodName) prog_60_method_64_code (8 : Nat) (Option.some Jvm.ClassFile.FieldType.boolean)) ∈ lw_all := lw_g (lw_at lw_m15 152 rfl) rfl
theorem q3723 : (Jvm.Cond.methodLink "LetMillModel" (335 : Nat) ({ cls := "LetMillModel", name := "push", desc := "(I)V" } : Jvm.MethodName)) ∈ lw_all := lw_g (lw_at lw_m15 153 rfl) rfl
theorem q3725 : (Jvm.Cond.instanceMethod ({ cls := "LetMillModel", name := "push", desc := "(I)V" } : Jvm.MethodName)) ∈ lw_all := lw_g (lw_at lw_m15 155 rfl) rfl
theorem q3726 : (Jvm.Cond.code ({ cls := "LetMillModel", name := "push", desc := "(I)V" } : Jvm.MethodName) prog_60_method_62_code (2 : Nat) (Option.none : Option Jvm.ClassFile.FieldType)) ∈ lw_all := lw_g (lw_at lw_m15 156 rfl) rfl
theorem q3727 : (Jvm.Cond.methodLink "LetMillModel" (338 : Nat) ({ cls := "LetMillModel", name := "prune", desc := "(I)I" } : Jvm.MethodName)) ∈ lw_all := lw_g (lw_at lw_m15 157 rfl) rfl
theorem q3729 : (Jvm.Cond.instanceMethod ({ cls := "LetMillModel", name := "prune", desc := "(I)I" } : Jvm.MethodName)) ∈ lw_all := lw_g (lw_at lw_m15 159 rfl) rfl
theorem q3730 : (Jvm.Cond.code ({ cls := "LetMillModel", name := "prune", desc := "(I)I" } : Jvm.MethodName) prog_60_method_61_code (3 : Nat) (Option.some Jvm.ClassFile.FieldType.int)) ∈ lw_all := lw_g (lw_at lw_m15 160 rfl) rfl
theorem q3731 : (Jvm.Cond.methodLink "LetMillModel" (347 : Nat) ({ cls := "LetMillModel", name := "same", desc := "(II)V" } : Jvm.MethodName)) ∈ lw_all := lw_g (lw_at lw_m15 161 rfl) rfl
theorem q3733 : (Jvm.Cond.instanceMethod ({ cls := "LetMillModel", name := "same", desc := "(II)V" } : Jvm.MethodName)) ∈ lw_all := lw_g (lw_at lw_m15 163 rfl) rfl
theorem q3734 : (Jvm.Cond.code ({ cls := "LetMillModel", name := "same", desc := "(II)V" } : Jvm.MethodName) prog_60_method_66_code (3 : Nat) (Option.none : Option Jvm.ClassFile.FieldType)) ∈ lw_all := lw_g (lw_at lw_m15 164 rfl) rfl
theorem q3735 : (Jvm.Cond.methodLink "LetMillModel" (350 : Nat) ({ cls := "LetMillModel", name := "both", desc := "(II)Z" } : Jvm.MethodName)) ∈ lw_all := lw_g (lw_at lw_m15 165 rfl) rfl
theorem q3737 : (Jvm.Cond.instanceMethod ({ cls := "LetMillModel", name := "both", desc := "(II)Z" } : Jvm.MethodName)) ∈ lw_all := lw_g (lw_at lw_m15 167 rfl) rfl
theorem q3738 : (Jvm.Cond.code ({ cls := "LetMillModel", name := "both", desc := "(II)Z" } : Jvm.MethodName) prog_60_method_65_code (5 : Nat) (Option.some Jvm.ClassFile.FieldType.boolean)) ∈ lw_all := lw_g (lw_at lw_m15 168 rfl) rfl
theorem q3739 : (Jvm.Cond.methodLink "LetMillModel" (354 : Nat) ({ cls := "LetMillModel", name := "occurs", desc := "(II)Z" } : Jvm.MethodName)) ∈ lw_all := lw_g (lw_at lw_m15 169 rfl) rfl
theorem q3741 : (Jvm.Cond.instanceMethod ({ cls := "LetMillModel", name := "occurs", desc := "(II)Z" } : Jvm.MethodName)) ∈ lw_all := lw_g (lw_at lw_m15 171 rfl) rfl
theorem q3742 : (Jvm.Cond.code ({ cls := "LetMillModel", name := "occurs", desc := "(II)Z" } : Jvm.MethodName) prog_60_method_63_code (8 : Nat) (Option.some Jvm.ClassFile.FieldType.boolean)) ∈ lw_all := lw_g (lw_at lw_m15 172 rfl) rfl
theorem q3743 : (Jvm.Cond.methodLink "LetMillModel" (469 : Nat) ({ cls := "LetMillModel", name := "matchType", desc := "(I)V" } : Jvm.MethodName)) ∈ lw_all := lw_g (lw_at lw_m15 173 rfl) rfl
theorem q3745 : (Jvm.Cond.instanceMethod ({ cls := "LetMillModel", name := "matchType", desc := "(I)V" } : Jvm.MethodName)) ∈ lw_all := lw_g (lw_at lw_m15 175 rfl) rfl
theorem q3746 : (Jvm.Cond.code ({ cls := "LetMillModel", name := "matchType", desc := "(I)V" } : Jvm.MethodName) prog_60_method_79_code (8 : Nat) (Option.none : Option Jvm.ClassFile.FieldType)) ∈ lw_all := lw_g (lw_at lw_m15 176 rfl) rfl
theorem q3747 : (Jvm.Cond.methodLink "LetMillModel" (441 : Nat) ({ cls := "LetMillModel", name := "patType", desc := "(I)I" } : Jvm.MethodName)) ∈ lw_all := lw_g (lw_at lw_m15 177 rfl) rfl
theorem q3749 : (Jvm.Cond.instanceMethod ({ cls := "LetMillModel", name := "patType", desc := "(I)I" } : Jvm.MethodName)) ∈ lw_all := lw_g (lw_at lw_m15 179 rfl) rfl
theorem q3750 : (Jvm.Cond.code ({ cls := "LetMillModel", name := "patType", desc := "(I)I" } : Jvm.MethodName) prog_60_method_78_code (8 : Nat) (Option.some Jvm.ClassFile.FieldType.int)) ∈ lw_all := lw_g (lw_at lw_m15 180 rfl) rfl
theorem q3751 : (Jvm.Cond.methodLink "LetMillModel" (435 : Nat) ({ cls := "LetMillModel", name := "bindType", desc := "(II)V" } : Jvm.MethodName)) ∈ lw_all := lw_g (lw_at lw_m15 181 rfl) rfl
theorem q3753 : (Jvm.Cond.instanceMethod ({ cls := "LetMillModel", name := "bindType", desc := "(II)V" } : Jvm.MethodName)) ∈ lw_all := lw_g (lw_at lw_m15 183 rfl) rfl
theorem q3754 : (Jvm.Cond.code ({ cls := "LetMillModel", name := "bindType", desc := "(II)V" } : Jvm.MethodName) prog_60_method_68_code (3 : Nat) (Option.none : Option Jvm.ClassFile.FieldType)) ∈ lw_all := lw_g (lw_at lw_m15 184 rfl) rfl
theorem q3755 : (Jvm.Cond.methodLink "LetMillModel" (472 : Nat) ({ cls := "LetMillModel", name := "chainType", desc := "(I)I" } : Jvm.MethodName)) ∈ lw_all := lw_g (lw_at lw_m15 185 rfl) rfl
theorem q3757 : (Jvm.Cond.instanceMethod ({ cls := "LetMillModel", name := "chainType", desc := "(I)I" } : Jvm.MethodName)) ∈ lw_all := lw_g (lw_at lw_m15 187 rfl) rfl
theorem q3758 : (Jvm.Cond.code ({ cls := "LetMillModel", name := "chainType", desc := "(I)I" } : Jvm.MethodName) prog_60_method_82_code (11 : Nat) (Option.some Jvm.ClassFile.FieldType.int)) ∈ lw_all := lw_g (lw_at lw_m15 188 rfl) rfl
theorem q3759 : (Jvm.Cond.methodLink "LetMillModel" (475 : Nat) ({ cls := "LetMillModel", name := "isStill", desc := "(I)Z" } : Jvm.MethodName)) ∈ lw_all := lw_g (lw_at lw_m15 189 rfl) rfl
theorem q3761 : (Jvm.Cond.instanceMethod ({ cls := "LetMillModel", name := "isStill", desc := "(I)Z" } : Jvm.MethodName)) ∈ lw_all := lw_g (lw_at lw_m15 191 rfl) rfl
theorem q3762 : (Jvm.Cond.code ({ cls := "LetMillModel", name := "isStill", desc := "(I)Z" } : Jvm.MethodName) prog_60_method_83_code (3 : Nat) (Option.some Jvm.ClassFile.FieldType.boolean)) ∈ lw_all := lw_g (lw_at lw_m15 192 rfl) rfl
theorem q3763 : (Jvm.Cond.methodLink "LetMillModel" (493 : Nat) ({ cls := "LetMillModel", name := "generalize", desc := "(I)V" } : Jvm.MethodName)) ∈ lw_all := lw_g (lw_at lw_m15 193 rfl) rfl
theorem q3765 : (Jvm.Cond.instanceMethod ({ cls := "LetMillModel", name := "generalize", desc := "(I)V" } : Jvm.MethodName)) ∈ lw_all := lw_g (lw_at lw_m15 195 rfl) rfl
theorem q3766 : (Jvm.Cond.code ({ cls := "LetMillModel", name := "generalize", desc := "(I)V" } : Jvm.MethodName) prog_60_method_87_code (5 : Nat) (Option.none : Option Jvm.ClassFile.FieldType)) ∈ lw_all := lw_g (lw_at lw_m15 196 rfl) rfl
theorem q3767 : (Jvm.Cond.methodLink "LetMillModel" (490 : Nat) ({ cls := "LetMillModel", name := "parts", desc := "(II)I" } : Jvm.MethodName)) ∈ lw_all := lw_g (lw_at lw_m15 197 rfl) rfl
theorem q3769 : (Jvm.Cond.instanceMethod ({ cls := "LetMillModel", name := "parts", desc := "(II)I" } : Jvm.MethodName)) ∈ lw_all := lw_g (lw_at lw_m15 199 rfl) rfl
theorem q3770 : (Jvm.Cond.code ({ cls := "LetMillModel", name := "parts", desc := "(II)I" } : Jvm.MethodName) prog_60_method_86_code (7 : Nat) (Option.some Jvm.ClassFile.FieldType.int)) ∈ lw_all := lw_g (lw_at lw_m15 200 rfl) rfl
theorem q3771 : (Jvm.Cond.methodLink "LetMillModel" (484 : Nat) ({ cls := "LetMillModel", name := "scheme", desc := "(I)I" } : Jvm.MethodName)) ∈ lw_all := lw_g (lw_at lw_m15 201 rfl) rfl
theorem q3773 : (Jvm.Cond.instanceMethod ({ cls := "LetMillModel", name := "scheme", desc := "(I)I" } : Jvm.MethodName)) ∈ lw_all := lw_g (lw_at lw_m15 203 rfl) rfl
theorem q3774 : (Jvm.Cond.code ({ cls := "LetMillModel", name := "scheme", desc := "(I)I" } : Jvm.MethodName) prog_60_method_84_code (4 : Nat) (Option.some Jvm.ClassFile.FieldType.int)) ∈ lw_all := lw_g (lw_at lw_m15 204 rfl) rfl
theorem q3775 : (Jvm.Cond.methodLink "LetMillModel" (487 : Nat) ({ cls := "LetMillModel", name := "schemeList", desc := "(I)I" } : Jvm.MethodName)) ∈ lw_all := lw_g (lw_at lw_m15 205 rfl) rfl
theorem q3777 : (Jvm.Cond.instanceMethod ({ cls := "LetMillModel", name := "schemeList", desc := "(I)I" } : Jvm.MethodName)) ∈ lw_all := lw_g (lw_at lw_m15 207 rfl) rfl
theorem q3778 : (Jvm.Cond.code ({ cls := "LetMillModel", name := "schemeList", desc := "(I)I" } : Jvm.MethodName) prog_60_method_85_code (3 : Nat) (Option.some Jvm.ClassFile.FieldType.int)) ∈ lw_all := lw_g (lw_at lw_m15 208 rfl) rfl
theorem q3779 : (Jvm.Cond.methodLink "LetMillModel" (496 : Nat) ({ cls := "LetMillModel", name := "functionType", desc := "(II)V" } : Jvm.MethodName)) ∈ lw_all := lw_g (lw_at lw_m15 209 rfl) rfl
theorem q3781 : (Jvm.Cond.instanceMethod ({ cls := "LetMillModel", name := "functionType", desc := "(II)V" } : Jvm.MethodName)) ∈ lw_all := lw_g (lw_at lw_m15 211 rfl) rfl
theorem q3782 : (Jvm.Cond.code ({ cls := "LetMillModel", name := "functionType", desc := "(II)V" } : Jvm.MethodName) prog_60_method_89_code (12 : Nat) (Option.none : Option Jvm.ClassFile.FieldType)) ∈ lw_all := lw_g (lw_at lw_m15 212 rfl) rfl
theorem q3783 : (Jvm.Cond.methodLink "LetMillModel" (499 : Nat) ({ cls := "LetMillModel", name := "tooMuch", desc := "(IIZ)V" } : Jvm.MethodName)) ∈ lw_all := lw_g (lw_at lw_m15 213 rfl) rfl
theorem q3785 : (Jvm.Cond.instanceMethod ({ cls := "LetMillModel", name := "tooMuch", desc := "(IIZ)V" } : Jvm.MethodName)) ∈ lw_all := lw_g (lw_at lw_m15 215 rfl) rfl
theorem q3786 : (Jvm.Cond.code ({ cls := "LetMillModel", name := "tooMuch", desc := "(IIZ)V" } : Jvm.MethodName) prog_60_method_90_code (9 : Nat) (Option.none : Option Jvm.ClassFile.FieldType)) ∈ lw_all := lw_g (lw_at lw_m15 216 rfl) rfl
theorem q3787 : (Jvm.Cond.methodLink "LetMillModel" (621 : Nat) ({ cls := "LetMillModel", name := "warnDecs", desc := "(I)V" } : Jvm.MethodName)) ∈ lw_all := lw_g (lw_at lw_m15 217 rfl) rfl
theorem q3789 : (Jvm.Cond.instanceMethod ({ cls := "LetMillModel", name := "warnDecs", desc := "(I)V" } : Jvm.MethodName)) ∈ lw_all := lw_g (lw_at lw_m15 219 rfl) rfl
theorem q3790 : (Jvm.Cond.code ({ cls := "LetMillModel", name := "warnDecs", desc := "(I)V" } : Jvm.MethodName) prog_60_method_108_code (5 : Nat) (Option.none : Option Jvm.ClassFile.FieldType)) ∈ lw_all := lw_g (lw_at lw_m15 220 rfl) rfl
theorem q3791 : (Jvm.Cond.methodLink "LetMillModel" (615 : Nat) ({ cls := "LetMillModel", name := "check", desc := "(IIZ)V" } : Jvm.MethodName)) ∈ lw_all := lw_g (lw_at lw_m15 221 rfl) rfl
theorem q3793 : (Jvm.Cond.instanceMethod ({ cls := "LetMillModel", name := "check", desc := "(IIZ)V" } : Jvm.MethodName)) ∈ lw_all := lw_g (lw_at lw_m15 223 rfl) rfl
theorem q3794 : (Jvm.Cond.code ({ cls := "LetMillModel", name := "check", desc := "(IIZ)V" } : Jvm.MethodName) prog_60_method_106_code (8 : Nat) (Option.none : Option Jvm.ClassFile.FieldType)) ∈ lw_all := lw_g (lw_at lw_m15 224 rfl) rfl
theorem q3795 : (Jvm.Cond.methodLink "LetMillModel" (579 : Nat) ({ cls := "LetMillModel", name := "any", desc := "(II)I" } : Jvm.MethodName)) ∈ lw_all := lw_g (lw_at lw_m15 225 rfl) rfl
theorem q3797 : (Jvm.Cond.instanceMethod ({ cls := "LetMillModel", name := "any", desc := "(II)I" } : Jvm.MethodName)) ∈ lw_all := lw_g (lw_at lw_m15 227 rfl) rfl
theorem q3798 : (Jvm.Cond.code ({ cls := "LetMillModel", name := "any", desc := "(II)I" } : Jvm.MethodName) prog_60_method_91_code (3 : Nat) (Option.some Jvm.ClassFile.FieldType.int)) ∈ lw_all := lw_g (lw_at lw_m15 228 rfl) rfl
theorem q3799 : (Jvm.Cond.methodLink "LetMillModel" (570 : Nat) ({ cls := "LetMillModel", name := "explore", desc := "(III)V" } : Jvm.MethodName)) ∈ lw_all := lw_g (lw_at lw_m15 229 rfl) rfl
theorem q3801 : (Jvm.Cond.instanceMethod ({ cls := "LetMillModel", name := "explore", desc := "(III)V" } : Jvm.MethodName)) ∈ lw_all := lw_g (lw_at lw_m15 231 rfl) rfl
theorem q3802 : (Jvm.Cond.code ({ cls := "LetMillModel", name := "explore", desc := "(III)V" } : Jvm.MethodName) prog_60_method_96_code (7 : Nat) (Option.none : Option Jvm.ClassFile.FieldType)) ∈ lw_all := lw_g (lw_at lw_m15 232 rfl) rfl
theorem q3803 : (Jvm.Cond.methodLink "LetMillModel" (539 : Nat) ({ cls := "LetMillModel", name := "fitsAll", desc := "(II)I" } : Jvm.MethodName)) ∈ lw_all := lw_g (lw_at lw_m15 233 rfl) rfl
theorem q3805 : (Jvm.Cond.instanceMethod ({ cls := "LetMillModel", name := "fitsAll", desc := "(II)I" } : Jvm.MethodName)) ∈ lw_all := lw_g (lw_at lw_m15 235 rfl) rfl
theorem q3806 : (Jvm.Cond.code ({ cls := "LetMillModel", name := "fitsAll", desc := "(II)I" } : Jvm.MethodName) prog_60_method_95_code (6 : Nat) (Option.some Jvm.ClassFile.FieldType.int)) ∈ lw_all := lw_g (lw_at lw_m15 236 rfl) rfl
theorem q3807 : (Jvm.Cond.methodLink "LetMillModel" (545 : Nat) ({ cls := "LetMillModel", name := "fits", desc := "(II)I" } : Jvm.MethodName)) ∈ lw_all := lw_g (lw_at lw_m15 237 rfl) rfl
theorem q3809 : (Jvm.Cond.instanceMethod ({ cls := "LetMillModel", name := "fits", desc := "(II)I" } : Jvm.MethodName)) ∈ lw_all := lw_g (lw_at lw_m15 239 rfl) rfl
theorem q3810 : (Jvm.Cond.code ({ cls := "LetMillModel", name := "fits", desc := "(II)I" } : Jvm.MethodName) prog_60_method_93_code (7 : Nat) (Option.some Jvm.ClassFile.FieldType.int)) ∈ lw_all := lw_g (lw_at lw_m16 0 rfl) rfl
theorem q3811 : (Jvm.Cond.methodLink "LetMillModel" (536 : Nat) ({ cls := "LetMillModel", name := "ask", desc := "(II)I" } : Jvm.MethodName)) ∈ lw_all := lw_g (lw_at lw_m16 1 rfl) rfl
theorem q3813 : (Jvm.Cond.instanceMethod ({ cls := "LetMillModel", name := "ask", desc := "(II)I" } : Jvm.MethodName)) ∈ lw_all := lw_g (lw_at lw_m16 3 rfl) rfl
theorem q3814 : (Jvm.Cond.code ({ cls := "LetMillModel", name := "ask", desc := "(II)I" } : Jvm.MethodName) prog_60_method_94_code (3 : Nat) (Option.some Jvm.ClassFile.FieldType.int)) ∈ lw_all := lw_g (lw_at lw_m16 4 rfl) rfl
theorem q3815 : (Jvm.Cond.methodLink "LetMillModel" (548 : Nat) ({ cls := "LetMillModel", name := "isNot", desc := "(II)Z" } : Jvm.MethodName)) ∈ lw_all := lw_g (lw_at lw_m16 5 rfl) rfl
theorem q3817 : (Jvm.Cond.instanceMethod ({ cls := "LetMillModel", name := "isNot", desc := "(II)Z" } : Jvm.MethodName)) ∈ lw_all := lw_g (lw_at lw_m16 7 rfl) rfl
theorem q3818 : (Jvm.Cond.code ({ cls := "LetMillModel", name := "isNot", desc := "(II)Z" } : Jvm.MethodName) prog_60_method_92_code (4 : Nat) (Option.some Jvm.ClassFile.FieldType.boolean)) ∈ lw_all := lw_g (lw_at lw_m16 8 rfl) rfl
theorem q3819 : (Jvm.Cond.methodLink "LetMillModel" (563 : Nat) ({ cls := "LetMillModel", name := "split", desc := "(IIIII)V" } : Jvm.MethodName)) ∈ lw_all := lw_g (lw_at lw_m16 9 rfl) rfl
theorem q3821 : (Jvm.Cond.instanceMethod ({ cls := "LetMillModel", name := "split", desc := "(IIIII)V" } : Jvm.MethodName)) ∈ lw_all := lw_g (lw_at lw_m16 11 rfl) rfl
theorem q3822 : (Jvm.Cond.code ({ cls := "LetMillModel", name := "split", desc := "(IIIII)V" } : Jvm.MethodName) prog_60_method_100_code (11 : Nat) (Option.none : Option Jvm.ClassFile.FieldType)) ∈ lw_all := lw_g (lw_at lw_m16 12 rfl) rfl
theorem q3823 : (Jvm.Cond.methodLink "LetMillModel" (582 : Nat) ({ cls := "LetMillModel", name := "cons", desc := "(I)V" } : Jvm.MethodName)) ∈ lw_all := lw_g (lw_at lw_m16 13 rfl) rfl
theorem q3825 : (Jvm.Cond.instanceMethod ({ cls := "LetMillModel", name := "cons", desc := "(I)V" } : Jvm.MethodName)) ∈ lw_all := lw_g (lw_at lw_m16 15 rfl) rfl
theorem q3826 : (Jvm.Cond.code ({ cls := "LetMillModel", name := "cons", desc := "(I)V" } : Jvm.MethodName) prog_60_method_104_code (2 : Nat) (Option.none : Option Jvm.ClassFile.FieldType)) ∈ lw_all := lw_g (lw_at lw_m16 16 rfl) rfl
theorem q3827 : (Jvm.Cond.methodLink "LetMillModel" (584 : Nat) ({ cls := "LetMillModel", name := "fail", desc := "(IIII)V" } : Jvm.MethodName)) ∈ lw_all := lw_g (lw_at lw_m16 17 rfl) rfl
theorem q3829 : (Jvm.Cond.instanceMethod ({ cls := "LetMillModel", name := "fail", desc := "(IIII)V" } : Jvm.MethodName)) ∈ lw_all := lw_g (lw_at lw_m16 19 rfl) rfl
theorem q3830 : (Jvm.Cond.code ({ cls := "LetMillModel", name := "fail", desc := "(IIII)V" } : Jvm.MethodName) prog_60_method_97_code (7 : Nat) (Option.none : Option Jvm.ClassFile.FieldType)) ∈ lw_all := lw_g (lw_at lw_m16 20 rfl) rfl
theorem q3831 : (Jvm.Cond.methodLink "LetMillModel" (573 : Nat) ({ cls := "LetMillModel", name := "patternAt", desc := "(II)I" } : Jvm.MethodName)) ∈ lw_all := lw_g (lw_at lw_m16 21 rfl) rfl
theorem q3833 : (Jvm.Cond.instanceMethod ({ cls := "LetMillModel", name := "patternAt", desc := "(II)I" } : Jvm.MethodName)) ∈ lw_all := lw_g (lw_at lw_m16 23 rfl) rfl
theorem q3834 : (Jvm.Cond.code ({ cls := "LetMillModel", name := "patternAt", desc := "(II)I" } : Jvm.MethodName) prog_60_method_98_code (6 : Nat) (Option.some Jvm.ClassFile.FieldType.int)) ∈ lw_all := lw_g (lw_at lw_m16 24 rfl) rfl
theorem q3835 : (Jvm.Cond.methodLink "LetMillModel" (576 : Nat) ({ cls := "LetMillModel", name := "isLooked", desc := "(I)Z" } : Jvm.MethodName)) ∈ lw_all := lw_g (lw_at lw_m16 25 rfl) rfl
theorem q3837 : (Jvm.Cond.instanceMethod ({ cls := "LetMillModel", name := "isLooked", desc := "(I)Z" } : Jvm.MethodName)) ∈ lw_all := lw_g (lw_at lw_m16 27 rfl) rfl
theorem q3838 : (Jvm.Cond.code ({ cls := "LetMillModel", name := "isLooked", desc := "(I)Z" } : Jvm.MethodName) prog_60_method_99_code (3 : Nat) (Option.some Jvm.ClassFile.FieldType.boolean)) ∈ lw_all := lw_g (lw_at lw_m16 28 rfl) rfl
theorem q3839 : (Jvm.Cond.methodLink "LetMillModel" (587 : Nat) ({ cls := "LetMillModel", name := "not", desc := "(IIII)V" } : Jvm.MethodName)) ∈ lw_all := lw_g (lw_at lw_m16 29 rfl) rfl
theorem q3841 : (Jvm.Cond.instanceMethod ({ cls := "LetMillModel", name := "not", desc := "(IIII)V" } : Jvm.MethodName)) ∈ lw_all := lw_g (lw_at lw_m16 31 rfl) rfl
theorem q3842 : (Jvm.Cond.code ({ cls := "LetMillModel", name := "not", desc := "(IIII)V" } : Jvm.MethodName) prog_60_method_101_code (5 : Nat) (Option.none : Option Jvm.ClassFile.FieldType)) ∈ lw_all := lw_g (lw_at lw_m16 32 rfl) rfl
theorem q3843 : (Jvm.Cond.methodLink "LetMillModel" (593 : Nat) ({ cls := "LetMillModel", name := "splitData", desc := "(IIIIII)V" } : Jvm.MethodName)) ∈ lw_all := lw_g (lw_at lw_m16 33 rfl) rfl
theorem q3845 : (Jvm.Cond.instanceMethod ({ cls := "LetMillModel", name := "splitData", desc := "(IIIIII)V" } : Jvm.MethodName)) ∈ lw_all := lw_g (lw_at lw_m16 35 rfl) rfl
theorem q3846 : (Jvm.Cond.code ({ cls := "LetMillModel", name := "splitData", desc := "(IIIIII)V" } : Jvm.MethodName) prog_60_method_102_code (10 : Nat) (Option.none : Option Jvm.ClassFile.FieldType)) ∈ lw_all := lw_g (lw_at lw_m16 36 rfl) rfl
theorem q3847 : (Jvm.Cond.methodLink "LetMillModel" (609 : Nat) ({ cls := "LetMillModel", name := "warn", desc := "(II)V" } : Jvm.MethodName)) ∈ lw_all := lw_g (lw_at lw_m16 37 rfl) rfl
theorem q3849 : (Jvm.Cond.instanceMethod ({ cls := "LetMillModel", name := "warn", desc := "(II)V" } : Jvm.MethodName)) ∈ lw_all := lw_g (lw_at lw_m16 39 rfl) rfl
theorem q3850 : (Jvm.Cond.code ({ cls := "LetMillModel", name := "warn", desc := "(II)V" } : Jvm.MethodName) prog_60_method_105_code (4 : Nat) (Option.none : Option Jvm.ClassFile.FieldType)) ∈ lw_all := lw_g (lw_at lw_m16 40 rfl) rfl
theorem q3851 : (Jvm.Cond.methodLink "LetMillModel" (612 : Nat) ({ cls := "LetMillModel", name := "seek", desc := "(IIIII)V" } : Jvm.MethodName)) ∈ lw_all := lw_g (lw_at lw_m16 41 rfl) rfl
theorem q3853 : (Jvm.Cond.instanceMethod ({ cls := "LetMillModel", name := "seek", desc := "(IIIII)V" } : Jvm.MethodName)) ∈ lw_all := lw_g (lw_at lw_m16 43 rfl) rfl
theorem q3854 : (Jvm.Cond.code ({ cls := "LetMillModel", name := "seek", desc := "(IIIII)V" } : Jvm.MethodName) prog_60_method_107_code (8 : Nat) (Option.none : Option Jvm.ClassFile.FieldType)) ∈ lw_all := lw_g (lw_at lw_m16 44 rfl) rfl
theorem q3855 : (Jvm.Cond.methodLink "LetMillModel" (597 : Nat) ({ cls := "LetMillModel", name := "shape", desc := "(II)V" } : Jvm.MethodName)) ∈ lw_all := lw_g (lw_at lw_m16 45 rfl) rfl
theorem q3857 : (Jvm.Cond.instanceMethod ({ cls := "LetMillModel", name := "shape", desc := "(II)V" } : Jvm.MethodName)) ∈ lw_all := lw_g (lw_at lw_m16 47 rfl) rfl
theorem q3858 : (Jvm.Cond.code ({ cls := "LetMillModel", name := "shape", desc := "(II)V" } : Jvm.MethodName) prog_60_method_103_code (6 : Nat) (Option.none : Option Jvm.ClassFile.FieldType)) ∈ lw_all := lw_g (lw_at lw_m16 48 rfl) rfl
theorem q3859 : (Jvm.Cond.methodLink "LetMillModel" (618 : Nat) ({ cls := "LetMillModel", name := "warnExp", desc := "(I)V" } : Jvm.MethodName)) ∈ lw_all := lw_g (lw_at lw_m16 49 rfl) rfl
theorem q3861 : (Jvm.Cond.instanceMethod ({ cls := "LetMillModel", name := "warnExp", desc := "(I)V" } : Jvm.MethodName)) ∈ lw_all := lw_g (lw_at lw_m16 51 rfl) rfl
theorem q3862 : (Jvm.Cond.code ({ cls := "LetMillModel", name := "warnExp", desc := "(I)V" } : Jvm.MethodName) prog_60_method_109_code (4 : Nat) (Option.none : Option Jvm.ClassFile.FieldType)) ∈ lw_all := lw_g (lw_at lw_m16 52 rfl) rfl
theorem q3863 : (Jvm.Cond.constant "LetMillModel" (666 : Nat) (40000 : Int32)) ∈ lw_all := lw_g (lw_at lw_m16 53 rfl) rfl
theorem q3864 : (Jvm.Cond.methodLink "LetMillModel" (633 : Nat) ({ cls := "LetMillModel", name := "again", desc := "(I)I" } : Jvm.MethodName)) ∈ lw_all := lw_g (lw_at lw_m16 54 rfl) rfl
theorem q3866 : (Jvm.Cond.instanceMethod ({ cls := "LetMillModel", name := "again", desc := "(I)I" } : Jvm.MethodName)) ∈ lw_all := lw_g (lw_at lw_m16 56 rfl) rfl
theorem q3867 : (Jvm.Cond.code ({ cls := "LetMillModel", name := "again", desc := "(I)I" } : Jvm.MethodName) prog_60_method_112_code (3 : Nat) (Option.some Jvm.ClassFile.FieldType.int)) ∈ lw_all := lw_g (lw_at lw_m16 57 rfl) rfl
theorem q3868 : (Jvm.Cond.methodLink "LetMillModel" (624 : Nat) ({ cls := "LetMillModel", name := "put", desc := "(III)I" } : Jvm.MethodName)) ∈ lw_all := lw_g (lw_at lw_m16 58 rfl) rfl
theorem q3870 : (Jvm.Cond.instanceMethod ({ cls := "LetMillModel", name := "put", desc := "(III)I" } : Jvm.MethodName)) ∈ lw_all := lw_g (lw_at lw_m16 60 rfl) rfl
theorem q3871 : (Jvm.Cond.code ({ cls := "LetMillModel", name := "put", desc := "(III)I" } : Jvm.MethodName) prog_60_method_114_code (4 : Nat) (Option.some Jvm.ClassFile.FieldType.int)) ∈ lw_all := lw_g (lw_at lw_m16 61 rfl) rfl
theorem q3872 : (Jvm.Cond.methodLink "LetMillModel" (670 : Nat) ({ cls := "LetMillModel", name := "isHidden", desc := "(I)Z" } : Jvm.MethodName)) ∈ lw_all := lw_g (lw_at lw_m16 62 rfl) rfl
theorem q3874 : (Jvm.Cond.instanceMethod ({ cls := "LetMillModel", name := "isHidden", desc := "(I)Z" } : Jvm.MethodName)) ∈ lw_all := lw_g (lw_at lw_m16 64 rfl) rfl
theorem q3875 : (Jvm.Cond.code ({ cls := "LetMillModel", name := "isHidden", desc := "(I)Z" } : Jvm.MethodName) prog_60_method_113_code (3 : Nat) (Option.some Jvm.ClassFile.FieldType.boolean)) ∈ lw_all := lw_g (lw_at lw_m16 65 rfl) rfl
theorem q3876 : (Jvm.Cond.methodLink "LetMillModel" (627 : Nat) ({ cls := "LetMillModel", name := "keep", desc := "(I)I" } : Jvm.MethodName)) ∈ lw_all := lw_g (lw_at lw_m16 66 rfl) rfl
theorem q3878 : (Jvm.Cond.instanceMethod ({ cls := "LetMillModel", name := "keep", desc := "(I)I" } : Jvm.MethodName)) ∈ lw_all := lw_g (lw_at lw_m16 68 rfl) rfl
theorem q3879 : (Jvm.Cond.code ({ cls := "LetMillModel", name := "keep", desc := "(I)I" } : Jvm.MethodName) prog_60_method_110_code (4 : Nat) (Option.some Jvm.ClassFile.FieldType.int)) ∈ lw_all := lw_g (lw_at lw_m16 69 rfl) rfl
theorem q3880 : (Jvm.Cond.methodLink "LetMillModel" (630 : Nat) ({ cls := "LetMillModel", name := "keepList", desc := "(I)I" } : Jvm.MethodName)) ∈ lw_all := lw_g (lw_at lw_m16 70 rfl) rfl
theorem q3882 : (Jvm.Cond.instanceMethod ({ cls := "LetMillModel", name := "keepList", desc := "(I)I" } : Jvm.MethodName)) ∈ lw_all := lw_g (lw_at lw_m16 72 rfl) rfl
theorem q3883 : (Jvm.Cond.code ({ cls := "LetMillModel", name := "keepList", desc := "(I)I" } : Jvm.MethodName) prog_60_method_111_code (3 : Nat) (Option.some Jvm.ClassFile.FieldType.int)) ∈ lw_all := lw_g (lw_at lw_m16 73 rfl) rfl
theorem q3885 : (Jvm.Cond.instanceMethod ({ cls := "LetMillModel", name := "run", desc := "(I)I" } : Jvm.MethodName)) ∈ lw_all := lw_g (lw_at lw_m16 75 rfl) rfl
theorem q3886 : (Jvm.Cond.selects "LetMillModel" ({ cls := "LetMillModel", name := "run", desc := "(I)I" } : Jvm.MethodName) ({ cls := "LetMillModel", name := "run", desc := "(I)I" } : Jvm.MethodName)) ∈ lw_all := lw_g (lw_at lw_m16 76 rfl) rfl
theorem q3887 : (Jvm.Cond.code ({ cls := "LetMillModel", name := "run", desc := "(I)I" } : Jvm.MethodName) prog_60_method_141_code (5 : Nat) (Option.some Jvm.ClassFile.FieldType.int)) ∈ lw_all := lw_g (lw_at lw_m16 77 rfl) rfl
theorem q3888 : (Jvm.Cond.constant "LetMillModel" (855 : Nat) (120000 : Int32)) ∈ lw_all := lw_g (lw_at lw_m16 78 rfl) rfl
theorem q3889 : (Jvm.Cond.methodLink "LetMillModel" (856 : Nat) ({ cls := "LetMillModel", name := "go", desc := "(I)V" } : Jvm.MethodName)) ∈ lw_all := lw_g (lw_at lw_m16 79 rfl) rfl
theorem q3891 : (Jvm.Cond.instanceMethod ({ cls := "LetMillModel", name := "go", desc := "(I)V" } : Jvm.MethodName)) ∈ lw_all := lw_g (lw_at lw_m16 81 rfl) rfl
theorem q3892 : (Jvm.Cond.code ({ cls := "LetMillModel", name := "go", desc := "(I)V" } : Jvm.MethodName) prog_60_method_123_code (2 : Nat) (Option.none : Option Jvm.ClassFile.FieldType)) ∈ lw_all := lw_g (lw_at lw_m16 82 rfl) rfl
theorem q3893 : (Jvm.Cond.methodLink "LetMillModel" (778 : Nat) ({ cls := "LetMillModel", name := "frame", desc := "(IIII)V" } : Jvm.MethodName)) ∈ lw_all := lw_g (lw_at lw_m16 83 rfl) rfl
theorem q3895 : (Jvm.Cond.instanceMethod ({ cls := "LetMillModel", name := "frame", desc := "(IIII)V" } : Jvm.MethodName)) ∈ lw_all := lw_g (lw_at lw_m16 85 rfl) rfl
theorem q3896 : (Jvm.Cond.code ({ cls := "LetMillModel", name := "frame", desc := "(IIII)V" } : Jvm.MethodName) prog_60_method_122_code (5 : Nat) (Option.none : Option Jvm.ClassFile.FieldType)) ∈ lw_all := lw_g (lw_at lw_m16 86 rfl) rfl
theorem q3897 : (Jvm.Cond.methodLink "LetMillModel" (787 : Nat) ({ cls := "LetMillModel", name := "startDecs", desc := "(I)V" } : Jvm.MethodName)) ∈ lw_all := lw_g (lw_at lw_m16 87 rfl) rfl
theorem q3899 : (Jvm.Cond.instanceMethod ({ cls := "LetMillModel", name := "startDecs", desc := "(I)V" } : Jvm.MethodName)) ∈ lw_all := lw_g (lw_at lw_m16 89 rfl) rfl
theorem q3900 : (Jvm.Cond.code ({ cls := "LetMillModel", name := "startDecs", desc := "(I)V" } : Jvm.MethodName) prog_60_method_124_code (6 : Nat) (Option.none : Option Jvm.ClassFile.FieldType)) ∈ lw_all := lw_g (lw_at lw_m16 90 rfl) rfl
theorem q3901 : (Jvm.Cond.methodLink "LetMillModel" (804 : Nat) ({ cls := "LetMillModel", name := "functions", desc := "(II)V" } : Jvm.MethodName)) ∈ lw_all := lw_g (lw_at lw_m16 91 rfl) rfl
theorem q3903 : (Jvm.Cond.instanceMethod ({ cls := "LetMillModel", name := "functions", desc := "(II)V" } : Jvm.MethodName)) ∈ lw_all := lw_g (lw_at lw_m16 93 rfl) rfl
theorem q3904 : (Jvm.Cond.code ({ cls := "LetMillModel", name := "functions", desc := "(II)V" } : Jvm.MethodName) prog_60_method_125_code (8 : Nat) (Option.none : Option Jvm.ClassFile.FieldType)) ∈ lw_all := lw_g (lw_at lw_m16 94 rfl) rfl
theorem q3905 : (Jvm.Cond.methodLink "LetMillModel" (757 : Nat) ({ cls := "LetMillModel", name := "pay", desc := "(I)Z" } : Jvm.MethodName)) ∈ lw_all := lw_g (lw_at lw_m16 95 rfl) rfl
theorem q3907 : (Jvm.Cond.instanceMethod ({ cls := "LetMillModel", name := "pay", desc := "(I)Z" } : Jvm.MethodName)) ∈ lw_all := lw_g (lw_at lw_m16 97 rfl) rfl
theorem q3908 : (Jvm.Cond.code ({ cls := "LetMillModel", name := "pay", desc := "(I)Z" } : Jvm.MethodName) prog_60_method_118_code (3 : Nat) (Option.some Jvm.ClassFile.FieldType.boolean)) ∈ lw_all := lw_g (lw_at lw_m16 98 rfl) rfl
theorem q3909 : (Jvm.Cond.methodLink "LetMillModel" (807 : Nat) ({ cls := "LetMillModel", name := "value0", desc := "(I)I" } : Jvm.MethodName)) ∈ lw_all := lw_g (lw_at lw_m16 99 rfl) rfl
theorem q3911 : (Jvm.Cond.instanceMethod ({ cls := "LetMillModel", name := "value0", desc := "(I)I" } : Jvm.MethodName)) ∈ lw_all := lw_g (lw_at lw_m16 101 rfl) rfl
theorem q3912 : (Jvm.Cond.code ({ cls := "LetMillModel", name := "value0", desc := "(I)I" } : Jvm.MethodName) prog_60_method_126_code (2 : Nat) (Option.some Jvm.ClassFile.FieldType.int)) ∈ lw_all := lw_g (lw_at lw_m16 102 rfl) rfl
theorem q3913 : (Jvm.Cond.methodLink "LetMillModel" (751 : Nat) ({ cls := "LetMillModel", name := "box", desc := "(III)I" } : Jvm.MethodName)) ∈ lw_all := lw_g (lw_at lw_m16 103 rfl) rfl
theorem q3915 : (Jvm.Cond.instanceMethod ({ cls := "LetMillModel", name := "box", desc := "(III)I" } : Jvm.MethodName)) ∈ lw_all := lw_g (lw_at lw_m16 105 rfl) rfl
theorem q3916 : (Jvm.Cond.code ({ cls := "LetMillModel", name := "box", desc := "(III)I" } : Jvm.MethodName) prog_60_method_117_code (4 : Nat) (Option.some Jvm.ClassFile.FieldType.int)) ∈ lw_all := lw_g (lw_at lw_m16 106 rfl) rfl
theorem q3917 : (Jvm.Cond.methodLink "LetMillModel" (790 : Nat) ({ cls := "LetMillModel", name := "back", desc := "()V" } : Jvm.MethodName)) ∈ lw_all := lw_g (lw_at lw_m16 107 rfl) rfl
theorem q3919 : (Jvm.Cond.instanceMethod ({ cls := "LetMillModel", name := "back", desc := "()V" } : Jvm.MethodName)) ∈ lw_all := lw_g (lw_at lw_m16 109 rfl) rfl
theorem q3920 : (Jvm.Cond.code ({ cls := "LetMillModel", name := "back", desc := "()V" } : Jvm.MethodName) prog_60_method_130_code (7 : Nat) (Option.none : Option Jvm.ClassFile.FieldType)) ∈ lw_all := lw_g (lw_at lw_m16 110 rfl) rfl
theorem q3921 : (Jvm.Cond.methodLink "LetMillModel" (754 : Nat) ({ cls := "LetMillModel", name := "matches", desc := "(II)Z" } : Jvm.MethodName)) ∈ lw_all := lw_g (lw_at lw_m16 111 rfl) rfl
theorem q3923 : (Jvm.Cond.instanceMethod ({ cls := "LetMillModel", name := "matches", desc := "(II)Z" } : Jvm.MethodName)) ∈ lw_all := lw_g (lw_at lw_m16 113 rfl) rfl
theorem q3924 : (Jvm.Cond.code ({ cls := "LetMillModel", name := "matches", desc := "(II)Z" } : Jvm.MethodName) prog_60_method_120_code (8 : Nat) (Option.some Jvm.ClassFile.FieldType.boolean)) ∈ lw_all := lw_g (lw_at lw_m16 114 rfl) rfl
theorem q3925 : (Jvm.Cond.methodLink "LetMillModel" (763 : Nat) ({ cls := "LetMillModel", name := "bind", desc := "(II)V" } : Jvm.MethodName)) ∈ lw_all := lw_g (lw_at lw_m16 115 rfl) rfl
theorem q3927 : (Jvm.Cond.instanceMethod ({ cls := "LetMillModel", name := "bind", desc := "(II)V" } : Jvm.MethodName)) ∈ lw_all := lw_g (lw_at lw_m16 117 rfl) rfl
theorem q3928 : (Jvm.Cond.code ({ cls := "LetMillModel", name := "bind", desc := "(II)V" } : Jvm.MethodName) prog_60_method_121_code (7 : Nat) (Option.none : Option Jvm.ClassFile.FieldType)) ∈ lw_all := lw_g (lw_at lw_m16 118 rfl) rfl
theorem q3929 : (Jvm.Cond.methodLink "LetMillModel" (822 : Nat) ({ cls := "LetMillModel", name := "eval", desc := "(II)V" } : Jvm.MethodName)) ∈ lw_all := lw_g (lw_at lw_m16 119 rfl) rfl
theorem q3931 : (Jvm.Cond.instanceMethod ({ cls := "LetMillModel", name := "eval", desc := "(II)V" } : Jvm.MethodName)) ∈ lw_all := lw_g (lw_at lw_m16 121 rfl) rfl
theorem q3932 : (Jvm.Cond.code ({ cls := "LetMillModel", name := "eval", desc := "(II)V" } : Jvm.MethodName) prog_60_method_131_code (3 : Nat) (Option.none : Option Jvm.ClassFile.FieldType)) ∈ lw_all := lw_g (lw_at lw_m16 122 rfl) rfl
theorem q3933 : (Jvm.Cond.methodLink "LetMillModel" (825 : Nat) ({ cls := "LetMillModel", name := "parts", desc := "(I)V" } : Jvm.MethodName)) ∈ lw_all := lw_g (lw_at lw_m16 123 rfl) rfl
theorem q3935 : (Jvm.Cond.instanceMethod ({ cls := "LetMillModel", name := "parts", desc := "(I)V" } : Jvm.MethodName)) ∈ lw_all := lw_g (lw_at lw_m16 125 rfl) rfl
theorem q3936 : (Jvm.Cond.code ({ cls := "LetMillModel", name := "parts", desc := "(I)V" } : Jvm.MethodName) prog_60_method_132_code (5 : Nat) (Option.none : Option Jvm.ClassFile.FieldType)) ∈ lw_all := lw_g (lw_at lw_m16 126 rfl) rfl
theorem q3937 : (Jvm.Cond.methodLink "LetMillModel" (816 : Nat) ({ cls := "LetMillModel", name := "give", desc := "(I)V" } : Jvm.MethodName)) ∈ lw_all := lw_g (lw_at lw_m16 127 rfl) rfl
theorem q3939 : (Jvm.Cond.instanceMethod ({ cls := "LetMillModel", name := "give", desc := "(I)V" } : Jvm.MethodName)) ∈ lw_all := lw_g (lw_at lw_m16 129 rfl) rfl
theorem q3940 : (Jvm.Cond.code ({ cls := "LetMillModel", name := "give", desc := "(I)V" } : Jvm.MethodName) prog_60_method_127_code (2 : Nat) (Option.none : Option Jvm.ClassFile.FieldType)) ∈ lw_all := lw_g (lw_at lw_m16 130 rfl) rfl
theorem q3941 : (Jvm.Cond.methodLink "LetMillModel" (827 : Nat) ({ cls := "LetMillModel", name := "clauses", desc := "(III)V" } : Jvm.MethodName)) ∈ lw_all := lw_g (lw_at lw_m16 131 rfl) rfl
theorem q3943 : (Jvm.Cond.instanceMethod ({ cls := "LetMillModel", name := "clauses", desc := "(III)V" } : Jvm.MethodName)) ∈ lw_all := lw_g (lw_at lw_m16 133 rfl) rfl
theorem q3944 : (Jvm.Cond.code ({ cls := "LetMillModel", name := "clauses", desc := "(III)V" } : Jvm.MethodName) prog_60_method_136_code (5 : Nat) (Option.none : Option Jvm.ClassFile.FieldType)) ∈ lw_all := lw_g (lw_at lw_m16 134 rfl) rfl
theorem q3945 : (Jvm.Cond.methodLink "LetMillModel" (830 : Nat) ({ cls := "LetMillModel", name := "call", desc := "(II)V" } : Jvm.MethodName)) ∈ lw_all := lw_g (lw_at lw_m16 135 rfl) rfl
theorem q3947 : (Jvm.Cond.instanceMethod ({ cls := "LetMillModel", name := "call", desc := "(II)V" } : Jvm.MethodName)) ∈ lw_all := lw_g (lw_at lw_m16 137 rfl) rfl
theorem q3948 : (Jvm.Cond.code ({ cls := "LetMillModel", name := "call", desc := "(II)V" } : Jvm.MethodName) prog_60_method_137_code (3 : Nat) (Option.none : Option Jvm.ClassFile.FieldType)) ∈ lw_all := lw_g (lw_at lw_m16 138 rfl) rfl
theorem q3949 : (Jvm.Cond.methodLink "LetMillModel" (842 : Nat) ({ cls := "LetMillModel", name := "part", desc := "(II)V" } : Jvm.MethodName)) ∈ lw_all := lw_g (lw_at lw_m16 139 rfl) rfl
theorem q3951 : (Jvm.Cond.instanceMethod ({ cls := "LetMillModel", name := "part", desc := "(II)V" } : Jvm.MethodName)) ∈ lw_all := lw_g (lw_at lw_m16 141 rfl) rfl
theorem q3952 : (Jvm.Cond.code ({ cls := "LetMillModel", name := "part", desc := "(II)V" } : Jvm.MethodName) prog_60_method_138_code (9 : Nat) (Option.none : Option Jvm.ClassFile.FieldType)) ∈ lw_all := lw_g (lw_at lw_m16 142 rfl) rfl
theorem q3953 : (Jvm.Cond.methodLink "LetMillModel" (848 : Nat) ({ cls := "LetMillModel", name := "argument", desc := "(IIII)I" } : Jvm.MethodName)) ∈ lw_all := lw_g (lw_at lw_m16 143 rfl) rfl
theorem q3955 : (Jvm.Cond.instanceMethod ({ cls := "LetMillModel", name := "argument", desc := "(IIII)I" } : Jvm.MethodName)) ∈ lw_all := lw_g (lw_at lw_m16 145 rfl) rfl
theorem q3956 : (Jvm.Cond.code ({ cls := "LetMillModel", name := "argument", desc := "(IIII)I" } : Jvm.MethodName) prog_60_method_139_code (7 : Nat) (Option.some Jvm.ClassFile.FieldType.int)) ∈ lw_all := lw_g (lw_at lw_m16 146 rfl) rfl
theorem q3957 : (Jvm.Cond.methodLink "LetMillModel" (845 : Nat) ({ cls := "LetMillModel", name := "builtIn", desc := "(II)V" } : Jvm.MethodName)) ∈ lw_all := lw_g (lw_at lw_m16 147 rfl) rfl
theorem q3959 : (Jvm.Cond.instanceMethod ({ cls := "LetMillModel", name := "builtIn", desc := "(II)V" } : Jvm.MethodName)) ∈ lw_all := lw_g (lw_at lw_m16 149 rfl) rfl
theorem q3960 : (Jvm.Cond.code ({ cls := "LetMillModel", name := "builtIn", desc := "(II)V" } : Jvm.MethodName) prog_60_method_140_code (4 : Nat) (Option.none : Option Jvm.ClassFile.FieldType)) ∈ lw_all := lw_g (lw_at lw_m16 150 rfl) rfl
theorem q3961 : (Jvm.Cond.methodLink "LetMillModel" (833 : Nat) ({ cls := "LetMillModel", name := "chain", desc := "(IIIII)V" } : Jvm.MethodName)) ∈ lw_all := lw_g (lw_at lw_m16 151 rfl) rfl
theorem q3963 : (Jvm.Cond.instanceMethod ({ cls := "LetMillModel", name := "chain", desc := "(IIIII)V" } : Jvm.MethodName)) ∈ lw_all := lw_g (lw_at lw_m16 153 rfl) rfl
theorem q3964 : (Jvm.Cond.code ({ cls := "LetMillModel", name := "chain", desc := "(IIIII)V" } : Jvm.MethodName) prog_60_method_134_code (10 : Nat) (Option.none : Option Jvm.ClassFile.FieldType)) ∈ lw_all := lw_g (lw_at lw_m16 154 rfl) rfl
theorem q3965 : (Jvm.Cond.methodLink "LetMillModel" (839 : Nat) ({ cls := "LetMillModel", name := "two", desc := "(III)I" } : Jvm.MethodName)) ∈ lw_all := lw_g (lw_at lw_m16 155 rfl) rfl
theorem q3967 : (Jvm.Cond.instanceMethod ({ cls := "LetMillModel", name := "two", desc := "(III)I" } : Jvm.MethodName)) ∈ lw_all := lw_g (lw_at lw_m16 157 rfl) rfl
theorem q3968 : (Jvm.Cond.code ({ cls := "LetMillModel", name := "two", desc := "(III)I" } : Jvm.MethodName) prog_60_method_135_code (10 : Nat) (Option.some Jvm.ClassFile.FieldType.int)) ∈ lw_all := lw_g (lw_at lw_m16 158 rfl) rfl
theorem q3969 : (Jvm.Cond.methodLink "LetMillModel" (836 : Nat) ({ cls := "LetMillModel", name := "append", desc := "(II)V" } : Jvm.MethodName)) ∈ lw_all := lw_g (lw_at lw_m16 159 rfl) rfl
theorem q3971 : (Jvm.Cond.instanceMethod ({ cls := "LetMillModel", name := "append", desc := "(II)V" } : Jvm.MethodName)) ∈ lw_all := lw_g (lw_at lw_m16 161 rfl) rfl
theorem q3972 : (Jvm.Cond.code ({ cls := "LetMillModel", name := "append", desc := "(II)V" } : Jvm.MethodName) prog_60_method_133_code (8 : Nat) (Option.none : Option Jvm.ClassFile.FieldType)) ∈ lw_all := lw_g (lw_at lw_m16 162 rfl) rfl
theorem q3973 : (Jvm.Cond.methodLink "LetMillModel" (793 : Nat) ({ cls := "LetMillModel", name := "step", desc := "()V" } : Jvm.MethodName)) ∈ lw_all := lw_g (lw_at lw_m16 163 rfl) rfl
theorem q3975 : (Jvm.Cond.instanceMethod ({ cls := "LetMillModel", name := "step", desc := "()V" } : Jvm.MethodName)) ∈ lw_all := lw_g (lw_at lw_m16 165 rfl) rfl
theorem q3976 : (Jvm.Cond.code ({ cls := "LetMillModel", name := "step", desc := "()V" } : Jvm.MethodName) prog_60_method_128_code (2 : Nat) (Option.none : Option Jvm.ClassFile.FieldType)) ∈ lw_all := lw_g (lw_at lw_m16 166 rfl) rfl
theorem q3977 : (Jvm.Cond.methodLink "LetMillModel" (810 : Nat) ({ cls := "LetMillModel", name := "plain", desc := "(I)V" } : Jvm.MethodName)) ∈ lw_all := lw_g (lw_at lw_m16 167 rfl) rfl
theorem q3979 : (Jvm.Cond.instanceMethod ({ cls := "LetMillModel", name := "plain", desc := "(I)V" } : Jvm.MethodName)) ∈ lw_all := lw_g (lw_at lw_m16 169 rfl) rfl
theorem q3980 : (Jvm.Cond.code ({ cls := "LetMillModel", name := "plain", desc := "(I)V" } : Jvm.MethodName) prog_60_method_129_code (2 : Nat) (Option.none : Option Jvm.ClassFile.FieldType)) ∈ lw_all := lw_g (lw_at lw_m16 170 rfl) rfl
theorem q3981 : (Jvm.Cond.methodLink "LetMillModel" (813 : Nat) ({ cls := "LetMillModel", name := "find", desc := "(II)I" } : Jvm.MethodName)) ∈ lw_all := lw_g (lw_at lw_m16 171 rfl) rfl
theorem q3983 : (Jvm.Cond.instanceMethod ({ cls := "LetMillModel", name := "find", desc := "(II)I" } : Jvm.MethodName)) ∈ lw_all := lw_g (lw_at lw_m16 173 rfl) rfl
theorem q3984 : (Jvm.Cond.code ({ cls := "LetMillModel", name := "find", desc := "(II)I" } : Jvm.MethodName) prog_60_method_119_code (4 : Nat) (Option.some Jvm.ClassFile.FieldType.int)) ∈ lw_all := lw_g (lw_at lw_m16 174 rfl) rfl
theorem q3986 : (Jvm.Cond.instanceMethod ({ cls := "LetMillModel", name := "look", desc := "(I)I" } : Jvm.MethodName)) ∈ lw_all := lw_g (lw_at lw_m16 176 rfl) rfl
theorem q3987 : (Jvm.Cond.selects "LetMillModel" ({ cls := "LetMillModel", name := "look", desc := "(I)I" } : Jvm.MethodName) ({ cls := "LetMillModel", name := "look", desc := "(I)I" } : Jvm.MethodName)) ∈ lw_all := lw_g (lw_at lw_m16 177 rfl) rfl
theorem q3988 : (Jvm.Cond.code ({ cls := "LetMillModel", name := "look", desc := "(I)I" } : Jvm.MethodName) prog_60_method_149_code (8 : Nat) (Option.some Jvm.ClassFile.FieldType.int)) ∈ lw_all := lw_g (lw_at lw_m16 178 rfl) rfl
theorem q3989 : (Jvm.Cond.methodLink "LetMillModel" (881 : Nat) ({ cls := "LetMillModel", name := "printType", desc := "(II)V" } : Jvm.MethodName)) ∈ lw_all := lw_g (lw_at lw_m16 179 rfl) rfl
theorem q3991 : (Jvm.Cond.instanceMethod ({ cls := "LetMillModel", name := "printType", desc := "(II)V" } : Jvm.MethodName)) ∈ lw_all := lw_g (lw_at lw_m16 181 rfl) rfl
theorem q3992 : (Jvm.Cond.code ({ cls := "LetMillModel", name := "printType", desc := "(II)V" } : Jvm.MethodName) prog_60_method_146_code (6 : Nat) (Option.none : Option Jvm.ClassFile.FieldType)) ∈ lw_all := lw_g (lw_at lw_m16 182 rfl) rfl
theorem q3993 : (Jvm.Cond.methodLink "LetMillModel" (868 : Nat) ({ cls := "LetMillModel", name := "printText", desc := "(I)V" } : Jvm.MethodName)) ∈ lw_all := lw_g (lw_at lw_m16 183 rfl) rfl
theorem q3995 : (Jvm.Cond.instanceMethod ({ cls := "LetMillModel", name := "printText", desc := "(I)V" } : Jvm.MethodName)) ∈ lw_all := lw_g (lw_at lw_m16 185 rfl) rfl
theorem q3996 : (Jvm.Cond.code ({ cls := "LetMillModel", name := "printText", desc := "(I)V" } : Jvm.MethodName) prog_60_method_144_code (3 : Nat) (Option.none : Option Jvm.ClassFile.FieldType)) ∈ lw_all := lw_g (lw_at lw_m16 186 rfl) rfl
theorem q3997 : (Jvm.Cond.methodLink "LetMillModel" (865 : Nat) ({ cls := "LetMillModel", name := "print", desc := "(I)V" } : Jvm.MethodName)) ∈ lw_all := lw_g (lw_at lw_m16 187 rfl) rfl
theorem q3999 : (Jvm.Cond.instanceMethod ({ cls := "LetMillModel", name := "print", desc := "(I)V" } : Jvm.MethodName)) ∈ lw_all := lw_g (lw_at lw_m16 189 rfl) rfl
theorem q4000 : (Jvm.Cond.code ({ cls := "LetMillModel", name := "print", desc := "(I)V" } : Jvm.MethodName) prog_60_method_142_code (2 : Nat) (Option.none : Option Jvm.ClassFile.FieldType)) ∈ lw_all := lw_g (lw_at lw_m16 190 rfl) rfl
theorem q4001 : (Jvm.Cond.methodLink "LetMillModel" (877 : Nat) ({ cls := "LetMillModel", name := "printNumber", desc := "(J)V" } : Jvm.MethodName)) ∈ lw_all := lw_g (lw_at lw_m16 191 rfl) rfl
theorem q4003 : (Jvm.Cond.instanceMethod ({ cls := "LetMillModel", name := "printNumber", desc := "(J)V" } : Jvm.MethodName)) ∈ lw_all := lw_g (lw_at lw_m16 193 rfl) rfl
theorem q4004 : (Jvm.Cond.code ({ cls := "LetMillModel", name := "printNumber", desc := "(J)V" } : Jvm.MethodName) prog_60_method_145_code (7 : Nat) (Option.none : Option Jvm.ClassFile.FieldType)) ∈ lw_all := lw_g (lw_at lw_m16 194 rfl) rfl
theorem q4005 : (Jvm.Cond.stringRef "LetMillModel" (884 : Nat) " -> ") ∈ lw_tbl := lw_at lw_m16 195 rfl
theorem q4006 : (Jvm.Cond.methodLink "LetMillModel" (886 : Nat) ({ cls := "LetMillModel", name := "print", desc := "(Ljava/lang/String;)V" } : Jvm.MethodName)) ∈ lw_all := lw_g (lw_at lw_m16 196 rfl) rfl
theorem q4008 : (Jvm.Cond.instanceMethod ({ cls := "LetMillModel", name := "print", desc := "(Ljava/lang/String;)V" } : Jvm.MethodName)) ∈ lw_all := lw_g (lw_at lw_m16 198 rfl) rfl
theorem q4009 : (Jvm.Cond.code ({ cls := "LetMillModel", name := "print", desc := "(Ljava/lang/String;)V" } : Jvm.MethodName) prog_60_method_143_code (3 : Nat) (Option.none : Option Jvm.ClassFile.FieldType)) ∈ lw_all := lw_g (lw_at lw_m16 199 rfl) rfl
theorem q4010 : (Jvm.Cond.stringRef "LetMillModel" (889 : Nat) " * ") ∈ lw_tbl := lw_at lw_m16 200 rfl
theorem q4011 : (Jvm.Cond.stringRef "LetMillModel" (891 : Nat) ", ") ∈ lw_tbl := lw_at lw_m16 201 rfl
theorem q4012 : (Jvm.Cond.stringRef "LetMillModel" (893 : Nat) ") ") ∈ lw_tbl := lw_at lw_m16 202 rfl
theorem q4013 : (Jvm.Cond.methodLink "LetMillModel" (901 : Nat) ({ cls := "LetMillModel", name := "printValue", desc := "(II)V" } : Jvm.MethodName)) ∈ lw_all := lw_g (lw_at lw_m16 203 rfl) rfl
theorem q4015 : (Jvm.Cond.instanceMethod ({ cls := "LetMillModel", name := "printValue", desc := "(II)V" } : Jvm.MethodName)) ∈ lw_all := lw_g (lw_at lw_m16 205 rfl) rfl
theorem q4016 : (Jvm.Cond.code ({ cls := "LetMillModel", name := "printValue", desc := "(II)V" } : Jvm.MethodName) prog_60_method_147_code (4 : Nat) (Option.none : Option Jvm.ClassFile.FieldType)) ∈ lw_all := lw_g (lw_at lw_m16 206 rfl) rfl
theorem q4017 : (Jvm.Cond.stringRef "LetMillModel" (895 : Nat) "true") ∈ lw_tbl := lw_at lw_m16 207 rfl
theorem q4018 : (Jvm.Cond.stringRef "LetMillModel" (897 : Nat) "false") ∈ lw_tbl := lw_at lw_m16 208 rfl
theorem q4019 : (Jvm.Cond.stringRef "LetMillModel" (899 : Nat) "()") ∈ lw_tbl := lw_at lw_m16 209 rfl
theorem q4020 : (Jvm.Cond.methodLink "LetMillModel" (904 : Nat) ({ cls := "LetMillModel", name := "inner", desc := "(II)V" } : Jvm.MethodName)) ∈ lw_all := lw_g (lw_at lw_m16 210 rfl) rfl
theorem q4022 : (Jvm.Cond.instanceMethod ({ cls := "LetMillModel", name := "inner", desc := "(II)V" } : Jvm.MethodName)) ∈ lw_all := lw_g (lw_at lw_m16 212 rfl) rfl
theorem q4023 : (Jvm.Cond.code ({ cls := "LetMillModel", name := "inner", desc := "(II)V" } : Jvm.MethodName) prog_60_method_148_code (4 : Nat) (Option.none : Option Jvm.ClassFile.FieldType)) ∈ lw_all := lw_g (lw_at lw_m16 213 rfl) rfl
theorem q4024 : (Jvm.Cond.stringRef "LetMillModel" (911 : Nat) " (") ∈ lw_tbl := lw_at lw_m16 214 rfl
theorem q4025 : (Jvm.Cond.stringRef "LetMillModel" (913 : Nat) " ") ∈ lw_tbl := lw_at lw_m16 215 rfl
theorem q4026 : (Jvm.Cond.stringRef "LetMillModel" (907 : Nat) "ref") ∈ lw_tbl := lw_at lw_m16 216 rfl
theorem q4027 : (Jvm.Cond.stringRef "LetMillModel" (909 : Nat) "fn") ∈ lw_tbl := lw_at lw_m16 217 rfl
theorem q4029 : (Jvm.Cond.instanceMethod ({ cls := "LetMillModel", name := "letter", desc := "(I)I" } : Jvm.MethodName)) ∈ lw_all := lw_g (lw_at lw_m16 219 rfl) rfl
theorem q4030 : (Jvm.Cond.selects "LetMillModel" ({ cls := "LetMillModel", name := "letter", desc := "(I)I" } : Jvm.MethodName) ({ cls := "LetMillModel", name := "letter", desc := "(I)I" } : Jvm.MethodName)) ∈ lw_all := lw_g (lw_at lw_m16 220 rfl) rfl
theorem q4031 : (Jvm.Cond.code ({ cls := "LetMillModel", name := "letter", desc := "(I)I" } : Jvm.MethodName) prog_60_method_150_code (2 : Nat) (Option.some Jvm.ClassFile.FieldType.int)) ∈ lw_all := lw_g (lw_at lw_m16 221 rfl) rfl
theorem q4033 : (Jvm.Cond.instanceMethod ({ cls := "LetMillModel", name := "warning", desc := "(II)I" } : Jvm.MethodName)) ∈ lw_all := lw_g (lw_at lw_m16 223 rfl) rfl
theorem q4034 : (Jvm.Cond.selects "LetMillModel" ({ cls := "LetMillModel", name := "warning", desc := "(II)I" } : Jvm.MethodName) ({ cls := "LetMillModel", name := "warning", desc := "(II)I" } : Jvm.MethodName)) ∈ lw_all := lw_g (lw_at lw_m16 224 rfl) rfl
theorem q4035 : (Jvm.Cond.code ({ cls := "LetMillModel", name := "warning", desc := "(II)I" } : Jvm.MethodName) prog_60_method_151_code (3 : Nat) (Option.some Jvm.ClassFile.FieldType.int)) ∈ lw_all := lw_g (lw_at lw_m16 225 rfl) rfl
theorem q4038 : (Jvm.Cond.instanceMethod ({ cls := "LetMillModel", name := "<init>", desc := "()V" } : Jvm.MethodName)) ∈ lw_all := lw_g (lw_at lw_m16 228 rfl) rfl
theorem q4039 : (Jvm.Cond.code ({ cls := "LetMillModel", name := "<init>", desc := "()V" } : Jvm.MethodName) prog_60_method_152_code (1 : Nat) (Option.none : Option Jvm.ClassFile.FieldType)) ∈ lw_all := lw_g (lw_at lw_m16 229 rfl) rfl
theorem q4040 : (Jvm.Cond.methodLink "LetMillModel" (915 : Nat) ({ cls := "java/lang/Object", name := "<init>", desc := "()V" } : Jvm.MethodName)) ∈ lw_all := lw_g (lw_at lw_m16 230 rfl) rfl
theorem q4041 : (Jvm.Cond.constant "LetMillModel" (920 : Nat) (84000 : Int32)) ∈ lw_all := lw_g (lw_at lw_m16 231 rfl) rfl
theorem q4042 : (Jvm.Cond.constant "LetMillModel" (921 : Nat) (210000 : Int32)) ∈ lw_all := lw_g (lw_at lw_m16 232 rfl) rfl
theorem q4043 : (Jvm.Cond.constant "LetMillModel" (922 : Nat) (290000 : Int32)) ∈ lw_all := lw_g (lw_at lw_m16 233 rfl) rfl
theorem q4044 : (Jvm.Cond.constant "LetMillModel" (923 : Nat) (80000 : Int32)) ∈ lw_all := lw_g (lw_at lw_m16 234 rfl) rfl
theorem q4045 : (Jvm.Cond.constant "LetMillModel" (924 : Nat) (170000 : Int32)) ∈ lw_all := lw_g (lw_at lw_m16 235 rfl) rfl
theorem q4046 : (Jvm.Cond.constant "LetMillModel" (928 : Nat) (245000 : Int32)) ∈ lw_all := lw_g (lw_at lw_m16 236 rfl) rfl
theorem q4047 : (Jvm.Cond.constant "LetMillModel" (929 : Nat) (124000 : Int32)) ∈ lw_all := lw_g (lw_at lw_m16 237 rfl) rfl
theorem q4048 : (Jvm.Cond.methodLink "LetMillModel" (930 : Nat) ({ cls := "LetMillModel", name := "first", desc := "()V" } : Jvm.MethodName)) ∈ lw_all := lw_g (lw_at lw_m16 238 rfl) rfl
theorem q4050 : (Jvm.Cond.instanceMethod ({ cls := "LetMillModel", name := "first", desc := "()V" } : Jvm.MethodName)) ∈ lw_all := lw_g (lw_at lw_m17 0 rfl) rfl
theorem q4051 : (Jvm.Cond.code ({ cls := "LetMillModel", name := "first", desc := "()V" } : Jvm.MethodName) prog_60_method_155_code (7 : Nat) (Option.none : Option Jvm.ClassFile.FieldType)) ∈ lw_all := lw_g (lw_at lw_m17 1 rfl) rfl
theorem q4052 : (Jvm.Cond.stringRef "LetMillModel" (936 : Nat) "int") ∈ lw_tbl := lw_at lw_m17 2 rfl
theorem q4053 : (Jvm.Cond.methodLink "LetMillModel" (938 : Nat) ({ cls := "LetMillModel", name := "dataBuilt", desc := "(Ljava/lang/String;I)V" } : Jvm.MethodName)) ∈ lw_all := lw_g (lw_at lw_m17 3 rfl) rfl
theorem q4055 : (Jvm.Cond.instanceMethod ({ cls := "LetMillModel", name := "dataBuilt", desc := "(Ljava/lang/String;I)V" } : Jvm.MethodName)) ∈ lw_all := lw_g (lw_at lw_m17 5 rfl) rfl
theorem q4056 : (Jvm.Cond.code ({ cls := "LetMillModel", name := "dataBuilt", desc := "(Ljava/lang/String;I)V" } : Jvm.MethodName) prog_60_method_154_code (3 : Nat) (Option.none : Option Jvm.ClassFile.FieldType)) ∈ lw_all := lw_g (lw_at lw_m17 6 rfl) rfl
theorem q4057 : (Jvm.Cond.methodLink "LetMillModel" (933 : Nat) ({ cls := "LetMillModel", name := "builtIn", desc := "(Ljava/lang/String;)I" } : Jvm.MethodName)) ∈ lw_all := lw_g (lw_at lw_m17 7 rfl) rfl
theorem q4059 : (Jvm.Cond.instanceMethod ({ cls := "LetMillModel", name := "builtIn", desc := "(Ljava/lang/String;)I" } : Jvm.MethodName)) ∈ lw_all := lw_g (lw_at lw_m17 9 rfl) rfl
theorem q4060 : (Jvm.Cond.code ({ cls := "LetMillModel", name := "builtIn", desc := "(Ljava/lang/String;)I" } : Jvm.MethodName) prog_60_method_6_code (4 : Nat) (Option.some Jvm.ClassFile.FieldType.int)) ∈ lw_all := lw_g (lw_at lw_m17 10 rfl) rfl
theorem q4061 : (Jvm.Cond.stringRef "LetMillModel" (942 : Nat) "bool") ∈ lw_tbl := lw_at lw_m17 11 rfl
theorem q4062 : (Jvm.Cond.stringRef "LetMillModel" (944 : Nat) "unit") ∈ lw_tbl := lw_at lw_m17 12 rfl
theorem q4063 : (Jvm.Cond.stringRef "LetMillModel" (946 : Nat) "list") ∈ lw_tbl := lw_at lw_m17 13 rfl
theorem q4064 : (Jvm.Cond.stringRef "LetMillModel" (947 : Nat) "not") ∈ lw_tbl := lw_at lw_m17 14 rfl
theorem q4065 : (Jvm.Cond.methodLink "LetMillModel" (948 : Nat) ({ cls := "LetMillModel", name := "built", desc := "(III)V" } : Jvm.MethodName)) ∈ lw_all := lw_g (lw_at lw_m17 15 rfl) rfl
theorem q4067 : (Jvm.Cond.instanceMethod ({ cls := "LetMillModel", name := "built", desc := "(III)V" } : Jvm.MethodName)) ∈ lw_all := lw_g (lw_at lw_m17 17 rfl) rfl
theorem q4068 : (Jvm.Cond.code ({ cls := "LetMillModel", name := "built", desc := "(III)V" } : Jvm.MethodName) prog_60_method_153_code (4 : Nat) (Option.none : Option Jvm.ClassFile.FieldType)) ∈ lw_all := lw_g (lw_at lw_m17 18 rfl) rfl
theorem q4069 : (Jvm.Cond.stringRef "LetMillModel" (951 : Nat) "ignore") ∈ lw_tbl := lw_at lw_m17 19 rfl
theorem q4070 : (Jvm.Cond.stringRef "LetMillModel" (953 : Nat) "fst") ∈ lw_tbl := lw_at lw_m17 20 rfl
theorem q4071 : (Jvm.Cond.stringRef "LetMillModel" (955 : Nat) "snd") ∈ lw_tbl := lw_at lw_m17 21 rfl
theorem q4072 : (Jvm.Cond.fieldLink "LetMillModel" (1 : Nat) "LetMillModel" "thrown" "I") ∈ lw_all := lw_g (lw_at lw_m17 22 rfl) rfl
theorem q4073 : (Jvm.Cond.fieldLink "LetMillModel" (14 : Nat) "LetMillModel" "input" "[B") ∈ lw_all := lw_g (lw_at lw_m17 23 rfl) rfl
theorem q4074 : (Jvm.Cond.fieldLink "LetMillModel" (862 : Nat) "LetMillModel" "out" "[B") ∈ lw_all := lw_g (lw_at lw_m17 24 rfl) rfl
theorem q4075 : (Jvm.Cond.fieldLink "LetMillModel" (7 : Nat) "LetMillModel" "inputEnd" "I") ∈ lw_all := lw_g (lw_at lw_m17 25 rfl) rfl
theorem q4076 : (Jvm.Cond.fieldLink "LetMillModel" (859 : Nat) "LetMillModel" "outEnd" "I") ∈ lw_all := lw_g (lw_at lw_m17 26 rfl) rfl
theorem q4077 : (Jvm.Cond.fieldLink "LetMillModel" (25 : Nat) "LetMillModel" "textBytes" "[B") ∈ lw_all := lw_g (lw_at lw_m17 27 rfl) rfl
theorem q4078 : (Jvm.Cond.fieldLink "LetMillModel" (21 : Nat) "LetMillModel" "textAt" "[I") ∈ lw_all := lw_g (lw_at lw_m17 28 rfl) rfl
theorem q4079 : (Jvm.Cond.fieldLink "LetMillModel" (18 : Nat) "LetMillModel" "texts" "I") ∈ lw_all := lw_g (lw_at lw_m17 29 rfl) rfl
theorem q4080 : (Jvm.Cond.fieldLink "LetMillModel" (52 : Nat) "LetMillModel" "kind" "[I") ∈ lw_all := lw_g (lw_at lw_m17 30 rfl) rfl
theorem q4081 : (Jvm.Cond.fieldLink "LetMillModel" (46 : Nat) "LetMillModel" "start" "[I") ∈ lw_all := lw_g (lw_at lw_m17 31 rfl) rfl
theorem q4082 : (Jvm.Cond.fieldLink "LetMillModel" (49 : Nat) "LetMillModel" "value" "[I") ∈ lw_all := lw_g (lw_at lw_m17 32 rfl) rfl
theorem q4083 : (Jvm.Cond.fieldLink "LetMillModel" (40 : Nat) "LetMillModel" "tokens" "I") ∈ lw_all := lw_g (lw_at lw_m17 33 rfl) rfl
theorem q4084 : (Jvm.Cond.fieldLink "LetMillModel" (108 : Nat) "LetMillModel" "at" "I") ∈ lw_all := lw_g (lw_at lw_m17 34 rfl) rfl
theorem q4085 : (Jvm.Cond.fieldLink "LetMillModel" (115 : Nat) "LetMillModel" "deep" "I") ∈ lw_all := lw_g (lw_at lw_m17 35 rfl) rfl
theorem q4086 : (Jvm.Cond.fieldLink "LetMillModel" (77 : Nat) "LetMillModel" "node" "[I") ∈ lw_all := lw_g (lw_at lw_m17 36 rfl) rfl
theorem q4087 : (Jvm.Cond.fieldLink "LetMillModel" (83 : Nat) "LetMillModel" "tok" "[I") ∈ lw_all := lw_g (lw_at lw_m17 37 rfl) rfl
theorem q4088 : (Jvm.Cond.fieldLink "LetMillModel" (86 : Nat) "LetMillModel" "na" "[I") ∈ lw_all := lw_g (lw_at lw_m17 38 rfl) rfl
theorem q4089 : (Jvm.Cond.fieldLink "LetMillModel" (89 : Nat) "LetMillModel" "nb" "[I") ∈ lw_all := lw_g (lw_at lw_m17 39 rfl) rfl
theorem q4090 : (Jvm.Cond.fieldLink "LetMillModel" (92 : Nat) "LetMillModel" "nc" "[I") ∈ lw_all := lw_g (lw_at lw_m17 40 rfl) rfl
theorem q4091 : (Jvm.Cond.fieldLink "LetMillModel" (95 : Nat) "LetMillModel" "next" "[I") ∈ lw_all := lw_g (lw_at lw_m17 41 rfl) rfl
theorem q4092 : (Jvm.Cond.fieldLink "LetMillModel" (80 : Nat) "LetMillModel" "nodes" "I") ∈ lw_all := lw_g (lw_at lw_m17 42 rfl) rfl
theorem q4093 : (Jvm.Cond.fieldLink "LetMillModel" (98 : Nat) "LetMillModel" "wrong" "Z") ∈ lw_all := lw_g (lw_at lw_m17 43 rfl) rfl
theorem q4094 : (Jvm.Cond.fieldLink "LetMillModel" (102 : Nat) "LetMillModel" "fault" "I") ∈ lw_all := lw_g (lw_at lw_m17 44 rfl) rfl
theorem q4095 : (Jvm.Cond.fieldLink "LetMillModel" (105 : Nat) "LetMillModel" "where" "I") ∈ lw_all := lw_g (lw_at lw_m17 45 rfl) rfl
theorem q4096 : (Jvm.Cond.fieldLink "LetMillModel" (129 : Nat) "LetMillModel" "decs" "I") ∈ lw_all := lw_g (lw_at lw_m17 46 rfl) rfl
theorem q4097 : (Jvm.Cond.fieldLink "LetMillModel" (135 : Nat) "LetMillModel" "patTokens" "I") ∈ lw_all := lw_g (lw_at lw_m17 47 rfl) rfl
theorem q4098 : (Jvm.Cond.fieldLink "LetMillModel" (230 : Nat) "LetMillModel" "vText" "[I") ∈ lw_all := lw_g (lw_at lw_m17 48 rfl) rfl
theorem q4099 : (Jvm.Cond.fieldLink "LetMillModel" (224 : Nat) "LetMillModel" "cText" "[I") ∈ lw_all := lw_g (lw_at lw_m17 49 rfl) rfl
theorem q4100 : (Jvm.Cond.fieldLink "LetMillModel" (227 : Nat) "LetMillModel" "cId" "[I") ∈ lw_all := lw_g (lw_at lw_m17 50 rfl) rfl
theorem q4101 : (Jvm.Cond.fieldLink "LetMillModel" (215 : Nat) "LetMillModel" "dText" "[I") ∈ lw_all := lw_g (lw_at lw_m17 51 rfl) rfl
theorem q4102 : (Jvm.Cond.fieldLink "LetMillModel" (218 : Nat) "LetMillModel" "dId" "[I") ∈ lw_all := lw_g (lw_at lw_m17 52 rfl) rfl
theorem q4103 : (Jvm.Cond.fieldLink "LetMillModel" (233 : Nat) "LetMillModel" "vs" "I") ∈ lw_all := lw_g (lw_at lw_m17 53 rfl) rfl
theorem q4104 : (Jvm.Cond.fieldLink "LetMillModel" (221 : Nat) "LetMillModel" "cs" "I") ∈ lw_all := lw_g (lw_at lw_m17 54 rfl) rfl
theorem q4105 : (Jvm.Cond.fieldLink "LetMillModel" (212 : Nat) "LetMillModel" "ds" "I") ∈ lw_all := lw_g (lw_at lw_m17 55 rfl) rfl
theorem q4106 : (Jvm.Cond.fieldLink "LetMillModel" (262 : Nat) "LetMillModel" "dataName" "[I") ∈ lw_all := lw_g (lw_at lw_m17 56 rfl) rfl
theorem q4107 : (Jvm.Cond.fieldLink "LetMillModel" (268 : Nat) "LetMillModel" "dataArity" "[I") ∈ lw_all := lw_g (lw_at lw_m17 57 rfl) rfl
theorem q4108 : (Jvm.Cond.fieldLink "LetMillModel" (274 : Nat) "LetMillModel" "dataFirst" "[I") ∈ lw_all := lw_g (lw_at lw_m17 58 rfl) rfl
theorem q4109 : (Jvm.Cond.fieldLink "LetMillModel" (280 : Nat) "LetMillModel" "dataMany" "[I") ∈ lw_all := lw_g (lw_at lw_m17 59 rfl) rfl
theorem q4110 : (Jvm.Cond.fieldLink "LetMillModel" (286 : Nat) "LetMillModel" "conName" "[I") ∈ lw_all := lw_g (lw_at lw_m17 60 rfl) rfl
theorem q4111 : (Jvm.Cond.fieldLink "LetMillModel" (289 : Nat) "LetMillModel" "conData" "[I") ∈ lw_all := lw_g (lw_at lw_m17 61 rfl) rfl
theorem q4112 : (Jvm.Cond.fieldLink "LetMillModel" (292 : Nat) "LetMillModel" "conTy" "[I") ∈ lw_all := lw_g (lw_at lw_m17 62 rfl) rfl
theorem q4113 : (Jvm.Cond.fieldLink "LetMillModel" (265 : Nat) "LetMillModel" "datas" "I") ∈ lw_all := lw_g (lw_at lw_m17 63 rfl) rfl
theorem q4114 : (Jvm.Cond.fieldLink "LetMillModel" (277 : Nat) "LetMillModel" "cons" "I") ∈ lw_all := lw_g (lw_at lw_m17 64 rfl) rfl
theorem q4115 : (Jvm.Cond.fieldLink "LetMillModel" (283 : Nat) "LetMillModel" "declared" "I") ∈ lw_all := lw_g (lw_at lw_m17 65 rfl) rfl
theorem q4116 : (Jvm.Cond.fieldLink "LetMillModel" (209 : Nat) "LetMillModel" "noted" "Z") ∈ lw_all := lw_g (lw_at lw_m17 66 rfl) rfl
theorem q4117 : (Jvm.Cond.fieldLink "LetMillModel" (313 : Nat) "LetMillModel" "tk" "[I") ∈ lw_all := lw_g (lw_at lw_m17 67 rfl) rfl
theorem q4118 : (Jvm.Cond.fieldLink "LetMillModel" (319 : Nat) "LetMillModel" "ta" "[I") ∈ lw_all := lw_g (lw_at lw_m17 68 rfl) rfl
theorem q4119 : (Jvm.Cond.fieldLink "LetMillModel" (322 : Nat) "LetMillModel" "tb" "[I") ∈ lw_all := lw_g (lw_at lw_m17 69 rfl) rfl
theorem q4120 : (Jvm.Cond.fieldLink "LetMillModel" (341 : Nat) "LetMillModel" "stamp" "[I") ∈ lw_all := lw_g (lw_at lw_m17 70 rfl) rfl
theorem q4121 : (Jvm.Cond.fieldLink "LetMillModel" (316 : Nat) "LetMillModel" "types" "I") ∈ lw_all := lw_g (lw_at lw_m17 71 rfl) rfl
theorem q4122 : (Jvm.Cond.fieldLink "LetMillModel" (344 : Nat) "LetMillModel" "stamps" "I") ∈ lw_all := lw_g (lw_at lw_m17 72 rfl) rfl
theorem q4123 : (Jvm.Cond.fieldLink "LetMillModel" (385 : Nat) "LetMillModel" "kk" "[I") ∈ lw_all := lw_g (lw_at lw_m17 73 rfl) rfl
theorem q4124 : (Jvm.Cond.fieldLink "LetMillModel" (388 : Nat) "LetMillModel" "ka" "[I") ∈ lw_all := lw_g (lw_at lw_m17 74 rfl) rfl
theorem q4125 : (Jvm.Cond.fieldLink "LetMillModel" (394 : Nat) "LetMillModel" "kb" "[I") ∈ lw_all := lw_g (lw_at lw_m17 75 rfl) rfl
theorem q4126 : (Jvm.Cond.fieldLink "LetMillModel" (636 : Nat) "LetMillModel" "kept" "I") ∈ lw_all := lw_g (lw_at lw_m17 76 rfl) rfl
theorem q4127 : (Jvm.Cond.fieldLink "LetMillModel" (329 : Nat) "LetMillModel" "work" "[I") ∈ lw_all := lw_g (lw_at lw_m17 77 rfl) rfl
theorem q4128 : (Jvm.Cond.fieldLink "LetMillModel" (332 : Nat) "LetMillModel" "top" "I") ∈ lw_all := lw_g (lw_at lw_m17 78 rfl) rfl
theorem q4129 : (Jvm.Cond.fieldLink "LetMillModel" (360 : Nat) "LetMillModel" "eText" "[I") ∈ lw_all := lw_g (lw_at lw_m17 79 rfl) rfl
theorem q4130 : (Jvm.Cond.fieldLink "LetMillModel" (366 : Nat) "LetMillModel" "eType" "[I") ∈ lw_all := lw_g (lw_at lw_m17 80 rfl) rfl
theorem q4131 : (Jvm.Cond.fieldLink "LetMillModel" (369 : Nat) "LetMillModel" "eGeneral" "[Z") ∈ lw_all := lw_g (lw_at lw_m17 81 rfl) rfl
theorem q4132 : (Jvm.Cond.fieldLink "LetMillModel" (363 : Nat) "LetMillModel" "es" "I") ∈ lw_all := lw_g (lw_at lw_m17 82 rfl) rfl
theorem q4133 : (Jvm.Cond.fieldLink "LetMillModel" (373 : Nat) "LetMillModel" "fresh" "[I") ∈ lw_all := lw_g (lw_at lw_m17 83 rfl) rfl
theorem q4134 : (Jvm.Cond.fieldLink "LetMillModel" (422 : Nat) "LetMillModel" "arguments" "[I") ∈ lw_all := lw_g (lw_at lw_m17 84 rfl) rfl
theorem q4135 : (Jvm.Cond.fieldLink "LetMillModel" (453 : Nat) "LetMillModel" "matchIn" "I") ∈ lw_all := lw_g (lw_at lw_m17 85 rfl) rfl
theorem q4136 : (Jvm.Cond.fieldLink "LetMillModel" (456 : Nat) "LetMillModel" "matchOut" "I") ∈ lw_all := lw_g (lw_at lw_m17 86 rfl) rfl
theorem q4137 : (Jvm.Cond.fieldLink "LetMillModel" (481 : Nat) "LetMillModel" "general" "[I") ∈ lw_all := lw_g (lw_at lw_m17 87 rfl) rfl
theorem q4138 : (Jvm.Cond.fieldLink "LetMillModel" (478 : Nat) "LetMillModel" "generals" "I") ∈ lw_all := lw_g (lw_at lw_m17 88 rfl) rfl
theorem q4139 : (Jvm.Cond.fieldLink "LetMillModel" (503 : Nat) "LetMillModel" "clauseTypes" "[I") ∈ lw_all := lw_g (lw_at lw_m17 89 rfl) rfl
theorem q4140 : (Jvm.Cond.fieldLink "LetMillModel" (506 : Nat) "LetMillModel" "clauseTop" "I") ∈ lw_all := lw_g (lw_at lw_m17 90 rfl) rfl
theorem q4141 : (Jvm.Cond.fieldLink "LetMillModel" (509 : Nat) "LetMillModel" "counted" "I") ∈ lw_all := lw_g (lw_at lw_m17 91 rfl) rfl
theorem q4142 : (Jvm.Cond.fieldLink "LetMillModel" (521 : Nat) "LetMillModel" "vk" "[I") ∈ lw_all := lw_g (lw_at lw_m17 92 rfl) rfl
theorem q4143 : (Jvm.Cond.fieldLink "LetMillModel" (524 : Nat) "LetMillModel" "va" "[I") ∈ lw_all := lw_g (lw_at lw_m17 93 rfl) rfl
theorem q4144 : (Jvm.Cond.fieldLink "LetMillModel" (527 : Nat) "LetMillModel" "vb" "[I") ∈ lw_all := lw_g (lw_at lw_m17 94 rfl) rfl
theorem q4145 : (Jvm.Cond.fieldLink "LetMillModel" (515 : Nat) "LetMillModel" "values" "I") ∈ lw_all := lw_g (lw_at lw_m17 95 rfl) rfl
theorem q4146 : (Jvm.Cond.fieldLink "LetMillModel" (560 : Nat) "LetMillModel" "used" "[Z") ∈ lw_all := lw_g (lw_at lw_m17 96 rfl) rfl
theorem q4147 : (Jvm.Cond.fieldLink "LetMillModel" (557 : Nat) "LetMillModel" "isOpen" "Z") ∈ lw_all := lw_g (lw_at lw_m17 97 rfl) rfl
theorem q4148 : (Jvm.Cond.fieldLink "LetMillModel" (530 : Nat) "LetMillModel" "notWhat" "[I") ∈ lw_all := lw_g (lw_at lw_m17 98 rfl) rfl
theorem q4149 : (Jvm.Cond.fieldLink "LetMillModel" (533 : Nat) "LetMillModel" "notNext" "[I") ∈ lw_all := lw_g (lw_at lw_m17 99 rfl) rfl
theorem q4150 : (Jvm.Cond.fieldLink "LetMillModel" (590 : Nat) "LetMillModel" "nots" "I") ∈ lw_all := lw_g (lw_at lw_m17 100 rfl) rfl
theorem q4151 : (Jvm.Cond.fieldLink "LetMillModel" (603 : Nat) "LetMillModel" "warnPlace" "[I") ∈ lw_all := lw_g (lw_at lw_m17 101 rfl) rfl
theorem q4152 : (Jvm.Cond.fieldLink "LetMillModel" (606 : Nat) "LetMillModel" "warnSort" "[I") ∈ lw_all := lw_g (lw_at lw_m17 102 rfl) rfl
theorem q4153 : (Jvm.Cond.fieldLink "LetMillModel" (600 : Nat) "LetMillModel" "warnings" "I") ∈ lw_all := lw_g (lw_at lw_m17 103 rfl) rfl
theorem q4154 : (Jvm.Cond.fieldLink "LetMillModel" (657 : Nat) "LetMillModel" "readyWarnings" "I") ∈ lw_all := lw_g (lw_at lw_m17 104 rfl) rfl
theorem q4155 : (Jvm.Cond.fieldLink "LetMillModel" (651 : Nat) "LetMillModel" "readyPlace" "[I") ∈ lw_all := lw_g (lw_at lw_m17 105 rfl) rfl
theorem q4156 : (Jvm.Cond.fieldLink "LetMillModel" (654 : Nat) "LetMillModel" "readySort" "[I") ∈ lw_all := lw_g (lw_at lw_m17 106 rfl) rfl
theorem q4157 : (Jvm.Cond.fieldLink "LetMillModel" (512 : Nat) "LetMillModel" "up" "[I") ∈ lw_all := lw_g (lw_at lw_m17 107 rfl) rfl
theorem q4158 : (Jvm.Cond.fieldLink "LetMillModel" (518 : Nat) "LetMillModel" "slot" "[I") ∈ lw_all := lw_g (lw_at lw_m17 108 rfl) rfl
theorem q4159 : (Jvm.Cond.fieldLink "LetMillModel" (567 : Nat) "LetMillModel" "barren" "[Z") ∈ lw_all := lw_g (lw_at lw_m17 109 rfl) rfl
theorem q4160 : (Jvm.Cond.fieldLink "LetMillModel" (551 : Nat) "LetMillModel" "asked" "I") ∈ lw_all := lw_g (lw_at lw_m17 110 rfl) rfl
theorem q4161 : (Jvm.Cond.fieldLink "LetMillModel" (542 : Nat) "LetMillModel" "atEnd" "Z") ∈ lw_all := lw_g (lw_at lw_m17 111 rfl) rfl
theorem q4162 : (Jvm.Cond.fieldLink "LetMillModel" (554 : Nat) "LetMillModel" "target" "I") ∈ lw_all := lw_g (lw_at lw_m17 112 rfl) rfl
theorem q4163 : (Jvm.Cond.fieldLink "LetMillModel" (660 : Nat) "LetMillModel" "ready" "I") ∈ lw_all := lw_g (lw_at lw_m17 113 rfl) rfl
theorem q4164 : (Jvm.Cond.fieldLink "LetMillModel" (667 : Nat) "LetMillModel" "readyNames" "I") ∈ lw_all := lw_g (lw_at lw_m17 114 rfl) rfl
theorem q4165 : (Jvm.Cond.fieldLink "LetMillModel" (673 : Nat) "LetMillModel" "rText" "[I") ∈ lw_all := lw_g (lw_at lw_m17 115 rfl) rfl
theorem q4166 : (Jvm.Cond.fieldLink "LetMillModel" (676 : Nat) "LetMillModel" "rType" "[I") ∈ lw_all := lw_g (lw_at lw_m17 116 rfl) rfl
theorem q4167 : (Jvm.Cond.fieldLink "LetMillModel" (404 : Nat) "LetMillModel" "session" "I") ∈ lw_all := lw_g (lw_at lw_m17 117 rfl) rfl
theorem q4168 : (Jvm.Cond.fieldLink "LetMillModel" (407 : Nat) "LetMillModel" "sText" "[I") ∈ lw_all := lw_g (lw_at lw_m17 118 rfl) rfl
theorem q4169 : (Jvm.Cond.fieldLink "LetMillModel" (410 : Nat) "LetMillModel" "sType" "[I") ∈ lw_all := lw_g (lw_at lw_m17 119 rfl) rfl
theorem q4170 : (Jvm.Cond.fieldLink "LetMillModel" (925 : Nat) "LetMillModel" "sValue" "[I") ∈ lw_all := lw_g (lw_at lw_m17 120 rfl) rfl
theorem q4171 : (Jvm.Cond.fieldLink "LetMillModel" (721 : Nat) "LetMillModel" "scText" "[I") ∈ lw_all := lw_g (lw_at lw_m17 121 rfl) rfl
theorem q4172 : (Jvm.Cond.fieldLink "LetMillModel" (724 : Nat) "LetMillModel" "scId" "[I") ∈ lw_all := lw_g (lw_at lw_m17 122 rfl) rfl
theorem q4173 : (Jvm.Cond.fieldLink "LetMillModel" (712 : Nat) "LetMillModel" "sdText" "[I") ∈ lw_all := lw_g (lw_at lw_m17 123 rfl) rfl
theorem q4174 : (Jvm.Cond.fieldLink "LetMillModel" (715 : Nat) "LetMillModel" "sdId" "[I") ∈ lw_all := lw_g (lw_at lw_m17 124 rfl) rfl
theorem q4175 : (Jvm.Cond.fieldLink "LetMillModel" (718 : Nat) "LetMillModel" "scMany" "I") ∈ lw_all := lw_g (lw_at lw_m17 125 rfl) rfl
theorem q4176 : (Jvm.Cond.fieldLink "LetMillModel" (709 : Nat) "LetMillModel" "sdMany" "I") ∈ lw_all := lw_g (lw_at lw_m17 126 rfl) rfl
theorem q4177 : (Jvm.Cond.fieldLink "LetMillModel" (648 : Nat) "LetMillModel" "allDeclared" "I") ∈ lw_all := lw_g (lw_at lw_m17 127 rfl) rfl
theorem q4178 : (Jvm.Cond.fieldLink "LetMillModel" (663 : Nat) "LetMillModel" "isReady" "Z") ∈ lw_all := lw_g (lw_at lw_m17 128 rfl) rfl
theorem q4179 : (Jvm.Cond.fieldLink "LetMillModel" (679 : Nat) "LetMillModel" "topCons" "I") ∈ lw_all := lw_g (lw_at lw_m17 129 rfl) rfl
theorem q4180 : (Jvm.Cond.fieldLink "LetMillModel" (685 : Nat) "LetMillModel" "topDatas" "I") ∈ lw_all := lw_g (lw_at lw_m17 130 rfl) rfl
theorem q4181 : (Jvm.Cond.fieldLink "LetMillModel" (694 : Nat) "LetMillModel" "baseCons" "I") ∈ lw_all := lw_g (lw_at lw_m17 131 rfl) rfl
theorem q4182 : (Jvm.Cond.fieldLink "LetMillModel" (703 : Nat) "LetMillModel" "baseDatas" "I") ∈ lw_all := lw_g (lw_at lw_m17 132 rfl) rfl
theorem q4183 : (Jvm.Cond.fieldLink "LetMillModel" (682 : Nat) "LetMillModel" "readyTopCons" "I") ∈ lw_all := lw_g (lw_at lw_m17 133 rfl) rfl
theorem q4184 : (Jvm.Cond.fieldLink "LetMillModel" (688 : Nat) "LetMillModel" "readyTopDatas" "I") ∈ lw_all := lw_g (lw_at lw_m17 134 rfl) rfl
theorem q4185 : (Jvm.Cond.fieldLink "LetMillModel" (691 : Nat) "LetMillModel" "rcText" "[I") ∈ lw_all := lw_g (lw_at lw_m17 135 rfl) rfl
theorem q4186 : (Jvm.Cond.fieldLink "LetMillModel" (697 : Nat) "LetMillModel" "rcId" "[I") ∈ lw_all := lw_g (lw_at lw_m17 136 rfl) rfl
theorem q4187 : (Jvm.Cond.fieldLink "LetMillModel" (700 : Nat) "LetMillModel" "rdText" "[I") ∈ lw_all := lw_g (lw_at lw_m17 137 rfl) rfl
theorem q4188 : (Jvm.Cond.fieldLink "LetMillModel" (706 : Nat) "LetMillModel" "rdId" "[I") ∈ lw_all := lw_g (lw_at lw_m17 138 rfl) rfl
theorem q4189 : (Jvm.Cond.fieldLink "LetMillModel" (727 : Nat) "LetMillModel" "hk" "[I") ∈ lw_all := lw_g (lw_at lw_m17 139 rfl) rfl
theorem q4190 : (Jvm.Cond.fieldLink "LetMillModel" (733 : Nat) "LetMillModel" "ha" "[I") ∈ lw_all := lw_g (lw_at lw_m17 140 rfl) rfl
theorem q4191 : (Jvm.Cond.fieldLink "LetMillModel" (736 : Nat) "LetMillModel" "hb" "[I") ∈ lw_all := lw_g (lw_at lw_m17 141 rfl) rfl
theorem q4192 : (Jvm.Cond.fieldLink "LetMillModel" (730 : Nat) "LetMillModel" "heap" "I") ∈ lw_all := lw_g (lw_at lw_m17 142 rfl) rfl
theorem q4193 : (Jvm.Cond.fieldLink "LetMillModel" (766 : Nat) "LetMillModel" "stack" "[I") ∈ lw_all := lw_g (lw_at lw_m17 143 rfl) rfl
theorem q4194 : (Jvm.Cond.fieldLink "LetMillModel" (819 : Nat) "LetMillModel" "vals" "[I") ∈ lw_all := lw_g (lw_at lw_m17 144 rfl) rfl
theorem q4195 : (Jvm.Cond.fieldLink "LetMillModel" (769 : Nat) "LetMillModel" "sp" "I") ∈ lw_all := lw_g (lw_at lw_m17 145 rfl) rfl
theorem q4196 : (Jvm.Cond.fieldLink "LetMillModel" (772 : Nat) "LetMillModel" "vp" "I") ∈ lw_all := lw_g (lw_at lw_m17 146 rfl) rfl
theorem q4197 : (Jvm.Cond.fieldLink "LetMillModel" (739 : Nat) "LetMillModel" "cost" "I") ∈ lw_all := lw_g (lw_at lw_m17 147 rfl) rfl
theorem q4198 : (Jvm.Cond.fieldLink "LetMillModel" (742 : Nat) "LetMillModel" "limit" "I") ∈ lw_all := lw_g (lw_at lw_m17 148 rfl) rfl
theorem q4199 : (Jvm.Cond.fieldLink "LetMillModel" (852 : Nat) "LetMillModel" "allCost" "I") ∈ lw_all := lw_g (lw_at lw_m17 149 rfl) rfl
theorem q4200 : (Jvm.Cond.fieldLink "LetMillModel" (745 : Nat) "LetMillModel" "error" "I") ∈ lw_all := lw_g (lw_at lw_m17 150 rfl) rfl
theorem q4201 : (Jvm.Cond.fieldLink "LetMillModel" (775 : Nat) "LetMillModel" "sessionEnv" "I") ∈ lw_all := lw_g (lw_at lw_m17 151 rfl) rfl
theorem q4202 : (Jvm.Cond.fieldLink "LetMillModel" (760 : Nat) "LetMillModel" "envNow" "I") ∈ lw_all := lw_g (lw_at lw_m17 152 rfl) rfl
theorem q4203 : (Jvm.Cond.fieldLink "LetMillModel" (799 : Nat) "LetMillModel" "exp" "I") ∈ lw_all := lw_g (lw_at lw_m17 153 rfl) rfl
theorem q4204 : (Jvm.Cond.fieldLink "LetMillModel" (801 : Nat) "LetMillModel" "env" "I") ∈ lw_all := lw_g (lw_at lw_m17 154 rfl) rfl
theorem q4205 : (Jvm.Cond.fieldLink "LetMillModel" (784 : Nat) "LetMillModel" "result" "I") ∈ lw_all := lw_g (lw_at lw_m17 155 rfl) rfl
theorem q4206 : (Jvm.Cond.fieldLink "LetMillModel" (781 : Nat) "LetMillModel" "returns" "Z") ∈ lw_all := lw_g (lw_at lw_m17 156 rfl) rfl
theorem q4207 : (Jvm.Cond.fieldLink "LetMillModel" (796 : Nat) "LetMillModel" "done" "Z") ∈ lw_all := lw_g (lw_at lw_m17 157 rfl) rfl
theorem q4208 : (Jvm.Cond.fieldLink "LetMillModel" (874 : Nat) "LetMillModel" "letters" "[I") ∈ lw_all := lw_g (lw_at lw_m17 158 rfl) rfl
theorem q4209 : (Jvm.Cond.fieldLink "LetMillModel" (871 : Nat) "LetMillModel" "lettered" "I") ∈ lw_all := lw_g (lw_at lw_m17 159 rfl) rfl
theorem q4210 : (Jvm.Cond.fieldLink "LetMillModel" (416 : Nat) "LetMillModel" "bText" "[I") ∈ lw_all := lw_g (lw_at lw_m17 160 rfl) rfl
theorem q4211 : (Jvm.Cond.fieldLink "LetMillModel" (419 : Nat) "LetMillModel" "bType" "[I") ∈ lw_all := lw_g (lw_at lw_m17 161 rfl) rfl
theorem q4212 : (Jvm.Cond.fieldLink "LetMillModel" (748 : Nat) "LetMillModel" "bId" "[I") ∈ lw_all := lw_g (lw_at lw_m17 162 rfl) rfl
theorem q4213 : (Jvm.Cond.fieldLink "LetMillModel" (413 : Nat) "LetMillModel" "builtIns" "I") ∈ lw_all := lw_g (lw_at lw_m17 163 rfl) rfl
theorem q4214 : (Jvm.Cond.lays "LetMillModel" "LetMillModel" "thrown" "I") ∈ lw_all := lw_g (lw_at lw_m17 164 rfl) rfl
theorem q4216 : (Jvm.Cond.laysFinal "LetMillModel" "LetMillModel" "input" "[B") ∈ lw_all := lw_g (lw_at lw_m17 166 rfl) rfl
theorem q4218 : (Jvm.Cond.laysFinal "LetMillModel" "LetMillModel" "out" "[B") ∈ lw_all := lw_g (lw_at lw_m17 168 rfl) rfl
theorem q4220 : (Jvm.Cond.lays "LetMillModel" "LetMillModel" "inputEnd" "I") ∈ lw_all := lw_g (lw_at lw_m17 170 rfl) rfl
theorem q4222 : (Jvm.Cond.lays "LetMillModel" "LetMillModel" "outEnd" "I") ∈ lw_all := lw_g (lw_at lw_m17 172 rfl) rfl
theorem q4224 : (Jvm.Cond.laysFinal "LetMillModel" "LetMillModel" "textBytes" "[B") ∈ lw_all := lw_g (lw_at lw_m17 174 rfl) rfl
theorem q4226 : (Jvm.Cond.laysFinal "LetMillModel" "LetMillModel" "textAt" "[I") ∈ lw_all := lw_g (lw_at lw_m17 176 rfl) rfl
theorem q4228 : (Jvm.Cond.lays "LetMillModel" "LetMillModel" "texts" "I") ∈ lw_all := lw_g (lw_at lw_m17 178 rfl) rfl
theorem q4230 : (Jvm.Cond.laysFinal "LetMillModel" "LetMillModel" "kind" "[I") ∈ lw_all := lw_g (lw_at lw_m17 180 rfl) rfl
theorem q4232 : (Jvm.Cond.laysFinal "LetMillModel" "LetMillModel" "start" "[I") ∈ lw_all := lw_g (lw_at lw_m17 182 rfl) rfl
theorem q4234 : (Jvm.Cond.laysFinal "LetMillModel" "LetMillModel" "value" "[I") ∈ lw_all := lw_g (lw_at lw_m17 184 rfl) rfl
theorem q4236 : (Jvm.Cond.lays "LetMillModel" "LetMillModel" "tokens" "I") ∈ lw_all := lw_g (lw_at lw_m17 186 rfl) rfl
theorem q4238 : (Jvm.Cond.lays "LetMillModel" "LetMillModel" "at" "I") ∈ lw_all := lw_g (lw_at lw_m17 188 rfl) rfl
theorem q4240 : (Jvm.Cond.lays "LetMillModel" "LetMillModel" "deep" "I") ∈ lw_all := lw_g (lw_at lw_m17 190 rfl) rfl
theorem q4242 : (Jvm.Cond.laysFinal "LetMillModel" "LetMillModel" "node" "[I") ∈ lw_all := lw_g (lw_at lw_m17 192 rfl) rfl
theorem q4244 : (Jvm.Cond.laysFinal "LetMillModel" "LetMillModel" "tok" "[I") ∈ lw_all := lw_g (lw_at lw_m17 194 rfl) rfl
theorem q4246 : (Jvm.Cond.laysFinal "LetMillModel" "LetMillModel" "na" "[I") ∈ lw_all := lw_g (lw_at lw_m17 196 rfl) rfl
theorem q4248 : (Jvm.Cond.laysFinal "LetMillModel" "LetMillModel" "nb" "[I") ∈ lw_all := lw_g (lw_at lw_m17 198 rfl) rfl
theorem q4250 : (Jvm.Cond.laysFinal "LetMillModel" "LetMillModel" "nc" "[I") ∈ lw_all := lw_g (lw_at lw_m17 200 rfl) rfl
theorem q4252 : (Jvm.Cond.laysFinal "LetMillModel" "LetMillModel" "next" "[I") ∈ lw_all := lw_g (lw_at lw_m17 202 rfl) rfl
theorem q4254 : (Jvm.Cond.lays "LetMillModel" "LetMillModel" "nodes" "I") ∈ lw_all := lw_g (lw_at lw_m17 204 rfl) rfl
theorem q4256 : (Jvm.Cond.lays "LetMillModel" "LetMillModel" "wrong" "Z") ∈ lw_all := lw_g (lw_at lw_m17 206 rfl) rfl
theorem q4258 : (Jvm.Cond.lays "LetMillModel" "LetMillModel" "fault" "I") ∈ lw_all := lw_g (lw_at lw_m17 208 rfl) rfl
theorem q4260 : (Jvm.Cond.lays "LetMillModel" "LetMillModel" "where" "I") ∈ lw_all := lw_g (lw_at lw_m17 210 rfl) rfl
theorem q4262 : (Jvm.Cond.lays "LetMillModel" "LetMillModel" "decs" "I") ∈ lw_all := lw_g (lw_at lw_m17 212 rfl) rfl
theorem q4264 : (Jvm.Cond.lays "LetMillModel" "LetMillModel" "patTokens" "I") ∈ lw_all := lw_g (lw_at lw_m17 214 rfl) rfl
theorem q4266 : (Jvm.Cond.laysFinal "LetMillModel" "LetMillModel" "vText" "[I") ∈ lw_all := lw_g (lw_at lw_m17 216 rfl) rfl
theorem q4268 : (Jvm.Cond.laysFinal "LetMillModel" "LetMillModel" "cText" "[I") ∈ lw_all := lw_g (lw_at lw_m17 218 rfl) rfl
theorem q4270 : (Jvm.Cond.laysFinal "LetMillModel" "LetMillModel" "cId" "[I") ∈ lw_all := lw_g (lw_at lw_m17 220 rfl) rfl
theorem q4272 : (Jvm.Cond.laysFinal "LetMillModel" "LetMillModel" "dText" "[I") ∈ lw_all := lw_g (lw_at lw_m17 222 rfl) rfl
theorem q4274 : (Jvm.Cond.laysFinal "LetMillModel" "LetMillModel" "dId" "[I") ∈ lw_all := lw_g (lw_at lw_m17 224 rfl) rfl
theorem q4276 : (Jvm.Cond.lays "LetMillModel" "LetMillModel" "vs" "I") ∈ lw_all := lw_g (lw_at lw_m17 226 rfl) rfl
theorem q4278 : (Jvm.Cond.lays "LetMillModel" "LetMillModel" "cs" "I") ∈ lw_all := lw_g (lw_at lw_m17 228 rfl) rfl
theorem q4280 : (Jvm.Cond.lays "LetMillModel" "LetMillModel" "ds" "I") ∈ lw_all := lw_g (lw_at lw_m17 230 rfl) rfl
theorem q4282 : (Jvm.Cond.laysFinal "LetMillModel" "LetMillModel" "dataName" "[I") ∈ lw_all := lw_g (lw_at lw_m17 232 rfl) rfl
theorem q4284 : (Jvm.Cond.laysFinal "LetMillModel" "LetMillModel" "dataArity" "[I") ∈ lw_all := lw_g (lw_at lw_m17 234 rfl) rfl
theorem q4286 : (Jvm.Cond.laysFinal "LetMillModel" "LetMillModel" "dataFirst" "[I") ∈ lw_all := lw_g (lw_at lw_m17 236 rfl) rfl
theorem q4288 : (Jvm.Cond.laysFinal "LetMillModel" "LetMillModel" "dataMany" "[I") ∈ lw_all := lw_g (lw_at lw_m17 238 rfl) rfl
theorem q4290 : (Jvm.Cond.laysFinal "LetMillModel" "LetMillModel" "conName" "[I") ∈ lw_all := lw_g (lw_at lw_m18 0 rfl) rfl
theorem q4292 : (Jvm.Cond.laysFinal "LetMillModel" "LetMillModel" "conData" "[I") ∈ lw_all := lw_g (lw_at lw_m18 2 rfl) rfl
theorem q4294 : (Jvm.Cond.laysFinal "LetMillModel" "LetMillModel" "conTy" "[I") ∈ lw_all := lw_g (lw_at lw_m18 4 rfl) rfl
theorem q4296 : (Jvm.Cond.lays "LetMillModel" "LetMillModel" "datas" "I") ∈ lw_all := lw_g (lw_at lw_m18 6 rfl) rfl
theorem q4298 : (Jvm.Cond.lays "LetMillModel" "LetMillModel" "cons" "I") ∈ lw_all := lw_g (lw_at lw_m18 8 rfl) rfl
theorem q4300 : (Jvm.Cond.lays "LetMillModel" "LetMillModel" "declared" "I") ∈ lw_all := lw_g (lw_at lw_m18 10 rfl) rfl
theorem q4302 : (Jvm.Cond.lays "LetMillModel" "LetMillModel" "intText" "I") ∈ lw_all := lw_g (lw_at lw_m18 12 rfl) rfl
theorem q4304 : (Jvm.Cond.lays "LetMillModel" "LetMillModel" "boolText" "I") ∈ lw_all := lw_g (lw_at lw_m18 14 rfl) rfl
theorem q4306 : (Jvm.Cond.lays "LetMillModel" "LetMillModel" "unitText" "I") ∈ lw_all := lw_g (lw_at lw_m18 16 rfl) rfl
theorem q4308 : (Jvm.Cond.lays "LetMillModel" "LetMillModel" "listText" "I") ∈ lw_all := lw_g (lw_at lw_m18 18 rfl) rfl
theorem q4310 : (Jvm.Cond.lays "LetMillModel" "LetMillModel" "refText" "I") ∈ lw_all := lw_g (lw_at lw_m18 20 rfl) rfl
theorem q4312 : (Jvm.Cond.lays "LetMillModel" "LetMillModel" "notText" "I") ∈ lw_all := lw_g (lw_at lw_m18 22 rfl) rfl
theorem q4314 : (Jvm.Cond.lays "LetMillModel" "LetMillModel" "ignoreText" "I") ∈ lw_all := lw_g (lw_at lw_m18 24 rfl) rfl
theorem q4316 : (Jvm.Cond.lays "LetMillModel" "LetMillModel" "fstText" "I") ∈ lw_all := lw_g (lw_at lw_m18 26 rfl) rfl
theorem q4318 : (Jvm.Cond.lays "LetMillModel" "LetMillModel" "sndText" "I") ∈ lw_all := lw_g (lw_at lw_m18 28 rfl) rfl
theorem q4320 : (Jvm.Cond.lays "LetMillModel" "LetMillModel" "noted" "Z") ∈ lw_all := lw_g (lw_at lw_m18 30 rfl) rfl
theorem q4322 : (Jvm.Cond.laysFinal "LetMillModel" "LetMillModel" "tk" "[I") ∈ lw_all := lw_g (lw_at lw_m18 32 rfl) rfl
theorem q4324 : (Jvm.Cond.laysFinal "LetMillModel" "LetMillModel" "ta" "[I") ∈ lw_all := lw_g (lw_at lw_m18 34 rfl) rfl
theorem q4326 : (Jvm.Cond.laysFinal "LetMillModel" "LetMillModel" "tb" "[I") ∈ lw_all := lw_g (lw_at lw_m18 36 rfl) rfl
theorem q4328 : (Jvm.Cond.laysFinal "LetMillModel" "LetMillModel" "stamp" "[I") ∈ lw_all := lw_g (lw_at lw_m18 38 rfl) rfl
theorem q4330 : (Jvm.Cond.lays "LetMillModel" "LetMillModel" "types" "I") ∈ lw_all := lw_g (lw_at lw_m18 40 rfl) rfl
theorem q4332 : (Jvm.Cond.lays "LetMillModel" "LetMillModel" "stamps" "I") ∈ lw_all := lw_g (lw_at lw_m18 42 rfl) rfl
theorem q4334 : (Jvm.Cond.laysFinal "LetMillModel" "LetMillModel" "kk" "[I") ∈ lw_all := lw_g (lw_at lw_m18 44 rfl) rfl
theorem q4336 : (Jvm.Cond.laysFinal "LetMillModel" "LetMillModel" "ka" "[I") ∈ lw_all := lw_g (lw_at lw_m18 46 rfl) rfl
theorem q4338 : (Jvm.Cond.laysFinal "LetMillModel" "LetMillModel" "kb" "[I") ∈ lw_all := lw_g (lw_at lw_m18 48 rfl) rfl
theorem q4340 : (Jvm.Cond.lays "LetMillModel" "LetMillModel" "kept" "I") ∈ lw_all := lw_g (lw_at lw_m18 50 rfl) rfl
theorem q4342 : (Jvm.Cond.laysFinal "LetMillModel" "LetMillModel" "work" "[I") ∈ lw_all := lw_g (lw_at lw_m18 52 rfl) rfl
theorem q4344 : (Jvm.Cond.lays "LetMillModel" "LetMillModel" "top" "I") ∈ lw_all := lw_g (lw_at lw_m18 54 rfl) rfl
theorem q4346 : (Jvm.Cond.laysFinal "LetMillModel" "LetMillModel" "eText" "[I") ∈ lw_all := lw_g (lw_at lw_m18 56 rfl) rfl
theorem q4348 : (Jvm.Cond.laysFinal "LetMillModel" "LetMillModel" "eType" "[I") ∈ lw_all := lw_g (lw_at lw_m18 58 rfl) rfl
theorem q4350 : (Jvm.Cond.laysFinal "LetMillModel" "LetMillModel" "eGeneral" "[Z") ∈ lw_all := lw_g (lw_at lw_m18 60 rfl) rfl
theorem q4352 : (Jvm.Cond.lays "LetMillModel" "LetMillModel" "es" "I") ∈ lw_all := lw_g (lw_at lw_m18 62 rfl) rfl
theorem q4354 : (Jvm.Cond.laysFinal "LetMillModel" "LetMillModel" "fresh" "[I") ∈ lw_all := lw_g (lw_at lw_m18 64 rfl) rfl
theorem q4356 : (Jvm.Cond.laysFinal "LetMillModel" "LetMillModel" "arguments" "[I") ∈ lw_all := lw_g (lw_at lw_m18 66 rfl) rfl
theorem q4358 : (Jvm.Cond.lays "LetMillModel" "LetMillModel" "matchIn" "I") ∈ lw_all := lw_g (lw_at lw_m18 68 rfl) rfl
theorem q4360 : (Jvm.Cond.lays "LetMillModel" "LetMillModel" "matchOut" "I") ∈ lw_all := lw_g (lw_at lw_m18 70 rfl) rfl
theorem q4362 : (Jvm.Cond.laysFinal "LetMillModel" "LetMillModel" "general" "[I") ∈ lw_all := lw_g (lw_at lw_m18 72 rfl) rfl
theorem q4364 : (Jvm.Cond.lays "LetMillModel" "LetMillModel" "generals" "I") ∈ lw_all := lw_g (lw_at lw_m18 74 rfl) rfl
theorem q4366 : (Jvm.Cond.laysFinal "LetMillModel" "LetMillModel" "clauseTypes" "[I") ∈ lw_all := lw_g (lw_at lw_m18 76 rfl) rfl
theorem q4368 : (Jvm.Cond.lays "LetMillModel" "LetMillModel" "clauseTop" "I") ∈ lw_all := lw_g (lw_at lw_m18 78 rfl) rfl
theorem q4370 : (Jvm.Cond.lays "LetMillModel" "LetMillModel" "counted" "I") ∈ lw_all := lw_g (lw_at lw_m18 80 rfl) rfl
theorem q4372 : (Jvm.Cond.laysFinal "LetMillModel" "LetMillModel" "vk" "[I") ∈ lw_all := lw_g (lw_at lw_m18 82 rfl) rfl
theorem q4374 : (Jvm.Cond.laysFinal "LetMillModel" "LetMillModel" "va" "[I") ∈ lw_all := lw_g (lw_at lw_m18 84 rfl) rfl
theorem q4376 : (Jvm.Cond.laysFinal "LetMillModel" "LetMillModel" "vb" "[I") ∈ lw_all := lw_g (lw_at lw_m18 86 rfl) rfl
theorem q4378 : (Jvm.Cond.lays "LetMillModel" "LetMillModel" "values" "I") ∈ lw_all := lw_g (lw_at lw_m18 88 rfl) rfl
theorem q4380 : (Jvm.Cond.laysFinal "LetMillModel" "LetMillModel" "used" "[Z") ∈ lw_all := lw_g (lw_at lw_m18 90 rfl) rfl
theorem q4382 : (Jvm.Cond.lays "LetMillModel" "LetMillModel" "isOpen" "Z") ∈ lw_all := lw_g (lw_at lw_m18 92 rfl) rfl
theorem q4384 : (Jvm.Cond.laysFinal "LetMillModel" "LetMillModel" "notWhat" "[I") ∈ lw_all := lw_g (lw_at lw_m18 94 rfl) rfl
theorem q4386 : (Jvm.Cond.laysFinal "LetMillModel" "LetMillModel" "notNext" "[I") ∈ lw_all := lw_g (lw_at lw_m18 96 rfl) rfl
theorem q4388 : (Jvm.Cond.lays "LetMillModel" "LetMillModel" "nots" "I") ∈ lw_all := lw_g (lw_at lw_m18 98 rfl) rfl
theorem q4390 : (Jvm.Cond.laysFinal "LetMillModel" "LetMillModel" "warnPlace" "[I") ∈ lw_all := lw_g (lw_at lw_m18 100 rfl) rfl
theorem q4392 : (Jvm.Cond.laysFinal "LetMillModel" "LetMillModel" "warnSort" "[I") ∈ lw_all := lw_g (lw_at lw_m18 102 rfl) rfl
theorem q4394 : (Jvm.Cond.lays "LetMillModel" "LetMillModel" "warnings" "I") ∈ lw_all := lw_g (lw_at lw_m18 104 rfl) rfl
theorem q4396 : (Jvm.Cond.lays "LetMillModel" "LetMillModel" "readyWarnings" "I") ∈ lw_all := lw_g (lw_at lw_m18 106 rfl) rfl
theorem q4398 : (Jvm.Cond.laysFinal "LetMillModel" "LetMillModel" "readyPlace" "[I") ∈ lw_all := lw_g (lw_at lw_m18 108 rfl) rfl
theorem q4400 : (Jvm.Cond.laysFinal "LetMillModel" "LetMillModel" "readySort" "[I") ∈ lw_all := lw_g (lw_at lw_m18 110 rfl) rfl
theorem q4402 : (Jvm.Cond.laysFinal "LetMillModel" "LetMillModel" "up" "[I") ∈ lw_all := lw_g (lw_at lw_m18 112 rfl) rfl
theorem q4404 : (Jvm.Cond.laysFinal "LetMillModel" "LetMillModel" "slot" "[I") ∈ lw_all := lw_g (lw_at lw_m18 114 rfl) rfl
theorem q4406 : (Jvm.Cond.laysFinal "LetMillModel" "LetMillModel" "barren" "[Z") ∈ lw_all := lw_g (lw_at lw_m18 116 rfl) rfl
theorem q4408 : (Jvm.Cond.lays "LetMillModel" "LetMillModel" "asked" "I") ∈ lw_all := lw_g (lw_at lw_m18 118 rfl) rfl
theorem q4410 : (Jvm.Cond.lays "LetMillModel" "LetMillModel" "atEnd" "Z") ∈ lw_all := lw_g (lw_at lw_m18 120 rfl) rfl
theorem q4412 : (Jvm.Cond.lays "LetMillModel" "LetMillModel" "target" "I") ∈ lw_all := lw_g (lw_at lw_m18 122 rfl) rfl
theorem q4414 : (Jvm.Cond.lays "LetMillModel" "LetMillModel" "ready" "I") ∈ lw_all := lw_g (lw_at lw_m18 124 rfl) rfl
theorem q4416 : (Jvm.Cond.lays "LetMillModel" "LetMillModel" "readyNames" "I") ∈ lw_all := lw_g (lw_at lw_m18 126 rfl) rfl
theorem q4418 : (Jvm.Cond.lays "LetMillModel" "LetMillModel" "readyDatas" "I") ∈ lw_all := lw_g (lw_at lw_m18 128 rfl) rfl
theorem q4420 : (Jvm.Cond.lays "LetMillModel" "LetMillModel" "readyCons" "I") ∈ lw_all := lw_g (lw_at lw_m18 130 rfl) rfl
theorem q4422 : (Jvm.Cond.lays "LetMillModel" "LetMillModel" "readyDeclared" "I") ∈ lw_all := lw_g (lw_at lw_m18 132 rfl) rfl
theorem q4424 : (Jvm.Cond.lays "LetMillModel" "LetMillModel" "readyTop" "I") ∈ lw_all := lw_g (lw_at lw_m18 134 rfl) rfl
theorem q4426 : (Jvm.Cond.laysFinal "LetMillModel" "LetMillModel" "rText" "[I") ∈ lw_all := lw_g (lw_at lw_m18 136 rfl) rfl
theorem q4428 : (Jvm.Cond.laysFinal "LetMillModel" "LetMillModel" "rType" "[I") ∈ lw_all := lw_g (lw_at lw_m18 138 rfl) rfl
theorem q4430 : (Jvm.Cond.lays "LetMillModel" "LetMillModel" "session" "I") ∈ lw_all := lw_g (lw_at lw_m18 140 rfl) rfl
theorem q4432 : (Jvm.Cond.lays "LetMillModel" "LetMillModel" "sessionDatas" "I") ∈ lw_all := lw_g (lw_at lw_m18 142 rfl) rfl
theorem q4434 : (Jvm.Cond.lays "LetMillModel" "LetMillModel" "sessionCons" "I") ∈ lw_all := lw_g (lw_at lw_m18 144 rfl) rfl
theorem q4436 : (Jvm.Cond.lays "LetMillModel" "LetMillModel" "sessionVs" "I") ∈ lw_all := lw_g (lw_at lw_m18 146 rfl) rfl
theorem q4438 : (Jvm.Cond.laysFinal "LetMillModel" "LetMillModel" "sText" "[I") ∈ lw_all := lw_g (lw_at lw_m18 148 rfl) rfl
theorem q4440 : (Jvm.Cond.laysFinal "LetMillModel" "LetMillModel" "sType" "[I") ∈ lw_all := lw_g (lw_at lw_m18 150 rfl) rfl
theorem q4442 : (Jvm.Cond.laysFinal "LetMillModel" "LetMillModel" "sValue" "[I") ∈ lw_all := lw_g (lw_at lw_m18 152 rfl) rfl
theorem q4444 : (Jvm.Cond.laysFinal "LetMillModel" "LetMillModel" "scText" "[I") ∈ lw_all := lw_g (lw_at lw_m18 154 rfl) rfl
theorem q4446 : (Jvm.Cond.laysFinal "LetMillModel" "LetMillModel" "scId" "[I") ∈ lw_all := lw_g (lw_at lw_m18 156 rfl) rfl
theorem q4448 : (Jvm.Cond.laysFinal "LetMillModel" "LetMillModel" "sdText" "[I") ∈ lw_all := lw_g (lw_at lw_m18 158 rfl) rfl
theorem q4450 : (Jvm.Cond.laysFinal "LetMillModel" "LetMillModel" "sdId" "[I") ∈ lw_all := lw_g (lw_at lw_m18 160 rfl) rfl
theorem q4452 : (Jvm.Cond.lays "LetMillModel" "LetMillModel" "scMany" "I") ∈ lw_all := lw_g (lw_at lw_m18 162 rfl) rfl
theorem q4454 : (Jvm.Cond.lays "LetMillModel" "LetMillModel" "sdMany" "I") ∈ lw_all := lw_g (lw_at lw_m18 164 rfl) rfl
theorem q4456 : (Jvm.Cond.lays "LetMillModel" "LetMillModel" "allDeclared" "I") ∈ lw_all := lw_g (lw_at lw_m18 166 rfl) rfl
theorem q4458 : (Jvm.Cond.lays "LetMillModel" "LetMillModel" "isReady" "Z") ∈ lw_all := lw_g (lw_at lw_m18 168 rfl) rfl
theorem q4460 : (Jvm.Cond.lays "LetMillModel" "LetMillModel" "topCons" "I") ∈ lw_all := lw_g (lw_at lw_m18 170 rfl) rfl
theorem q4462 : (Jvm.Cond.lays "LetMillModel" "LetMillModel" "topDatas" "I") ∈ lw_all := lw_g (lw_at lw_m18 172 rfl) rfl
theorem q4464 : (Jvm.Cond.lays "LetMillModel" "LetMillModel" "baseCons" "I") ∈ lw_all := lw_g (lw_at lw_m18 174 rfl) rfl
theorem q4466 : (Jvm.Cond.lays "LetMillModel" "LetMillModel" "baseDatas" "I") ∈ lw_all := lw_g (lw_at lw_m18 176 rfl) rfl
theorem q4468 : (Jvm.Cond.lays "LetMillModel" "LetMillModel" "readyTopCons" "I") ∈ lw_all := lw_g (lw_at lw_m18 178 rfl) rfl
theorem q4470 : (Jvm.Cond.lays "LetMillModel" "LetMillModel" "readyTopDatas" "I") ∈ lw_all := lw_g (lw_at lw_m18 180 rfl) rfl
theorem q4472 : (Jvm.Cond.laysFinal "LetMillModel" "LetMillModel" "rcText" "[I") ∈ lw_all := lw_g (lw_at lw_m18 182 rfl) rfl
theorem q4474 : (Jvm.Cond.laysFinal "LetMillModel" "LetMillModel" "rcId" "[I") ∈ lw_all := lw_g (lw_at lw_m18 184 rfl) rfl
theorem q4476 : (Jvm.Cond.laysFinal "LetMillModel" "LetMillModel" "rdText" "[I") ∈ lw_all := lw_g (lw_at lw_m18 186 rfl) rfl
theorem q4478 : (Jvm.Cond.laysFinal "LetMillModel" "LetMillModel" "rdId" "[I") ∈ lw_all := lw_g (lw_at lw_m18 188 rfl) rfl
theorem q4480 : (Jvm.Cond.laysFinal "LetMillModel" "LetMillModel" "hk" "[I") ∈ lw_all := lw_g (lw_at lw_m18 190 rfl) rfl
theorem q4482 : (Jvm.Cond.laysFinal "LetMillModel" "LetMillModel" "ha" "[I") ∈ lw_all := lw_g (lw_at lw_m18 192 rfl) rfl
theorem q4484 : (Jvm.Cond.laysFinal "LetMillModel" "LetMillModel" "hb" "[I") ∈ lw_all := lw_g (lw_at lw_m18 194 rfl) rfl
theorem q4486 : (Jvm.Cond.lays "LetMillModel" "LetMillModel" "heap" "I") ∈ lw_all := lw_g (lw_at lw_m18 196 rfl) rfl
theorem q4488 : (Jvm.Cond.laysFinal "LetMillModel" "LetMillModel" "stack" "[I") ∈ lw_all := lw_g (lw_at lw_m18 198 rfl) rfl
theorem q4490 : (Jvm.Cond.laysFinal "LetMillModel" "LetMillModel" "vals" "[I") ∈ lw_all := lw_g (lw_at lw_m18 200 rfl) rfl
theorem q4492 : (Jvm.Cond.lays "LetMillModel" "LetMillModel" "sp" "I") ∈ lw_all := lw_g (lw_at lw_m18 202 rfl) rfl
theorem q4494 : (Jvm.Cond.lays "LetMillModel" "LetMillModel" "vp" "I") ∈ lw_all := lw_g (lw_at lw_m18 204 rfl) rfl
theorem q4496 : (Jvm.Cond.lays "LetMillModel" "LetMillModel" "cost" "I") ∈ lw_all := lw_g (lw_at lw_m18 206 rfl) rfl
theorem q4498 : (Jvm.Cond.lays "LetMillModel" "LetMillModel" "limit" "I") ∈ lw_all := lw_g (lw_at lw_m18 208 rfl) rfl
theorem q4500 : (Jvm.Cond.lays "LetMillModel" "LetMillModel" "allCost" "I") ∈ lw_all := lw_g (lw_at lw_m18 210 rfl) rfl
theorem q4502 : (Jvm.Cond.lays "LetMillModel" "LetMillModel" "error" "I") ∈ lw_all := lw_g (lw_at lw_m18 212 rfl) rfl
theorem q4504 : (Jvm.Cond.lays "LetMillModel" "LetMillModel" "sessionEnv" "I") ∈ lw_all := lw_g (lw_at lw_m18 214 rfl) rfl
theorem q4506 : (Jvm.Cond.lays "LetMillModel" "LetMillModel" "envNow" "I") ∈ lw_all := lw_g (lw_at lw_m18 216 rfl) rfl
theorem q4508 : (Jvm.Cond.lays "LetMillModel" "LetMillModel" "exp" "I") ∈ lw_all := lw_g (lw_at lw_m18 218 rfl) rfl
theorem q4510 : (Jvm.Cond.lays "LetMillModel" "LetMillModel" "env" "I") ∈ lw_all := lw_g (lw_at lw_m18 220 rfl) rfl
theorem q4512 : (Jvm.Cond.lays "LetMillModel" "LetMillModel" "result" "I") ∈ lw_all := lw_g (lw_at lw_m18 222 rfl) rfl
theorem q4514 : (Jvm.Cond.lays "LetMillModel" "LetMillModel" "returns" "Z") ∈ lw_all := lw_g (lw_at lw_m18 224 rfl) rfl
theorem q4516 : (Jvm.Cond.lays "LetMillModel" "LetMillModel" "done" "Z") ∈ lw_all := lw_g (lw_at lw_m18 226 rfl) rfl
theorem q4518 : (Jvm.Cond.laysFinal "LetMillModel" "LetMillModel" "letters" "[I") ∈ lw_all := lw_g (lw_at lw_m18 228 rfl) rfl
theorem q4520 : (Jvm.Cond.lays "LetMillModel" "LetMillModel" "lettered" "I") ∈ lw_all := lw_g (lw_at lw_m18 230 rfl) rfl
theorem q4522 : (Jvm.Cond.laysFinal "LetMillModel" "LetMillModel" "bText" "[I") ∈ lw_all := lw_g (lw_at lw_m18 232 rfl) rfl
theorem q4524 : (Jvm.Cond.laysFinal "LetMillModel" "LetMillModel" "bType" "[I") ∈ lw_all := lw_g (lw_at lw_m18 234 rfl) rfl
theorem q4526 : (Jvm.Cond.laysFinal "LetMillModel" "LetMillModel" "bId" "[I") ∈ lw_all := lw_g (lw_at lw_m18 236 rfl) rfl
theorem q4528 : (Jvm.Cond.lays "LetMillModel" "LetMillModel" "builtIns" "I") ∈ lw_all := lw_g (lw_at lw_m18 238 rfl) rfl
theorem q4533 : (Jvm.Cond.instanceMethod ({ cls := "LetMillModel", name := "clear", desc := "()V" } : Jvm.MethodName)) ∈ lw_all := lw_g (lw_at lw_m19 3 rfl) rfl
theorem q4534 : (Jvm.Cond.selects "LetMillModel" ({ cls := "LetMillModel", name := "clear", desc := "()V" } : Jvm.MethodName) ({ cls := "LetMillModel", name := "clear", desc := "()V" } : Jvm.MethodName)) ∈ lw_all := lw_g (lw_at lw_m19 4 rfl) rfl
theorem q4535 : (Jvm.Cond.code ({ cls := "LetMillModel", name := "clear", desc := "()V" } : Jvm.MethodName) prog_60_method_156_code (1 : Nat) (Option.none : Option Jvm.ClassFile.FieldType)) ∈ lw_all := lw_g (lw_at lw_m19 5 rfl) rfl
theorem q4537 : (Jvm.Cond.instanceMethod ({ cls := "LetMillModel", name := "count", desc := "(I)I" } : Jvm.MethodName)) ∈ lw_all := lw_g (lw_at lw_m19 7 rfl) rfl
theorem q4538 : (Jvm.Cond.selects "LetMillModel" ({ cls := "LetMillModel", name := "count", desc := "(I)I" } : Jvm.MethodName) ({ cls := "LetMillModel", name := "count", desc := "(I)I" } : Jvm.MethodName)) ∈ lw_all := lw_g (lw_at lw_m19 8 rfl) rfl
theorem q4539 : (Jvm.Cond.code ({ cls := "LetMillModel", name := "count", desc := "(I)I" } : Jvm.MethodName) prog_60_method_157_code (2 : Nat) (Option.some Jvm.ClassFile.FieldType.int)) ∈ lw_all := lw_g (lw_at lw_m19 9 rfl) rfl
def RJ4 : String := "java/lang/Throwable"
abbrev cJ4_init : ByteArray := prog_71_method_1_code
def yJ4_init : MethodName := ⟨RJ4, "<init>", "()V"⟩
theorem q230 : (Jvm.Cond.initialized "java/lang/Throwable") ∈ lw_all := lw_g (lw_at lw_m1 20 rfl) rfl
theorem q1054 : (Jvm.Cond.declares ({ cls := "java/lang/Throwable", name := "<init>", desc := "()V" } : Jvm.MethodName)) ∈ lw_tbl := lw_at lw_m4 124 rfl
theorem q1055 : (Jvm.Cond.declares ({ cls := "java/lang/Throwable", name := "<init>", desc := "(Ljava/lang/String;)V" } : Jvm.MethodName)) ∈ lw_tbl := lw_at lw_m4 125 rfl
theorem q1059 : (Jvm.Cond.lays "java/lang/Throwable" "java/lang/Throwable" "cause" "Ljava/lang/Throwable;") ∈ lw_all := lw_g (lw_at lw_m4 129 rfl) rfl
theorem q1061 : (Jvm.Cond.lays "java/lang/Throwable" "java/lang/Throwable" "stackTrace" "[Ljava/lang/StackTraceElement;") ∈ lw_all := lw_g (lw_at lw_m4 131 rfl) rfl
theorem q1063 : (Jvm.Cond.lays "java/lang/Throwable" "java/lang/Throwable" "suppressedExceptions" "Ljava/util/List;") ∈ lw_all := lw_g (lw_at lw_m4 133 rfl) rfl
theorem q1065 : (Jvm.Cond.lays "java/lang/Throwable" "java/lang/Throwable" "detailMessage" "Ljava/lang/String;") ∈ lw_all := lw_g (lw_at lw_m4 135 rfl) rfl
theorem q1067 : (Jvm.Cond.lays "java/lang/Throwable" "java/lang/Throwable" "backtrace" "Ljava/lang/Object;") ∈ lw_all := lw_g (lw_at lw_m4 137 rfl) rfl
theorem q1068 : (Jvm.Cond.fieldLink "java/lang/Throwable" (198 : Nat) "java/lang/Throwable" "backtrace" "Ljava/lang/Object;") ∈ lw_all := lw_g (lw_at lw_m4 138 rfl) rfl
theorem q1070 : (Jvm.Cond.instanceMethod ({ cls := "java/lang/Throwable", name := "<init>", desc := "()V" } : Jvm.MethodName)) ∈ lw_all := lw_g (lw_at lw_m4 140 rfl) rfl
theorem q1071 : (Jvm.Cond.code ({ cls := "java/lang/Throwable", name := "<init>", desc := "()V" } : Jvm.MethodName) prog_71_method_1_code (1 : Nat) (Option.none : Option Jvm.ClassFile.FieldType)) ∈ lw_all := lw_g (lw_at lw_m4 141 rfl) rfl
theorem q1072 : (Jvm.Cond.methodLink "java/lang/Throwable" (1 : Nat) ({ cls := "java/lang/Object", name := "<init>", desc := "()V" } : Jvm.MethodName)) ∈ lw_all := lw_g (lw_at lw_m4 142 rfl) rfl
theorem q1073 : (Jvm.Cond.fieldLink "java/lang/Throwable" (13 : Nat) "java/lang/Throwable" "UNASSIGNED_STACK" "[Ljava/lang/StackTraceElement;") ∈ lw_all := lw_g (lw_at lw_m4 143 rfl) rfl
theorem q1075 : (Jvm.Cond.fieldLink "java/lang/Throwable" (20 : Nat) "java/lang/Throwable" "SUPPRESSED_SENTINEL" "Ljava/util/List;") ∈ lw_all := lw_g (lw_at lw_m4 145 rfl) rfl
theorem q1077 : (Jvm.Cond.methodLink "java/lang/Throwable" (27 : Nat) ({ cls := "java/lang/Throwable", name := "fillInStackTrace", desc := "()Ljava/lang/Throwable;" } : Jvm.MethodName)) ∈ lw_all := lw_g (lw_at lw_m4 147 rfl) rfl
theorem q1078 : (Jvm.Cond.instanceMethod ({ cls := "java/lang/Throwable", name := "fillInStackTrace", desc := "()Ljava/lang/Throwable;" } : Jvm.MethodName)) ∈ lw_all := lw_g (lw_at lw_m4 148 rfl) rfl
theorem q1079 : (Jvm.Cond.sameMethod "java/lang/Throwable" "java/lang/Throwable" "fillInStackTrace" "()Ljava/lang/Throwable;") ∈ lw_all := lw_g (lw_at lw_m4 149 rfl) rfl
theorem q1085 : (Jvm.Cond.methodLink "java/lang/Throwable" (202 : Nat) ({ cls := "java/lang/Throwable", name := "fillInStackTrace", desc := "(I)Ljava/lang/Throwable;" } : Jvm.MethodName)) ∈ lw_all := lw_g (lw_at lw_m4 155 rfl) rfl
theorem q1087 : (Jvm.Cond.instanceMethod ({ cls := "java/lang/Throwable", name := "fillInStackTrace", desc := "(I)Ljava/lang/Throwable;" } : Jvm.MethodName)) ∈ lw_all := lw_g (lw_at lw_m4 157 rfl) rfl
theorem q1088 : (Jvm.Cond.instantiable "java/lang/Throwable" (6 : Nat)) ∈ lw_all := lw_g (lw_at lw_m4 158 rfl) rfl
theorem q1100 : (Jvm.Cond.fieldLink "java/lang/Throwable" (198 : Nat) "java/lang/Throwable" "backtrace" "Ljava/lang/Object;") ∈ lw_all := lw_g (lw_at lw_m4 170 rfl) rfl
theorem q1101 : (Jvm.Cond.fieldLink "java/lang/Throwable" (7 : Nat) "java/lang/Throwable" "cause" "Ljava/lang/Throwable;") ∈ lw_all := lw_g (lw_at lw_m4 171 rfl) rfl
theorem q1102 : (Jvm.Cond.fieldLink "java/lang/Throwable" (17 : Nat) "java/lang/Throwable" "stackTrace" "[Ljava/lang/StackTraceElement;") ∈ lw_all := lw_g (lw_at lw_m4 172 rfl) rfl
theorem q1103 : (Jvm.Cond.fieldLink "java/lang/Throwable" (24 : Nat) "java/lang/Throwable" "suppressedExceptions" "Ljava/util/List;") ∈ lw_all := lw_g (lw_at lw_m4 173 rfl) rfl
theorem q4540 : (Jvm.Cond.sameMethod "java/lang/Throwable" "java/lang/Throwable" "fillInStackTrace" "(I)Ljava/lang/Throwable;") ∈ lw_all := lw_g (lw_at lw_m19 10 rfl) rfl
def RJ5 : String := "java/lang/Exception"
abbrev cJ5_init : ByteArray := prog_62_method_1_code
def yJ5_init : MethodName := ⟨RJ5, "<init>", "()V"⟩
theorem q231 : (Jvm.Cond.initialized "java/lang/Exception") ∈ lw_all := lw_g (lw_at lw_m1 21 rfl) rfl
theorem q1052 : (Jvm.Cond.declares ({ cls := "java/lang/Exception", name := "<init>", desc := "()V" } : Jvm.MethodName)) ∈ lw_tbl := lw_at lw_m4 122 rfl
theorem q1053 : (Jvm.Cond.declares ({ cls := "java/lang/Exception", name := "<init>", desc := "(Ljava/lang/String;)V" } : Jvm.MethodName)) ∈ lw_tbl := lw_at lw_m4 123 rfl
theorem q1097 : (Jvm.Cond.instanceMethod ({ cls := "java/lang/Exception", name := "<init>", desc := "()V" } : Jvm.MethodName)) ∈ lw_all := lw_g (lw_at lw_m4 167 rfl) rfl
theorem q1098 : (Jvm.Cond.code ({ cls := "java/lang/Exception", name := "<init>", desc := "()V" } : Jvm.MethodName) prog_62_method_1_code (1 : Nat) (Option.none : Option Jvm.ClassFile.FieldType)) ∈ lw_all := lw_g (lw_at lw_m4 168 rfl) rfl
theorem q1099 : (Jvm.Cond.methodLink "java/lang/Exception" (1 : Nat) ({ cls := "java/lang/Throwable", name := "<init>", desc := "()V" } : Jvm.MethodName)) ∈ lw_all := lw_g (lw_at lw_m4 169 rfl) rfl
def RJ6 : String := "java/lang/RuntimeException"
abbrev cJ6_init : ByteArray := prog_67_method_1_code
def yJ6_init : MethodName := ⟨RJ6, "<init>", "()V"⟩
theorem q232 : (Jvm.Cond.initialized "java/lang/RuntimeException") ∈ lw_all := lw_g (lw_at lw_m1 22 rfl) rfl
theorem q1050 : (Jvm.Cond.declares ({ cls := "java/lang/RuntimeException", name := "<init>", desc := "()V" } : Jvm.MethodName)) ∈ lw_tbl := lw_at lw_m4 120 rfl
theorem q1051 : (Jvm.Cond.declares ({ cls := "java/lang/RuntimeException", name := "<init>", desc := "(Ljava/lang/String;)V" } : Jvm.MethodName)) ∈ lw_tbl := lw_at lw_m4 121 rfl
theorem q1094 : (Jvm.Cond.instanceMethod ({ cls := "java/lang/RuntimeException", name := "<init>", desc := "()V" } : Jvm.MethodName)) ∈ lw_all := lw_g (lw_at lw_m4 164 rfl) rfl
theorem q1095 : (Jvm.Cond.code ({ cls := "java/lang/RuntimeException", name := "<init>", desc := "()V" } : Jvm.MethodName) prog_67_method_1_code (1 : Nat) (Option.none : Option Jvm.ClassFile.FieldType)) ∈ lw_all := lw_g (lw_at lw_m4 165 rfl) rfl
theorem q1096 : (Jvm.Cond.methodLink "java/lang/RuntimeException" (1 : Nat) ({ cls := "java/lang/Exception", name := "<init>", desc := "()V" } : Jvm.MethodName)) ∈ lw_all := lw_g (lw_at lw_m4 166 rfl) rfl
def RJ7 : String := "java/lang/IndexOutOfBoundsException"
abbrev cJ7_init : ByteArray := prog_65_method_1_code
def yJ7_init : MethodName := ⟨RJ7, "<init>", "()V"⟩
theorem q233 : (Jvm.Cond.initialized "java/lang/IndexOutOfBoundsException") ∈ lw_all := lw_g (lw_at lw_m1 23 rfl) rfl
theorem q1048 : (Jvm.Cond.instantiable "java/lang/IndexOutOfBoundsException" (6 : Nat)) ∈ lw_all := lw_g (lw_at lw_m4 118 rfl) rfl
theorem q1049 : (Jvm.Cond.castable "java/lang/IndexOutOfBoundsException" "java/lang/IndexOutOfBoundsException") ∈ lw_tbl := lw_at lw_m4 119 rfl
theorem q1056 : (Jvm.Cond.selects "java/lang/IndexOutOfBoundsException" ({ cls := "java/lang/Throwable", name := "fillInStackTrace", desc := "(I)Ljava/lang/Throwable;" } : Jvm.MethodName) ({ cls := "java/lang/Throwable", name := "fillInStackTrace", desc := "(I)Ljava/lang/Throwable;" } : Jvm.MethodName)) ∈ lw_all := lw_g (lw_at lw_m4 126 rfl) rfl
theorem q1057 : (Jvm.Cond.selects "java/lang/IndexOutOfBoundsException" ({ cls := "java/lang/Throwable", name := "fillInStackTrace", desc := "()Ljava/lang/Throwable;" } : Jvm.MethodName) ({ cls := "java/lang/Throwable", name := "fillInStackTrace", desc := "()Ljava/lang/Throwable;" } : Jvm.MethodName)) ∈ lw_all := lw_g (lw_at lw_m4 127 rfl) rfl
theorem q1058 : (Jvm.Cond.lays "java/lang/IndexOutOfBoundsException" "java/lang/Throwable" "cause" "Ljava/lang/Throwable;") ∈ lw_all := lw_g (lw_at lw_m4 128 rfl) rfl
theorem q1060 : (Jvm.Cond.lays "java/lang/IndexOutOfBoundsException" "java/lang/Throwable" "stackTrace" "[Ljava/lang/StackTraceElement;") ∈ lw_all := lw_g (lw_at lw_m4 130 rfl) rfl
theorem q1062 : (Jvm.Cond.lays "java/lang/IndexOutOfBoundsException" "java/lang/Throwable" "suppressedExceptions" "Ljava/util/List;") ∈ lw_all := lw_g (lw_at lw_m4 132 rfl) rfl
theorem q1064 : (Jvm.Cond.lays "java/lang/IndexOutOfBoundsException" "java/lang/Throwable" "detailMessage" "Ljava/lang/String;") ∈ lw_all := lw_g (lw_at lw_m4 134 rfl) rfl
theorem q1066 : (Jvm.Cond.lays "java/lang/IndexOutOfBoundsException" "java/lang/Throwable" "backtrace" "Ljava/lang/Object;") ∈ lw_all := lw_g (lw_at lw_m4 136 rfl) rfl
theorem q1091 : (Jvm.Cond.instanceMethod ({ cls := "java/lang/IndexOutOfBoundsException", name := "<init>", desc := "()V" } : Jvm.MethodName)) ∈ lw_all := lw_g (lw_at lw_m4 161 rfl) rfl
theorem q1092 : (Jvm.Cond.code ({ cls := "java/lang/IndexOutOfBoundsException", name := "<init>", desc := "()V" } : Jvm.MethodName) prog_65_method_1_code (1 : Nat) (Option.none : Option Jvm.ClassFile.FieldType)) ∈ lw_all := lw_g (lw_at lw_m4 162 rfl) rfl
theorem q1093 : (Jvm.Cond.methodLink "java/lang/IndexOutOfBoundsException" (1 : Nat) ({ cls := "java/lang/RuntimeException", name := "<init>", desc := "()V" } : Jvm.MethodName)) ∈ lw_all := lw_g (lw_at lw_m4 163 rfl) rfl
theorem q1108 : (Jvm.Cond.lays "java/lang/IndexOutOfBoundsException" "java/lang/Throwable" "depth" "I") ∈ lw_all := lw_g (lw_at lw_m4 178 rfl) rfl
def RJ8 : String := "java/lang/IllegalArgumentException"
abbrev cJ8_init : ByteArray := prog_63_method_1_code
def yJ8_init : MethodName := ⟨RJ8, "<init>", "()V"⟩
theorem q234 : (Jvm.Cond.initialized "java/lang/IllegalArgumentException") ∈ lw_all := lw_g (lw_at lw_m1 24 rfl) rfl
theorem q1081 : (Jvm.Cond.selects "java/lang/IllegalArgumentException" ({ cls := "java/lang/Throwable", name := "fillInStackTrace", desc := "()Ljava/lang/Throwable;" } : Jvm.MethodName) ({ cls := "java/lang/Throwable", name := "fillInStackTrace", desc := "()Ljava/lang/Throwable;" } : Jvm.MethodName)) ∈ lw_all := lw_g (lw_at lw_m4 151 rfl) rfl
theorem q1128 : (Jvm.Cond.instantiable "java/lang/IllegalArgumentException" (6 : Nat)) ∈ lw_all := lw_g (lw_at lw_m4 198 rfl) rfl
theorem q1129 : (Jvm.Cond.castable "java/lang/IllegalArgumentException" "java/lang/IllegalArgumentException") ∈ lw_tbl := lw_at lw_m4 199 rfl
theorem q1130 : (Jvm.Cond.selects "java/lang/IllegalArgumentException" ({ cls := "java/lang/Throwable", name := "fillInStackTrace", desc := "(I)Ljava/lang/Throwable;" } : Jvm.MethodName) ({ cls := "java/lang/Throwable", name := "fillInStackTrace", desc := "(I)Ljava/lang/Throwable;" } : Jvm.MethodName)) ∈ lw_all := lw_g (lw_at lw_m4 200 rfl) rfl
theorem q1131 : (Jvm.Cond.lays "java/lang/IllegalArgumentException" "java/lang/Throwable" "cause" "Ljava/lang/Throwable;") ∈ lw_all := lw_g (lw_at lw_m4 201 rfl) rfl
theorem q1132 : (Jvm.Cond.lays "java/lang/IllegalArgumentException" "java/lang/Throwable" "stackTrace" "[Ljava/lang/StackTraceElement;") ∈ lw_all := lw_g (lw_at lw_m4 202 rfl) rfl
theorem q1133 : (Jvm.Cond.lays "java/lang/IllegalArgumentException" "java/lang/Throwable" "suppressedExceptions" "Ljava/util/List;") ∈ lw_all := lw_g (lw_at lw_m4 203 rfl) rfl
theorem q1134 : (Jvm.Cond.lays "java/lang/IllegalArgumentException" "java/lang/Throwable" "detailMessage" "Ljava/lang/String;") ∈ lw_all := lw_g (lw_at lw_m4 204 rfl) rfl
theorem q1135 : (Jvm.Cond.lays "java/lang/IllegalArgumentException" "java/lang/Throwable" "backtrace" "Ljava/lang/Object;") ∈ lw_all := lw_g (lw_at lw_m4 205 rfl) rfl
theorem q1137 : (Jvm.Cond.instanceMethod ({ cls := "java/lang/IllegalArgumentException", name := "<init>", desc := "()V" } : Jvm.MethodName)) ∈ lw_all := lw_g (lw_at lw_m4 207 rfl) rfl
theorem q1138 : (Jvm.Cond.code ({ cls := "java/lang/IllegalArgumentException", name := "<init>", desc := "()V" } : Jvm.MethodName) prog_63_method_1_code (1 : Nat) (Option.none : Option Jvm.ClassFile.FieldType)) ∈ lw_all := lw_g (lw_at lw_m4 208 rfl) rfl
theorem q1139 : (Jvm.Cond.methodLink "java/lang/IllegalArgumentException" (1 : Nat) ({ cls := "java/lang/RuntimeException", name := "<init>", desc := "()V" } : Jvm.MethodName)) ∈ lw_all := lw_g (lw_at lw_m4 209 rfl) rfl
theorem q1140 : (Jvm.Cond.lays "java/lang/IllegalArgumentException" "java/lang/Throwable" "depth" "I") ∈ lw_all := lw_g (lw_at lw_m4 210 rfl) rfl
def RJ9 : String := "java/lang/Math"
abbrev cJ9_min : ByteArray := prog_66_method_70_code
def yJ9_min : MethodName := ⟨RJ9, "min", "(JJ)J"⟩
abbrev cJ9_max : ByteArray := prog_66_method_65_code
def yJ9_max : MethodName := ⟨RJ9, "max", "(II)I"⟩
abbrev cJ9_min_2 : ByteArray := prog_66_method_69_code
def yJ9_min_2 : MethodName := ⟨RJ9, "min", "(II)I"⟩
abbrev cJ9_floorDiv : ByteArray := prog_66_method_47_code
def yJ9_floorDiv : MethodName := ⟨RJ9, "floorDiv", "(II)I"⟩
abbrev cJ9_floorMod : ByteArray := prog_66_method_50_code
def yJ9_floorMod : MethodName := ⟨RJ9, "floorMod", "(II)I"⟩
abbrev cJ9_abs : ByteArray := prog_66_method_61_code
def yJ9_abs : MethodName := ⟨RJ9, "abs", "(J)J"⟩
theorem q235 : (Jvm.Cond.initialized "java/lang/Math") ∈ lw_all := lw_g (lw_at lw_m1 25 rfl) rfl
theorem q1194 : (Jvm.Cond.static ({ cls := "java/lang/Math", name := "min", desc := "(JJ)J" } : Jvm.MethodName)) ∈ lw_all := lw_g (lw_at lw_m5 24 rfl) rfl
theorem q1195 : (Jvm.Cond.code ({ cls := "java/lang/Math", name := "min", desc := "(JJ)J" } : Jvm.MethodName) prog_66_method_70_code (4 : Nat) (Option.some Jvm.ClassFile.FieldType.long)) ∈ lw_all := lw_g (lw_at lw_m5 25 rfl) rfl
theorem q1218 : (Jvm.Cond.static ({ cls := "java/lang/Math", name := "max", desc := "(II)I" } : Jvm.MethodName)) ∈ lw_all := lw_g (lw_at lw_m5 48 rfl) rfl
theorem q1219 : (Jvm.Cond.code ({ cls := "java/lang/Math", name := "max", desc := "(II)I" } : Jvm.MethodName) prog_66_method_65_code (2 : Nat) (Option.some Jvm.ClassFile.FieldType.int)) ∈ lw_all := lw_g (lw_at lw_m5 49 rfl) rfl
theorem q1221 : (Jvm.Cond.static ({ cls := "java/lang/Math", name := "min", desc := "(II)I" } : Jvm.MethodName)) ∈ lw_all := lw_g (lw_at lw_m5 51 rfl) rfl
theorem q1222 : (Jvm.Cond.code ({ cls := "java/lang/Math", name := "min", desc := "(II)I" } : Jvm.MethodName) prog_66_method_69_code (2 : Nat) (Option.some Jvm.ClassFile.FieldType.int)) ∈ lw_all := lw_g (lw_at lw_m5 52 rfl) rfl
theorem q3219 : (Jvm.Cond.static ({ cls := "java/lang/Math", name := "floorDiv", desc := "(II)I" } : Jvm.MethodName)) ∈ lw_all := lw_g (lw_at lw_m13 129 rfl) rfl
theorem q3220 : (Jvm.Cond.code ({ cls := "java/lang/Math", name := "floorDiv", desc := "(II)I" } : Jvm.MethodName) prog_66_method_47_code (3 : Nat) (Option.some Jvm.ClassFile.FieldType.int)) ∈ lw_all := lw_g (lw_at lw_m13 130 rfl) rfl
theorem q3222 : (Jvm.Cond.static ({ cls := "java/lang/Math", name := "floorMod", desc := "(II)I" } : Jvm.MethodName)) ∈ lw_all := lw_g (lw_at lw_m13 132 rfl) rfl
theorem q3223 : (Jvm.Cond.code ({ cls := "java/lang/Math", name := "floorMod", desc := "(II)I" } : Jvm.MethodName) prog_66_method_50_code (3 : Nat) (Option.some Jvm.ClassFile.FieldType.int)) ∈ lw_all := lw_g (lw_at lw_m13 133 rfl) rfl
theorem q3381 : (Jvm.Cond.static ({ cls := "java/lang/Math", name := "abs", desc := "(J)J" } : Jvm.MethodName)) ∈ lw_all := lw_g (lw_at lw_m14 51 rfl) rfl
theorem q3382 : (Jvm.Cond.code ({ cls := "java/lang/Math", name := "abs", desc := "(J)J" } : Jvm.MethodName) prog_66_method_61_code (2 : Nat) (Option.some Jvm.ClassFile.FieldType.long)) ∈ lw_all := lw_g (lw_at lw_m14 52 rfl) rfl
def RJ10 : String := "java/lang/Character"
abbrev cJ10_isValidCodePoint : ByteArray := prog_61_method_11_code
def yJ10_isValidCodePoint : MethodName := ⟨RJ10, "isValidCodePoint", "(I)Z"⟩
abbrev cJ10_highSurrogate : ByteArray := prog_61_method_28_code
def yJ10_highSurrogate : MethodName := ⟨RJ10, "highSurrogate", "(I)C"⟩
abbrev cJ10_lowSurrogate : ByteArray := prog_61_method_29_code
def yJ10_lowSurrogate : MethodName := ⟨RJ10, "lowSurrogate", "(I)C"⟩
theorem q236 : (Jvm.Cond.initialized "java/lang/Character") ∈ lw_all := lw_g (lw_at lw_m1 26 rfl) rfl
theorem q1251 : (Jvm.Cond.static ({ cls := "java/lang/Character", name := "isValidCodePoint", desc := "(I)Z" } : Jvm.MethodName)) ∈ lw_all := lw_g (lw_at lw_m5 81 rfl) rfl
theorem q1252 : (Jvm.Cond.code ({ cls := "java/lang/Character", name := "isValidCodePoint", desc := "(I)Z" } : Jvm.MethodName) prog_61_method_11_code (2 : Nat) (Option.some Jvm.ClassFile.FieldType.boolean)) ∈ lw_all := lw_g (lw_at lw_m5 82 rfl) rfl
theorem q1254 : (Jvm.Cond.static ({ cls := "java/lang/Character", name := "highSurrogate", desc := "(I)C" } : Jvm.MethodName)) ∈ lw_all := lw_g (lw_at lw_m5 84 rfl) rfl
theorem q1255 : (Jvm.Cond.code ({ cls := "java/lang/Character", name := "highSurrogate", desc := "(I)C" } : Jvm.MethodName) prog_61_method_28_code (1 : Nat) (Option.some Jvm.ClassFile.FieldType.char)) ∈ lw_all := lw_g (lw_at lw_m5 85 rfl) rfl
theorem q1256 : (Jvm.Cond.constant "java/lang/Character" (110 : Nat) (55232 : Int32)) ∈ lw_all := lw_g (lw_at lw_m5 86 rfl) rfl
theorem q1258 : (Jvm.Cond.static ({ cls := "java/lang/Character", name := "lowSurrogate", desc := "(I)C" } : Jvm.MethodName)) ∈ lw_all := lw_g (lw_at lw_m5 88 rfl) rfl
theorem q1259 : (Jvm.Cond.code ({ cls := "java/lang/Character", name := "lowSurrogate", desc := "(I)C" } : Jvm.MethodName) prog_61_method_29_code (1 : Nat) (Option.some Jvm.ClassFile.FieldType.char)) ∈ lw_all := lw_g (lw_at lw_m5 89 rfl) rfl
theorem q1260 : (Jvm.Cond.constant "java/lang/Character" (76 : Nat) (56320 : Int32)) ∈ lw_all := lw_g (lw_at lw_m5 90 rfl) rfl
def RX16 : String := "LetMill$Exp"
abbrev cX16_init : ByteArray := prog_16_method_1_code
def yX16_init : MethodName := ⟨RX16, "<init>", "(I)V"⟩
abbrev cX16_isCon : ByteArray := prog_16_method_7_code
def yX16_isCon : MethodName := ⟨RX16, "isCon", "()Z"⟩
abbrev cX16_isStill : ByteArray := prog_16_method_6_code
def yX16_isStill : MethodName := ⟨RX16, "isStill", "()Z"⟩
abbrev cX16_resume : ByteArray := prog_16_method_5_code
def yX16_resume : MethodName := ⟨RX16, "resume", "(LLetMill$Machine;III)V"⟩
theorem q237 : (Jvm.Cond.initialized "LetMill$Exp") ∈ lw_all := lw_g (lw_at lw_m1 27 rfl) rfl
theorem q1521 : (Jvm.Cond.instanceMethod ({ cls := "LetMill$Exp", name := "<init>", desc := "(I)V" } : Jvm.MethodName)) ∈ lw_all := lw_g (lw_at lw_m6 111 rfl) rfl
theorem q1522 : (Jvm.Cond.code ({ cls := "LetMill$Exp", name := "<init>", desc := "(I)V" } : Jvm.MethodName) prog_16_method_1_code (2 : Nat) (Option.none : Option Jvm.ClassFile.FieldType)) ∈ lw_all := lw_g (lw_at lw_m6 112 rfl) rfl
theorem q1523 : (Jvm.Cond.methodLink "LetMill$Exp" (1 : Nat) ({ cls := "java/lang/Object", name := "<init>", desc := "()V" } : Jvm.MethodName)) ∈ lw_all := lw_g (lw_at lw_m6 113 rfl) rfl
theorem q1526 : (Jvm.Cond.fieldLink "LetMill$Exp" (13 : Nat) "LetMill$Exp" "token" "I") ∈ lw_all := lw_g (lw_at lw_m6 116 rfl) rfl
theorem q1545 : (Jvm.Cond.fieldLink "LetMill$Exp" (7 : Nat) "LetMill$Exp" "id" "I") ∈ lw_all := lw_g (lw_at lw_m6 135 rfl) rfl
theorem q2250 : (Jvm.Cond.declares ({ cls := "LetMill$Exp", name := "resolve", desc := "(LLetMill$Scope;)V" } : Jvm.MethodName)) ∈ lw_tbl := lw_at lw_m9 120 rfl
theorem q2251 : (Jvm.Cond.sameMethod "LetMill$Exp" "LetMill$Exp" "resolve" "(LLetMill$Scope;)V") ∈ lw_all := lw_g (lw_at lw_m9 121 rfl) rfl
theorem q2511 : (Jvm.Cond.declares ({ cls := "LetMill$Exp", name := "infer", desc := "(LLetMill$Typer;)I" } : Jvm.MethodName)) ∈ lw_tbl := lw_at lw_m10 141 rfl
theorem q2512 : (Jvm.Cond.sameMethod "LetMill$Exp" "LetMill$Exp" "infer" "(LLetMill$Typer;)I") ∈ lw_all := lw_g (lw_at lw_m10 142 rfl) rfl
theorem q2681 : (Jvm.Cond.instanceMethod ({ cls := "LetMill$Exp", name := "isStill", desc := "()Z" } : Jvm.MethodName)) ∈ lw_all := lw_g (lw_at lw_m11 71 rfl) rfl
theorem q2682 : (Jvm.Cond.sameMethod "LetMill$Exp" "LetMill$Exp" "isStill" "()Z") ∈ lw_all := lw_g (lw_at lw_m11 72 rfl) rfl
theorem q2687 : (Jvm.Cond.instanceMethod ({ cls := "LetMill$Exp", name := "isCon", desc := "()Z" } : Jvm.MethodName)) ∈ lw_all := lw_g (lw_at lw_m11 77 rfl) rfl
theorem q2688 : (Jvm.Cond.sameMethod "LetMill$Exp" "LetMill$Exp" "isCon" "()Z") ∈ lw_all := lw_g (lw_at lw_m11 78 rfl) rfl
theorem q2706 : (Jvm.Cond.code ({ cls := "LetMill$Exp", name := "isCon", desc := "()Z" } : Jvm.MethodName) prog_16_method_7_code (1 : Nat) (Option.some Jvm.ClassFile.FieldType.boolean)) ∈ lw_all := lw_g (lw_at lw_m11 96 rfl) rfl
theorem q2740 : (Jvm.Cond.code ({ cls := "LetMill$Exp", name := "isStill", desc := "()Z" } : Jvm.MethodName) prog_16_method_6_code (1 : Nat) (Option.some Jvm.ClassFile.FieldType.boolean)) ∈ lw_all := lw_g (lw_at lw_m11 130 rfl) rfl
theorem q2885 : (Jvm.Cond.declares ({ cls := "LetMill$Exp", name := "begin", desc := "(LLetMill$Machine;I)V" } : Jvm.MethodName)) ∈ lw_tbl := lw_at lw_m12 35 rfl
theorem q2886 : (Jvm.Cond.sameMethod "LetMill$Exp" "LetMill$Exp" "begin" "(LLetMill$Machine;I)V") ∈ lw_all := lw_g (lw_at lw_m12 36 rfl) rfl
theorem q3053 : (Jvm.Cond.instanceMethod ({ cls := "LetMill$Exp", name := "resume", desc := "(LLetMill$Machine;III)V" } : Jvm.MethodName)) ∈ lw_all := lw_g (lw_at lw_m12 203 rfl) rfl
theorem q3054 : (Jvm.Cond.sameMethod "LetMill$Exp" "LetMill$Exp" "resume" "(LLetMill$Machine;III)V") ∈ lw_all := lw_g (lw_at lw_m12 204 rfl) rfl
theorem q3287 : (Jvm.Cond.code ({ cls := "LetMill$Exp", name := "resume", desc := "(LLetMill$Machine;III)V" } : Jvm.MethodName) prog_16_method_5_code (5 : Nat) (Option.none : Option Jvm.ClassFile.FieldType)) ∈ lw_all := lw_g (lw_at lw_m13 197 rfl) rfl
def RX17 : String := "LetMill$Let"
abbrev cX17_init : ByteArray := prog_25_method_1_code
def yX17_init : MethodName := ⟨RX17, "<init>", "(ILLetMill$Row;LLetMill$Exp;)V"⟩
abbrev cX17_resolve : ByteArray := prog_25_method_2_code
def yX17_resolve : MethodName := ⟨RX17, "resolve", "(LLetMill$Scope;)V"⟩
abbrev cX17_infer : ByteArray := prog_25_method_3_code
def yX17_infer : MethodName := ⟨RX17, "infer", "(LLetMill$Typer;)I"⟩
abbrev cX17_begin : ByteArray := prog_25_method_4_code
def yX17_begin : MethodName := ⟨RX17, "begin", "(LLetMill$Machine;I)V"⟩
abbrev cX17_go : ByteArray := prog_25_method_6_code
def yX17_go : MethodName := ⟨RX17, "go", "(LLetMill$Machine;II)V"⟩
abbrev cX17_resume : ByteArray := prog_25_method_5_code
def yX17_resume : MethodName := ⟨RX17, "resume", "(LLetMill$Machine;III)V"⟩
theorem q238 : (Jvm.Cond.initialized "LetMill$Let") ∈ lw_all := lw_g (lw_at lw_m1 28 rfl) rfl
theorem q505 : (Jvm.Cond.fieldLink "LetMill$Let" (62 : Nat) "LetMill$Types" "unit" "I") ∈ lw_all := lw_g (lw_at lw_m2 55 rfl) rfl
theorem q572 : (Jvm.Cond.fieldLink "LetMill$Let" (30 : Nat) "LetMill$Row" "many" "I") ∈ lw_all := lw_g (lw_at lw_m2 122 rfl) rfl
theorem q687 : (Jvm.Cond.fieldLink "LetMill$Let" (17 : Nat) "LetMill$Scope" "many" "I") ∈ lw_all := lw_g (lw_at lw_m2 237 rfl) rfl
theorem q816 : (Jvm.Cond.fieldLink "LetMill$Let" (58 : Nat) "LetMill$Typer" "types" "LLetMill$Types;") ∈ lw_all := lw_g (lw_at lw_m3 126 rfl) rfl
theorem q835 : (Jvm.Cond.fieldLink "LetMill$Let" (51 : Nat) "LetMill$Typer" "many" "I") ∈ lw_all := lw_g (lw_at lw_m3 145 rfl) rfl
theorem q1270 : (Jvm.Cond.instantiable "LetMill$Let" (4 : Nat)) ∈ lw_all := lw_g (lw_at lw_m5 100 rfl) rfl
theorem q1728 : (Jvm.Cond.instanceMethod ({ cls := "LetMill$Let", name := "<init>", desc := "(ILLetMill$Row;LLetMill$Exp;)V" } : Jvm.MethodName)) ∈ lw_all := lw_g (lw_at lw_m7 78 rfl) rfl
theorem q1729 : (Jvm.Cond.code ({ cls := "LetMill$Let", name := "<init>", desc := "(ILLetMill$Row;LLetMill$Exp;)V" } : Jvm.MethodName) prog_25_method_1_code (4 : Nat) (Option.none : Option Jvm.ClassFile.FieldType)) ∈ lw_all := lw_g (lw_at lw_m7 79 rfl) rfl
theorem q1730 : (Jvm.Cond.methodLink "LetMill$Let" (1 : Nat) ({ cls := "LetMill$Exp", name := "<init>", desc := "(I)V" } : Jvm.MethodName)) ∈ lw_all := lw_g (lw_at lw_m7 80 rfl) rfl
theorem q1731 : (Jvm.Cond.fieldLink "LetMill$Let" (7 : Nat) "LetMill$Let" "decs" "LLetMill$Row;") ∈ lw_all := lw_g (lw_at lw_m7 81 rfl) rfl
theorem q1733 : (Jvm.Cond.fieldLink "LetMill$Let" (13 : Nat) "LetMill$Let" "body" "LLetMill$Exp;") ∈ lw_all := lw_g (lw_at lw_m7 83 rfl) rfl
theorem q1734 : (Jvm.Cond.laysFinal "LetMill$Let" "LetMill$Let" "decs" "LLetMill$Row;") ∈ lw_all := lw_g (lw_at lw_m7 84 rfl) rfl
theorem q1736 : (Jvm.Cond.laysFinal "LetMill$Let" "LetMill$Let" "body" "LLetMill$Exp;") ∈ lw_all := lw_g (lw_at lw_m7 86 rfl) rfl
theorem q1738 : (Jvm.Cond.laysFinal "LetMill$Let" "LetMill$Exp" "token" "I") ∈ lw_all := lw_g (lw_at lw_m7 88 rfl) rfl
theorem q1739 : (Jvm.Cond.lays "LetMill$Let" "LetMill$Exp" "id" "I") ∈ lw_all := lw_g (lw_at lw_m7 89 rfl) rfl
theorem q1824 : (Jvm.Cond.fieldLink "LetMill$Let" (82 : Nat) "LetMill$Val" "pat" "LLetMill$Pat;") ∈ lw_all := lw_g (lw_at lw_m7 174 rfl) rfl
theorem q2025 : (Jvm.Cond.instanceMethod ({ cls := "LetMill$Let", name := "resolve", desc := "(LLetMill$Scope;)V" } : Jvm.MethodName)) ∈ lw_all := lw_g (lw_at lw_m8 135 rfl) rfl
theorem q2026 : (Jvm.Cond.selects "LetMill$Let" ({ cls := "LetMill$Let", name := "resolve", desc := "(LLetMill$Scope;)V" } : Jvm.MethodName) ({ cls := "LetMill$Let", name := "resolve", desc := "(LLetMill$Scope;)V" } : Jvm.MethodName)) ∈ lw_all := lw_g (lw_at lw_m8 136 rfl) rfl
theorem q2027 : (Jvm.Cond.code ({ cls := "LetMill$Let", name := "resolve", desc := "(LLetMill$Scope;)V" } : Jvm.MethodName) prog_25_method_2_code (6 : Nat) (Option.none : Option Jvm.ClassFile.FieldType)) ∈ lw_all := lw_g (lw_at lw_m8 137 rfl) rfl
theorem q2028 : (Jvm.Cond.methodLink "LetMill$Let" (23 : Nat) ({ cls := "LetMill$Scope", name := "namesMany", desc := "()I" } : Jvm.MethodName)) ∈ lw_all := lw_g (lw_at lw_m8 138 rfl) rfl
theorem q2032 : (Jvm.Cond.methodLink "LetMill$Let" (27 : Nat) ({ cls := "LetMill$Scope", name := "consMany", desc := "()I" } : Jvm.MethodName)) ∈ lw_all := lw_g (lw_at lw_m8 142 rfl) rfl
theorem q2036 : (Jvm.Cond.methodLink "LetMill$Let" (33 : Nat) ({ cls := "LetMill$Row", name := "dec", desc := "(I)LLetMill$Dec;" } : Jvm.MethodName)) ∈ lw_all := lw_g (lw_at lw_m8 146 rfl) rfl
theorem q2041 : (Jvm.Cond.methodLink "LetMill$Let" (37 : Nat) ({ cls := "LetMill$Dec", name := "resolve", desc := "(LLetMill$Scope;)V" } : Jvm.MethodName)) ∈ lw_all := lw_g (lw_at lw_m8 151 rfl) rfl
theorem q2300 : (Jvm.Cond.selects "LetMill$Let" ({ cls := "LetMill$Exp", name := "resolve", desc := "(LLetMill$Scope;)V" } : Jvm.MethodName) ({ cls := "LetMill$Let", name := "resolve", desc := "(LLetMill$Scope;)V" } : Jvm.MethodName)) ∈ lw_all := lw_g (lw_at lw_m9 170 rfl) rfl
theorem q2316 : (Jvm.Cond.methodLink "LetMill$Let" (43 : Nat) ({ cls := "LetMill$Exp", name := "resolve", desc := "(LLetMill$Scope;)V" } : Jvm.MethodName)) ∈ lw_all := lw_g (lw_at lw_m9 186 rfl) rfl
theorem q2317 : (Jvm.Cond.methodLink "LetMill$Let" (44 : Nat) ({ cls := "LetMill$Scope", name := "back", desc := "(I)V" } : Jvm.MethodName)) ∈ lw_all := lw_g (lw_at lw_m9 187 rfl) rfl
theorem q2318 : (Jvm.Cond.methodLink "LetMill$Let" (47 : Nat) ({ cls := "LetMill$Scope", name := "backTypes", desc := "(II)V" } : Jvm.MethodName)) ∈ lw_all := lw_g (lw_at lw_m9 188 rfl) rfl
theorem q2635 : (Jvm.Cond.instanceMethod ({ cls := "LetMill$Let", name := "infer", desc := "(LLetMill$Typer;)I" } : Jvm.MethodName)) ∈ lw_all := lw_g (lw_at lw_m11 25 rfl) rfl
theorem q2636 : (Jvm.Cond.code ({ cls := "LetMill$Let", name := "infer", desc := "(LLetMill$Typer;)I" } : Jvm.MethodName) prog_25_method_3_code (4 : Nat) (Option.some Jvm.ClassFile.FieldType.int)) ∈ lw_all := lw_g (lw_at lw_m11 26 rfl) rfl
theorem q2637 : (Jvm.Cond.methodLink "LetMill$Let" (54 : Nat) ({ cls := "LetMill$Dec", name := "infer", desc := "(LLetMill$Typer;)V" } : Jvm.MethodName)) ∈ lw_all := lw_g (lw_at lw_m11 27 rfl) rfl
theorem q2697 : (Jvm.Cond.selects "LetMill$Let" ({ cls := "LetMill$Exp", name := "isCon", desc := "()Z" } : Jvm.MethodName) ({ cls := "LetMill$Exp", name := "isCon", desc := "()Z" } : Jvm.MethodName)) ∈ lw_all := lw_g (lw_at lw_m11 87 rfl) rfl
theorem q2733 : (Jvm.Cond.selects "LetMill$Let" ({ cls := "LetMill$Exp", name := "isStill", desc := "()Z" } : Jvm.MethodName) ({ cls := "LetMill$Exp", name := "isStill", desc := "()Z" } : Jvm.MethodName)) ∈ lw_all := lw_g (lw_at lw_m11 123 rfl) rfl
theorem q2759 : (Jvm.Cond.methodLink "LetMill$Let" (67 : Nat) ({ cls := "LetMill$Exp", name := "infer", desc := "(LLetMill$Typer;)I" } : Jvm.MethodName)) ∈ lw_all := lw_g (lw_at lw_m11 149 rfl) rfl
theorem q2788 : (Jvm.Cond.selects "LetMill$Let" ({ cls := "LetMill$Exp", name := "infer", desc := "(LLetMill$Typer;)I" } : Jvm.MethodName) ({ cls := "LetMill$Let", name := "infer", desc := "(LLetMill$Typer;)I" } : Jvm.MethodName)) ∈ lw_all := lw_g (lw_at lw_m11 178 rfl) rfl
theorem q2964 : (Jvm.Cond.selects "LetMill$Let" ({ cls := "LetMill$Exp", name := "begin", desc := "(LLetMill$Machine;I)V" } : Jvm.MethodName) ({ cls := "LetMill$Let", name := "begin", desc := "(LLetMill$Machine;I)V" } : Jvm.MethodName)) ∈ lw_all := lw_g (lw_at lw_m12 114 rfl) rfl
theorem q2965 : (Jvm.Cond.instanceMethod ({ cls := "LetMill$Let", name := "begin", desc := "(LLetMill$Machine;I)V" } : Jvm.MethodName)) ∈ lw_all := lw_g (lw_at lw_m12 115 rfl) rfl
theorem q2966 : (Jvm.Cond.code ({ cls := "LetMill$Let", name := "begin", desc := "(LLetMill$Machine;I)V" } : Jvm.MethodName) prog_25_method_4_code (3 : Nat) (Option.none : Option Jvm.ClassFile.FieldType)) ∈ lw_all := lw_g (lw_at lw_m12 116 rfl) rfl
theorem q2967 : (Jvm.Cond.methodLink "LetMill$Let" (70 : Nat) ({ cls := "LetMill$Machine", name := "pay", desc := "(I)Z" } : Jvm.MethodName)) ∈ lw_all := lw_g (lw_at lw_m12 117 rfl) rfl
theorem q2968 : (Jvm.Cond.methodLink "LetMill$Let" (76 : Nat) ({ cls := "LetMill$Let", name := "go", desc := "(LLetMill$Machine;II)V" } : Jvm.MethodName)) ∈ lw_all := lw_g (lw_at lw_m12 118 rfl) rfl
theorem q2970 : (Jvm.Cond.instanceMethod ({ cls := "LetMill$Let", name := "go", desc := "(LLetMill$Machine;II)V" } : Jvm.MethodName)) ∈ lw_all := lw_g (lw_at lw_m12 120 rfl) rfl
theorem q2971 : (Jvm.Cond.code ({ cls := "LetMill$Let", name := "go", desc := "(LLetMill$Machine;II)V" } : Jvm.MethodName) prog_25_method_6_code (7 : Nat) (Option.none : Option Jvm.ClassFile.FieldType)) ∈ lw_all := lw_g (lw_at lw_m12 121 rfl) rfl
theorem q2972 : (Jvm.Cond.methodLink "LetMill$Let" (99 : Nat) ({ cls := "LetMill$Machine", name := "isOver", desc := "()Z" } : Jvm.MethodName)) ∈ lw_all := lw_g (lw_at lw_m12 122 rfl) rfl
theorem q2976 : (Jvm.Cond.methodLink "LetMill$Let" (103 : Nat) ({ cls := "LetMill$Dec", name := "exp", desc := "()LLetMill$Exp;" } : Jvm.MethodName)) ∈ lw_all := lw_g (lw_at lw_m12 126 rfl) rfl
theorem q2985 : (Jvm.Cond.methodLink "LetMill$Let" (107 : Nat) ({ cls := "LetMill$Machine", name := "frame", desc := "(LLetMill$Exp;II)V" } : Jvm.MethodName)) ∈ lw_all := lw_g (lw_at lw_m12 135 rfl) rfl
theorem q2986 : (Jvm.Cond.methodLink "LetMill$Let" (111 : Nat) ({ cls := "LetMill$Machine", name := "next", desc := "(LLetMill$Exp;I)V" } : Jvm.MethodName)) ∈ lw_all := lw_g (lw_at lw_m12 136 rfl) rfl
theorem q2987 : (Jvm.Cond.methodLink "LetMill$Let" (115 : Nat) ({ cls := "LetMill$Dec", name := "begin", desc := "(LLetMill$Machine;I)I" } : Jvm.MethodName)) ∈ lw_all := lw_g (lw_at lw_m12 137 rfl) rfl
theorem q3015 : (Jvm.Cond.methodLink "LetMill$Let" (119 : Nat) ({ cls := "LetMill$Machine", name := "done", desc := "(I)V" } : Jvm.MethodName)) ∈ lw_all := lw_g (lw_at lw_m12 165 rfl) rfl
theorem q3235 : (Jvm.Cond.selects "LetMill$Let" ({ cls := "LetMill$Exp", name := "resume", desc := "(LLetMill$Machine;III)V" } : Jvm.MethodName) ({ cls := "LetMill$Let", name := "resume", desc := "(LLetMill$Machine;III)V" } : Jvm.MethodName)) ∈ lw_all := lw_g (lw_at lw_m13 145 rfl) rfl
theorem q3236 : (Jvm.Cond.instanceMethod ({ cls := "LetMill$Let", name := "resume", desc := "(LLetMill$Machine;III)V" } : Jvm.MethodName)) ∈ lw_all := lw_g (lw_at lw_m13 146 rfl) rfl
theorem q3237 : (Jvm.Cond.code ({ cls := "LetMill$Let", name := "resume", desc := "(LLetMill$Machine;III)V" } : Jvm.MethodName) prog_25_method_5_code (6 : Nat) (Option.none : Option Jvm.ClassFile.FieldType)) ∈ lw_all := lw_g (lw_at lw_m13 147 rfl) rfl
theorem q3238 : (Jvm.Cond.classLink "LetMill$Let" (80 : Nat) "LetMill$Val") ∈ lw_all := lw_g (lw_at lw_m13 148 rfl) rfl
theorem q3239 : (Jvm.Cond.methodLink "LetMill$Let" (86 : Nat) ({ cls := "LetMill$Pat", name := "fits", desc := "(LLetMill$Machine;I)Z" } : Jvm.MethodName)) ∈ lw_all := lw_g (lw_at lw_m13 149 rfl) rfl
theorem q3240 : (Jvm.Cond.methodLink "LetMill$Let" (92 : Nat) ({ cls := "LetMill$Machine", name := "fail", desc := "(I)V" } : Jvm.MethodName)) ∈ lw_all := lw_g (lw_at lw_m13 150 rfl) rfl
theorem q3241 : (Jvm.Cond.methodLink "LetMill$Let" (95 : Nat) ({ cls := "LetMill$Pat", name := "bind", desc := "(LLetMill$Machine;II)I" } : Jvm.MethodName)) ∈ lw_all := lw_g (lw_at lw_m13 151 rfl) rfl
theorem q4558 : (Jvm.Cond.castable "LetMill$Let" "LetMill$Exp") ∈ lw_tbl := lw_at lw_m19 28 rfl
def RX18 : String := "LetMill$Fault"
abbrev cX18_init : ByteArray := prog_17_method_1_code
def yX18_init : MethodName := ⟨RX18, "<init>", "(II)V"⟩
theorem q239 : (Jvm.Cond.initialized "LetMill$Fault") ∈ lw_all := lw_g (lw_at lw_m1 29 rfl) rfl
theorem q1080 : (Jvm.Cond.selects "LetMill$Fault" ({ cls := "java/lang/Throwable", name := "fillInStackTrace", desc := "()Ljava/lang/Throwable;" } : Jvm.MethodName) ({ cls := "java/lang/Throwable", name := "fillInStackTrace", desc := "()Ljava/lang/Throwable;" } : Jvm.MethodName)) ∈ lw_all := lw_g (lw_at lw_m4 150 rfl) rfl
theorem q1294 : (Jvm.Cond.instantiable "LetMill$Fault" (8 : Nat)) ∈ lw_all := lw_g (lw_at lw_m5 124 rfl) rfl
theorem q1295 : (Jvm.Cond.castable "LetMill$Fault" "LetMill$Fault") ∈ lw_tbl := lw_at lw_m5 125 rfl
theorem q1296 : (Jvm.Cond.selects "LetMill$Fault" ({ cls := "java/lang/Throwable", name := "fillInStackTrace", desc := "(I)Ljava/lang/Throwable;" } : Jvm.MethodName) ({ cls := "java/lang/Throwable", name := "fillInStackTrace", desc := "(I)Ljava/lang/Throwable;" } : Jvm.MethodName)) ∈ lw_all := lw_g (lw_at lw_m5 126 rfl) rfl
theorem q1297 : (Jvm.Cond.lays "LetMill$Fault" "java/lang/Throwable" "cause" "Ljava/lang/Throwable;") ∈ lw_all := lw_g (lw_at lw_m5 127 rfl) rfl
theorem q1298 : (Jvm.Cond.lays "LetMill$Fault" "java/lang/Throwable" "stackTrace" "[Ljava/lang/StackTraceElement;") ∈ lw_all := lw_g (lw_at lw_m5 128 rfl) rfl
theorem q1299 : (Jvm.Cond.lays "LetMill$Fault" "java/lang/Throwable" "suppressedExceptions" "Ljava/util/List;") ∈ lw_all := lw_g (lw_at lw_m5 129 rfl) rfl
theorem q1300 : (Jvm.Cond.lays "LetMill$Fault" "java/lang/Throwable" "detailMessage" "Ljava/lang/String;") ∈ lw_all := lw_g (lw_at lw_m5 130 rfl) rfl
theorem q1301 : (Jvm.Cond.lays "LetMill$Fault" "java/lang/Throwable" "backtrace" "Ljava/lang/Object;") ∈ lw_all := lw_g (lw_at lw_m5 131 rfl) rfl
theorem q1303 : (Jvm.Cond.instanceMethod ({ cls := "LetMill$Fault", name := "<init>", desc := "(II)V" } : Jvm.MethodName)) ∈ lw_all := lw_g (lw_at lw_m5 133 rfl) rfl
theorem q1304 : (Jvm.Cond.code ({ cls := "LetMill$Fault", name := "<init>", desc := "(II)V" } : Jvm.MethodName) prog_17_method_1_code (3 : Nat) (Option.none : Option Jvm.ClassFile.FieldType)) ∈ lw_all := lw_g (lw_at lw_m5 134 rfl) rfl
theorem q1305 : (Jvm.Cond.methodLink "LetMill$Fault" (1 : Nat) ({ cls := "java/lang/RuntimeException", name := "<init>", desc := "()V" } : Jvm.MethodName)) ∈ lw_all := lw_g (lw_at lw_m5 135 rfl) rfl
theorem q1306 : (Jvm.Cond.fieldLink "LetMill$Fault" (7 : Nat) "LetMill$Fault" "number" "I") ∈ lw_all := lw_g (lw_at lw_m5 136 rfl) rfl
theorem q1308 : (Jvm.Cond.fieldLink "LetMill$Fault" (13 : Nat) "LetMill$Fault" "place" "I") ∈ lw_all := lw_g (lw_at lw_m5 138 rfl) rfl
theorem q1310 : (Jvm.Cond.laysFinal "LetMill$Fault" "LetMill$Fault" "number" "I") ∈ lw_all := lw_g (lw_at lw_m5 140 rfl) rfl
theorem q1312 : (Jvm.Cond.laysFinal "LetMill$Fault" "LetMill$Fault" "place" "I") ∈ lw_all := lw_g (lw_at lw_m5 142 rfl) rfl
theorem q1314 : (Jvm.Cond.lays "LetMill$Fault" "java/lang/Throwable" "depth" "I") ∈ lw_all := lw_g (lw_at lw_m5 144 rfl) rfl
def RX19 : String := "LetMill$Pat"
abbrev cX19_init : ByteArray := prog_35_method_1_code
def yX19_init : MethodName := ⟨RX19, "<init>", "(I)V"⟩
abbrev cX19_bind : ByteArray := prog_35_method_5_code
def yX19_bind : MethodName := ⟨RX19, "bind", "(LLetMill$Machine;II)I"⟩
theorem q240 : (Jvm.Cond.initialized "LetMill$Pat") ∈ lw_all := lw_g (lw_at lw_m1 30 rfl) rfl
theorem q1344 : (Jvm.Cond.instanceMethod ({ cls := "LetMill$Pat", name := "<init>", desc := "(I)V" } : Jvm.MethodName)) ∈ lw_all := lw_g (lw_at lw_m5 174 rfl) rfl
theorem q1345 : (Jvm.Cond.code ({ cls := "LetMill$Pat", name := "<init>", desc := "(I)V" } : Jvm.MethodName) prog_35_method_1_code (2 : Nat) (Option.none : Option Jvm.ClassFile.FieldType)) ∈ lw_all := lw_g (lw_at lw_m5 175 rfl) rfl
theorem q1346 : (Jvm.Cond.methodLink "LetMill$Pat" (1 : Nat) ({ cls := "java/lang/Object", name := "<init>", desc := "()V" } : Jvm.MethodName)) ∈ lw_all := lw_g (lw_at lw_m5 176 rfl) rfl
theorem q1347 : (Jvm.Cond.fieldLink "LetMill$Pat" (7 : Nat) "LetMill$Pat" "token" "I") ∈ lw_all := lw_g (lw_at lw_m5 177 rfl) rfl
theorem q2208 : (Jvm.Cond.declares ({ cls := "LetMill$Pat", name := "resolveFrom", desc := "(LLetMill$Scope;I)V" } : Jvm.MethodName)) ∈ lw_tbl := lw_at lw_m9 78 rfl
theorem q2209 : (Jvm.Cond.sameMethod "LetMill$Pat" "LetMill$Pat" "resolveFrom" "(LLetMill$Scope;I)V") ∈ lw_all := lw_g (lw_at lw_m9 79 rfl) rfl
theorem q2435 : (Jvm.Cond.declares ({ cls := "LetMill$Pat", name := "infer", desc := "(LLetMill$Typer;)I" } : Jvm.MethodName)) ∈ lw_tbl := lw_at lw_m10 65 rfl
theorem q2436 : (Jvm.Cond.sameMethod "LetMill$Pat" "LetMill$Pat" "infer" "(LLetMill$Typer;)I") ∈ lw_all := lw_g (lw_at lw_m10 66 rfl) rfl
theorem q2543 : (Jvm.Cond.declares ({ cls := "LetMill$Pat", name := "shape", desc := "(LLetMill$Matches;)I" } : Jvm.MethodName)) ∈ lw_tbl := lw_at lw_m10 173 rfl
theorem q2544 : (Jvm.Cond.sameMethod "LetMill$Pat" "LetMill$Pat" "shape" "(LLetMill$Matches;)I") ∈ lw_all := lw_g (lw_at lw_m10 174 rfl) rfl
theorem q3104 : (Jvm.Cond.declares ({ cls := "LetMill$Pat", name := "fits", desc := "(LLetMill$Machine;I)Z" } : Jvm.MethodName)) ∈ lw_tbl := lw_at lw_m13 14 rfl
theorem q3105 : (Jvm.Cond.sameMethod "LetMill$Pat" "LetMill$Pat" "fits" "(LLetMill$Machine;I)Z") ∈ lw_all := lw_g (lw_at lw_m13 15 rfl) rfl
theorem q3166 : (Jvm.Cond.instanceMethod ({ cls := "LetMill$Pat", name := "bind", desc := "(LLetMill$Machine;II)I" } : Jvm.MethodName)) ∈ lw_all := lw_g (lw_at lw_m13 76 rfl) rfl
theorem q3167 : (Jvm.Cond.sameMethod "LetMill$Pat" "LetMill$Pat" "bind" "(LLetMill$Machine;II)I") ∈ lw_all := lw_g (lw_at lw_m13 77 rfl) rfl
theorem q3195 : (Jvm.Cond.code ({ cls := "LetMill$Pat", name := "bind", desc := "(LLetMill$Machine;II)I" } : Jvm.MethodName) prog_35_method_5_code (4 : Nat) (Option.some Jvm.ClassFile.FieldType.int)) ∈ lw_all := lw_g (lw_at lw_m13 105 rfl) rfl
def RX20 : String := "LetMill$ConPat"
abbrev cX20_init : ByteArray := prog_11_method_1_code
def yX20_init : MethodName := ⟨RX20, "<init>", "(ILLetMill$Pat;)V"⟩
abbrev cX20_resolveFrom : ByteArray := prog_11_method_2_code
def yX20_resolveFrom : MethodName := ⟨RX20, "resolveFrom", "(LLetMill$Scope;I)V"⟩
abbrev cX20_infer : ByteArray := prog_11_method_3_code
def yX20_infer : MethodName := ⟨RX20, "infer", "(LLetMill$Typer;)I"⟩
abbrev cX20_shape : ByteArray := prog_11_method_6_code
def yX20_shape : MethodName := ⟨RX20, "shape", "(LLetMill$Matches;)I"⟩
abbrev cX20_fits : ByteArray := prog_11_method_4_code
def yX20_fits : MethodName := ⟨RX20, "fits", "(LLetMill$Machine;I)Z"⟩
abbrev cX20_bind : ByteArray := prog_11_method_5_code
def yX20_bind : MethodName := ⟨RX20, "bind", "(LLetMill$Machine;II)I"⟩
theorem q241 : (Jvm.Cond.initialized "LetMill$ConPat") ∈ lw_all := lw_g (lw_at lw_m1 31 rfl) rfl
theorem q452 : (Jvm.Cond.fieldLink "LetMill$ConPat" (91 : Nat) "LetMill$TypeName" "cons" "I") ∈ lw_all := lw_g (lw_at lw_m2 2 rfl) rfl
theorem q800 : (Jvm.Cond.fieldLink "LetMill$ConPat" (40 : Nat) "LetMill$Typer" "types" "LLetMill$Types;") ∈ lw_all := lw_g (lw_at lw_m3 110 rfl) rfl
theorem q1329 : (Jvm.Cond.instantiable "LetMill$ConPat" (3 : Nat)) ∈ lw_all := lw_g (lw_at lw_m5 159 rfl) rfl
theorem q1348 : (Jvm.Cond.fieldLink "LetMill$ConPat" (13 : Nat) "LetMill$ConPat" "token" "I") ∈ lw_all := lw_g (lw_at lw_m5 178 rfl) rfl
theorem q1349 : (Jvm.Cond.sameField "LetMill$ConPat" "LetMill$Pat" "token" "I") ∈ lw_all := lw_g (lw_at lw_m5 179 rfl) rfl
theorem q1353 : (Jvm.Cond.fieldLink "LetMill$ConPat" (65 : Nat) "LetMill$Pat" "token" "I") ∈ lw_all := lw_g (lw_at lw_m5 183 rfl) rfl
theorem q1372 : (Jvm.Cond.instanceMethod ({ cls := "LetMill$ConPat", name := "<init>", desc := "(ILLetMill$Pat;)V" } : Jvm.MethodName)) ∈ lw_all := lw_g (lw_at lw_m5 202 rfl) rfl
theorem q1373 : (Jvm.Cond.code ({ cls := "LetMill$ConPat", name := "<init>", desc := "(ILLetMill$Pat;)V" } : Jvm.MethodName) prog_11_method_1_code (3 : Nat) (Option.none : Option Jvm.ClassFile.FieldType)) ∈ lw_all := lw_g (lw_at lw_m5 203 rfl) rfl
theorem q1374 : (Jvm.Cond.methodLink "LetMill$ConPat" (1 : Nat) ({ cls := "LetMill$Pat", name := "<init>", desc := "(I)V" } : Jvm.MethodName)) ∈ lw_all := lw_g (lw_at lw_m5 204 rfl) rfl
theorem q1375 : (Jvm.Cond.fieldLink "LetMill$ConPat" (7 : Nat) "LetMill$ConPat" "has" "LLetMill$Pat;") ∈ lw_all := lw_g (lw_at lw_m5 205 rfl) rfl
theorem q1376 : (Jvm.Cond.fieldLink "LetMill$ConPat" (23 : Nat) "LetMill$ConPat" "con" "LLetMill$Con;") ∈ lw_all := lw_g (lw_at lw_m5 206 rfl) rfl
theorem q1377 : (Jvm.Cond.laysFinal "LetMill$ConPat" "LetMill$ConPat" "has" "LLetMill$Pat;") ∈ lw_all := lw_g (lw_at lw_m5 207 rfl) rfl
theorem q1379 : (Jvm.Cond.lays "LetMill$ConPat" "LetMill$ConPat" "con" "LLetMill$Con;") ∈ lw_all := lw_g (lw_at lw_m5 209 rfl) rfl
theorem q1381 : (Jvm.Cond.laysFinal "LetMill$ConPat" "LetMill$Pat" "token" "I") ∈ lw_all := lw_g (lw_at lw_m5 211 rfl) rfl
theorem q2142 : (Jvm.Cond.fieldLink "LetMill$ConPat" (87 : Nat) "LetMill$Con" "type" "LLetMill$TypeName;") ∈ lw_all := lw_g (lw_at lw_m9 12 rfl) rfl
theorem q2144 : (Jvm.Cond.fieldLink "LetMill$ConPat" (84 : Nat) "LetMill$Con" "number" "I") ∈ lw_all := lw_g (lw_at lw_m9 14 rfl) rfl
theorem q2147 : (Jvm.Cond.fieldLink "LetMill$ConPat" (26 : Nat) "LetMill$Con" "isWith" "Z") ∈ lw_all := lw_g (lw_at lw_m9 17 rfl) rfl
theorem q2151 : (Jvm.Cond.fieldLink "LetMill$ConPat" (56 : Nat) "LetMill$Con" "has" "[I") ∈ lw_all := lw_g (lw_at lw_m9 21 rfl) rfl
theorem q2154 : (Jvm.Cond.fieldLink "LetMill$ConPat" (46 : Nat) "LetMill$Con" "gives" "[I") ∈ lw_all := lw_g (lw_at lw_m9 24 rfl) rfl
theorem q2213 : (Jvm.Cond.selects "LetMill$ConPat" ({ cls := "LetMill$Pat", name := "resolveFrom", desc := "(LLetMill$Scope;I)V" } : Jvm.MethodName) ({ cls := "LetMill$ConPat", name := "resolveFrom", desc := "(LLetMill$Scope;I)V" } : Jvm.MethodName)) ∈ lw_all := lw_g (lw_at lw_m9 83 rfl) rfl
theorem q2214 : (Jvm.Cond.instanceMethod ({ cls := "LetMill$ConPat", name := "resolveFrom", desc := "(LLetMill$Scope;I)V" } : Jvm.MethodName)) ∈ lw_all := lw_g (lw_at lw_m9 84 rfl) rfl
theorem q2215 : (Jvm.Cond.code ({ cls := "LetMill$ConPat", name := "resolveFrom", desc := "(LLetMill$Scope;I)V" } : Jvm.MethodName) prog_11_method_2_code (3 : Nat) (Option.none : Option Jvm.ClassFile.FieldType)) ∈ lw_all := lw_g (lw_at lw_m9 85 rfl) rfl
theorem q2216 : (Jvm.Cond.methodLink "LetMill$ConPat" (17 : Nat) ({ cls := "LetMill$Scope", name := "con", desc := "(I)LLetMill$Con;" } : Jvm.MethodName)) ∈ lw_all := lw_g (lw_at lw_m9 86 rfl) rfl
theorem q2221 : (Jvm.Cond.methodLink "LetMill$ConPat" (32 : Nat) ({ cls := "LetMill$Scope", name := "found", desc := "(II)V" } : Jvm.MethodName)) ∈ lw_all := lw_g (lw_at lw_m9 91 rfl) rfl
theorem q2222 : (Jvm.Cond.methodLink "LetMill$ConPat" (36 : Nat) ({ cls := "LetMill$Pat", name := "resolveFrom", desc := "(LLetMill$Scope;I)V" } : Jvm.MethodName)) ∈ lw_all := lw_g (lw_at lw_m9 92 rfl) rfl
theorem q2441 : (Jvm.Cond.selects "LetMill$ConPat" ({ cls := "LetMill$Pat", name := "infer", desc := "(LLetMill$Typer;)I" } : Jvm.MethodName) ({ cls := "LetMill$ConPat", name := "infer", desc := "(LLetMill$Typer;)I" } : Jvm.MethodName)) ∈ lw_all := lw_g (lw_at lw_m10 71 rfl) rfl
theorem q2442 : (Jvm.Cond.instanceMethod ({ cls := "LetMill$ConPat", name := "infer", desc := "(LLetMill$Typer;)I" } : Jvm.MethodName)) ∈ lw_all := lw_g (lw_at lw_m10 72 rfl) rfl
theorem q2443 : (Jvm.Cond.code ({ cls := "LetMill$ConPat", name := "infer", desc := "(LLetMill$Typer;)I" } : Jvm.MethodName) prog_11_method_3_code (5 : Nat) (Option.some Jvm.ClassFile.FieldType.int)) ∈ lw_all := lw_g (lw_at lw_m10 73 rfl) rfl
theorem q2444 : (Jvm.Cond.methodLink "LetMill$ConPat" (50 : Nat) ({ cls := "LetMill$Types", name := "read", desc := "([I)I" } : Jvm.MethodName)) ∈ lw_all := lw_g (lw_at lw_m10 74 rfl) rfl
theorem q2453 : (Jvm.Cond.methodLink "LetMill$ConPat" (58 : Nat) ({ cls := "LetMill$Types", name := "readOn", desc := "([I)I" } : Jvm.MethodName)) ∈ lw_all := lw_g (lw_at lw_m10 83 rfl) rfl
theorem q2457 : (Jvm.Cond.methodLink "LetMill$ConPat" (61 : Nat) ({ cls := "LetMill$Pat", name := "infer", desc := "(LLetMill$Typer;)I" } : Jvm.MethodName)) ∈ lw_all := lw_g (lw_at lw_m10 87 rfl) rfl
theorem q2501 : (Jvm.Cond.methodLink "LetMill$ConPat" (66 : Nat) ({ cls := "LetMill$Typer", name := "same", desc := "(III)V" } : Jvm.MethodName)) ∈ lw_all := lw_g (lw_at lw_m10 131 rfl) rfl
theorem q2548 : (Jvm.Cond.selects "LetMill$ConPat" ({ cls := "LetMill$Pat", name := "shape", desc := "(LLetMill$Matches;)I" } : Jvm.MethodName) ({ cls := "LetMill$ConPat", name := "shape", desc := "(LLetMill$Matches;)I" } : Jvm.MethodName)) ∈ lw_all := lw_g (lw_at lw_m10 178 rfl) rfl
theorem q2549 : (Jvm.Cond.instanceMethod ({ cls := "LetMill$ConPat", name := "shape", desc := "(LLetMill$Matches;)I" } : Jvm.MethodName)) ∈ lw_all := lw_g (lw_at lw_m10 179 rfl) rfl
theorem q2550 : (Jvm.Cond.code ({ cls := "LetMill$ConPat", name := "shape", desc := "(LLetMill$Matches;)I" } : Jvm.MethodName) prog_11_method_6_code (2 : Nat) (Option.some Jvm.ClassFile.FieldType.int)) ∈ lw_all := lw_g (lw_at lw_m10 180 rfl) rfl
theorem q2551 : (Jvm.Cond.methodLink "LetMill$ConPat" (96 : Nat) ({ cls := "LetMill$Matches", name := "node", desc := "(II)I" } : Jvm.MethodName)) ∈ lw_all := lw_g (lw_at lw_m10 181 rfl) rfl
theorem q2559 : (Jvm.Cond.methodLink "LetMill$ConPat" (102 : Nat) ({ cls := "LetMill$Pat", name := "shape", desc := "(LLetMill$Matches;)I" } : Jvm.MethodName)) ∈ lw_all := lw_g (lw_at lw_m10 189 rfl) rfl
theorem q2589 : (Jvm.Cond.methodLink "LetMill$ConPat" (106 : Nat) ({ cls := "LetMill$Matches", name := "one", desc := "(III)I" } : Jvm.MethodName)) ∈ lw_all := lw_g (lw_at lw_m10 219 rfl) rfl
theorem q3109 : (Jvm.Cond.selects "LetMill$ConPat" ({ cls := "LetMill$Pat", name := "fits", desc := "(LLetMill$Machine;I)Z" } : Jvm.MethodName) ({ cls := "LetMill$ConPat", name := "fits", desc := "(LLetMill$Machine;I)Z" } : Jvm.MethodName)) ∈ lw_all := lw_g (lw_at lw_m13 19 rfl) rfl
theorem q3110 : (Jvm.Cond.instanceMethod ({ cls := "LetMill$ConPat", name := "fits", desc := "(LLetMill$Machine;I)Z" } : Jvm.MethodName)) ∈ lw_all := lw_g (lw_at lw_m13 20 rfl) rfl
theorem q3111 : (Jvm.Cond.code ({ cls := "LetMill$ConPat", name := "fits", desc := "(LLetMill$Machine;I)Z" } : Jvm.MethodName) prog_11_method_4_code (3 : Nat) (Option.some Jvm.ClassFile.FieldType.boolean)) ∈ lw_all := lw_g (lw_at lw_m13 21 rfl) rfl
theorem q3112 : (Jvm.Cond.methodLink "LetMill$ConPat" (70 : Nat) ({ cls := "LetMill$Machine", name := "con", desc := "(I)LLetMill$Con;" } : Jvm.MethodName)) ∈ lw_all := lw_g (lw_at lw_m13 22 rfl) rfl
theorem q3117 : (Jvm.Cond.methodLink "LetMill$ConPat" (73 : Nat) ({ cls := "LetMill$Machine", name := "has", desc := "(I)I" } : Jvm.MethodName)) ∈ lw_all := lw_g (lw_at lw_m13 27 rfl) rfl
theorem q3121 : (Jvm.Cond.methodLink "LetMill$ConPat" (76 : Nat) ({ cls := "LetMill$Pat", name := "fits", desc := "(LLetMill$Machine;I)Z" } : Jvm.MethodName)) ∈ lw_all := lw_g (lw_at lw_m13 31 rfl) rfl
theorem q3169 : (Jvm.Cond.selects "LetMill$ConPat" ({ cls := "LetMill$Pat", name := "bind", desc := "(LLetMill$Machine;II)I" } : Jvm.MethodName) ({ cls := "LetMill$ConPat", name := "bind", desc := "(LLetMill$Machine;II)I" } : Jvm.MethodName)) ∈ lw_all := lw_g (lw_at lw_m13 79 rfl) rfl
theorem q3170 : (Jvm.Cond.instanceMethod ({ cls := "LetMill$ConPat", name := "bind", desc := "(LLetMill$Machine;II)I" } : Jvm.MethodName)) ∈ lw_all := lw_g (lw_at lw_m13 80 rfl) rfl
theorem q3171 : (Jvm.Cond.code ({ cls := "LetMill$ConPat", name := "bind", desc := "(LLetMill$Machine;II)I" } : Jvm.MethodName) prog_11_method_5_code (4 : Nat) (Option.some Jvm.ClassFile.FieldType.int)) ∈ lw_all := lw_g (lw_at lw_m13 81 rfl) rfl
theorem q3172 : (Jvm.Cond.methodLink "LetMill$ConPat" (80 : Nat) ({ cls := "LetMill$Pat", name := "bind", desc := "(LLetMill$Machine;II)I" } : Jvm.MethodName)) ∈ lw_all := lw_g (lw_at lw_m13 82 rfl) rfl
theorem q4542 : (Jvm.Cond.castable "LetMill$ConPat" "LetMill$Pat") ∈ lw_tbl := lw_at lw_m19 12 rfl
def RX21 : String := "LetMill$AnyPat"
abbrev cX21_init : ByteArray := prog_2_method_1_code
def yX21_init : MethodName := ⟨RX21, "<init>", "(I)V"⟩
abbrev cX21_resolveFrom : ByteArray := prog_2_method_2_code
def yX21_resolveFrom : MethodName := ⟨RX21, "resolveFrom", "(LLetMill$Scope;I)V"⟩
abbrev cX21_infer : ByteArray := prog_2_method_3_code
def yX21_infer : MethodName := ⟨RX21, "infer", "(LLetMill$Typer;)I"⟩
abbrev cX21_shape : ByteArray := prog_2_method_5_code
def yX21_shape : MethodName := ⟨RX21, "shape", "(LLetMill$Matches;)I"⟩
abbrev cX21_fits : ByteArray := prog_2_method_4_code
def yX21_fits : MethodName := ⟨RX21, "fits", "(LLetMill$Machine;I)Z"⟩
theorem q242 : (Jvm.Cond.initialized "LetMill$AnyPat") ∈ lw_all := lw_g (lw_at lw_m1 32 rfl) rfl
theorem q799 : (Jvm.Cond.fieldLink "LetMill$AnyPat" (7 : Nat) "LetMill$Typer" "types" "LLetMill$Types;") ∈ lw_all := lw_g (lw_at lw_m3 109 rfl) rfl
theorem q1339 : (Jvm.Cond.instantiable "LetMill$AnyPat" (1 : Nat)) ∈ lw_all := lw_g (lw_at lw_m5 169 rfl) rfl
theorem q1341 : (Jvm.Cond.instanceMethod ({ cls := "LetMill$AnyPat", name := "<init>", desc := "(I)V" } : Jvm.MethodName)) ∈ lw_all := lw_g (lw_at lw_m5 171 rfl) rfl
theorem q1342 : (Jvm.Cond.code ({ cls := "LetMill$AnyPat", name := "<init>", desc := "(I)V" } : Jvm.MethodName) prog_2_method_1_code (2 : Nat) (Option.none : Option Jvm.ClassFile.FieldType)) ∈ lw_all := lw_g (lw_at lw_m5 172 rfl) rfl
theorem q1343 : (Jvm.Cond.methodLink "LetMill$AnyPat" (1 : Nat) ({ cls := "LetMill$Pat", name := "<init>", desc := "(I)V" } : Jvm.MethodName)) ∈ lw_all := lw_g (lw_at lw_m5 173 rfl) rfl
theorem q1357 : (Jvm.Cond.laysFinal "LetMill$AnyPat" "LetMill$Pat" "token" "I") ∈ lw_all := lw_g (lw_at lw_m5 187 rfl) rfl
theorem q2210 : (Jvm.Cond.selects "LetMill$AnyPat" ({ cls := "LetMill$Pat", name := "resolveFrom", desc := "(LLetMill$Scope;I)V" } : Jvm.MethodName) ({ cls := "LetMill$AnyPat", name := "resolveFrom", desc := "(LLetMill$Scope;I)V" } : Jvm.MethodName)) ∈ lw_all := lw_g (lw_at lw_m9 80 rfl) rfl
theorem q2211 : (Jvm.Cond.instanceMethod ({ cls := "LetMill$AnyPat", name := "resolveFrom", desc := "(LLetMill$Scope;I)V" } : Jvm.MethodName)) ∈ lw_all := lw_g (lw_at lw_m9 81 rfl) rfl
theorem q2212 : (Jvm.Cond.code ({ cls := "LetMill$AnyPat", name := "resolveFrom", desc := "(LLetMill$Scope;I)V" } : Jvm.MethodName) prog_2_method_2_code (3 : Nat) (Option.none : Option Jvm.ClassFile.FieldType)) ∈ lw_all := lw_g (lw_at lw_m9 82 rfl) rfl
theorem q2437 : (Jvm.Cond.selects "LetMill$AnyPat" ({ cls := "LetMill$Pat", name := "infer", desc := "(LLetMill$Typer;)I" } : Jvm.MethodName) ({ cls := "LetMill$AnyPat", name := "infer", desc := "(LLetMill$Typer;)I" } : Jvm.MethodName)) ∈ lw_all := lw_g (lw_at lw_m10 67 rfl) rfl
theorem q2438 : (Jvm.Cond.instanceMethod ({ cls := "LetMill$AnyPat", name := "infer", desc := "(LLetMill$Typer;)I" } : Jvm.MethodName)) ∈ lw_all := lw_g (lw_at lw_m10 68 rfl) rfl
theorem q2439 : (Jvm.Cond.code ({ cls := "LetMill$AnyPat", name := "infer", desc := "(LLetMill$Typer;)I" } : Jvm.MethodName) prog_2_method_3_code (2 : Nat) (Option.some Jvm.ClassFile.FieldType.int)) ∈ lw_all := lw_g (lw_at lw_m10 69 rfl) rfl
theorem q2440 : (Jvm.Cond.methodLink "LetMill$AnyPat" (13 : Nat) ({ cls := "LetMill$Types", name := "variable", desc := "()I" } : Jvm.MethodName)) ∈ lw_all := lw_g (lw_at lw_m10 70 rfl) rfl
theorem q2545 : (Jvm.Cond.selects "LetMill$AnyPat" ({ cls := "LetMill$Pat", name := "shape", desc := "(LLetMill$Matches;)I" } : Jvm.MethodName) ({ cls := "LetMill$AnyPat", name := "shape", desc := "(LLetMill$Matches;)I" } : Jvm.MethodName)) ∈ lw_all := lw_g (lw_at lw_m10 175 rfl) rfl
theorem q2546 : (Jvm.Cond.instanceMethod ({ cls := "LetMill$AnyPat", name := "shape", desc := "(LLetMill$Matches;)I" } : Jvm.MethodName)) ∈ lw_all := lw_g (lw_at lw_m10 176 rfl) rfl
theorem q2547 : (Jvm.Cond.code ({ cls := "LetMill$AnyPat", name := "shape", desc := "(LLetMill$Matches;)I" } : Jvm.MethodName) prog_2_method_5_code (2 : Nat) (Option.some Jvm.ClassFile.FieldType.int)) ∈ lw_all := lw_g (lw_at lw_m10 177 rfl) rfl
theorem q3106 : (Jvm.Cond.selects "LetMill$AnyPat" ({ cls := "LetMill$Pat", name := "fits", desc := "(LLetMill$Machine;I)Z" } : Jvm.MethodName) ({ cls := "LetMill$AnyPat", name := "fits", desc := "(LLetMill$Machine;I)Z" } : Jvm.MethodName)) ∈ lw_all := lw_g (lw_at lw_m13 16 rfl) rfl
theorem q3107 : (Jvm.Cond.instanceMethod ({ cls := "LetMill$AnyPat", name := "fits", desc := "(LLetMill$Machine;I)Z" } : Jvm.MethodName)) ∈ lw_all := lw_g (lw_at lw_m13 17 rfl) rfl
theorem q3108 : (Jvm.Cond.code ({ cls := "LetMill$AnyPat", name := "fits", desc := "(LLetMill$Machine;I)Z" } : Jvm.MethodName) prog_2_method_4_code (3 : Nat) (Option.some Jvm.ClassFile.FieldType.boolean)) ∈ lw_all := lw_g (lw_at lw_m13 18 rfl) rfl
theorem q3168 : (Jvm.Cond.selects "LetMill$AnyPat" ({ cls := "LetMill$Pat", name := "bind", desc := "(LLetMill$Machine;II)I" } : Jvm.MethodName) ({ cls := "LetMill$Pat", name := "bind", desc := "(LLetMill$Machine;II)I" } : Jvm.MethodName)) ∈ lw_all := lw_g (lw_at lw_m13 78 rfl) rfl
theorem q4541 : (Jvm.Cond.castable "LetMill$AnyPat" "LetMill$Pat") ∈ lw_tbl := lw_at lw_m19 11 rfl
def RX22 : String := "LetMill$NamePat"
abbrev cX22_init : ByteArray := prog_30_method_1_code
def yX22_init : MethodName := ⟨RX22, "<init>", "(I)V"⟩
abbrev cX22_resolveFrom : ByteArray := prog_30_method_2_code
def yX22_resolveFrom : MethodName := ⟨RX22, "resolveFrom", "(LLetMill$Scope;I)V"⟩
abbrev cX22_infer : ByteArray := prog_30_method_3_code
def yX22_infer : MethodName := ⟨RX22, "infer", "(LLetMill$Typer;)I"⟩
abbrev cX22_shape : ByteArray := prog_30_method_6_code
def yX22_shape : MethodName := ⟨RX22, "shape", "(LLetMill$Matches;)I"⟩
abbrev cX22_fits : ByteArray := prog_30_method_4_code
def yX22_fits : MethodName := ⟨RX22, "fits", "(LLetMill$Machine;I)Z"⟩
abbrev cX22_bind : ByteArray := prog_30_method_5_code
def yX22_bind : MethodName := ⟨RX22, "bind", "(LLetMill$Machine;II)I"⟩
theorem q243 : (Jvm.Cond.initialized "LetMill$NamePat") ∈ lw_all := lw_g (lw_at lw_m1 33 rfl) rfl
theorem q803 : (Jvm.Cond.fieldLink "LetMill$NamePat" (23 : Nat) "LetMill$Typer" "types" "LLetMill$Types;") ∈ lw_all := lw_g (lw_at lw_m3 113 rfl) rfl
theorem q923 : (Jvm.Cond.fieldLink "LetMill$NamePat" (35 : Nat) "LetMill$Binding" "type" "I") ∈ lw_all := lw_g (lw_at lw_m3 233 rfl) rfl
theorem q1350 : (Jvm.Cond.fieldLink "LetMill$NamePat" (7 : Nat) "LetMill$NamePat" "token" "I") ∈ lw_all := lw_g (lw_at lw_m5 180 rfl) rfl
theorem q1351 : (Jvm.Cond.sameField "LetMill$NamePat" "LetMill$Pat" "token" "I") ∈ lw_all := lw_g (lw_at lw_m5 181 rfl) rfl
theorem q1361 : (Jvm.Cond.instantiable "LetMill$NamePat" (2 : Nat)) ∈ lw_all := lw_g (lw_at lw_m5 191 rfl) rfl
theorem q1363 : (Jvm.Cond.instanceMethod ({ cls := "LetMill$NamePat", name := "<init>", desc := "(I)V" } : Jvm.MethodName)) ∈ lw_all := lw_g (lw_at lw_m5 193 rfl) rfl
theorem q1364 : (Jvm.Cond.code ({ cls := "LetMill$NamePat", name := "<init>", desc := "(I)V" } : Jvm.MethodName) prog_30_method_1_code (2 : Nat) (Option.none : Option Jvm.ClassFile.FieldType)) ∈ lw_all := lw_g (lw_at lw_m5 194 rfl) rfl
theorem q1365 : (Jvm.Cond.methodLink "LetMill$NamePat" (1 : Nat) ({ cls := "LetMill$Pat", name := "<init>", desc := "(I)V" } : Jvm.MethodName)) ∈ lw_all := lw_g (lw_at lw_m5 195 rfl) rfl
theorem q1366 : (Jvm.Cond.fieldLink "LetMill$NamePat" (19 : Nat) "LetMill$NamePat" "b" "LLetMill$Binding;") ∈ lw_all := lw_g (lw_at lw_m5 196 rfl) rfl
theorem q1367 : (Jvm.Cond.lays "LetMill$NamePat" "LetMill$NamePat" "b" "LLetMill$Binding;") ∈ lw_all := lw_g (lw_at lw_m5 197 rfl) rfl
theorem q1369 : (Jvm.Cond.laysFinal "LetMill$NamePat" "LetMill$Pat" "token" "I") ∈ lw_all := lw_g (lw_at lw_m5 199 rfl) rfl
theorem q2229 : (Jvm.Cond.instanceMethod ({ cls := "LetMill$NamePat", name := "resolveFrom", desc := "(LLetMill$Scope;I)V" } : Jvm.MethodName)) ∈ lw_all := lw_g (lw_at lw_m9 99 rfl) rfl
theorem q2230 : (Jvm.Cond.code ({ cls := "LetMill$NamePat", name := "resolveFrom", desc := "(LLetMill$Scope;I)V" } : Jvm.MethodName) prog_30_method_2_code (3 : Nat) (Option.none : Option Jvm.ClassFile.FieldType)) ∈ lw_all := lw_g (lw_at lw_m9 100 rfl) rfl
theorem q2231 : (Jvm.Cond.methodLink "LetMill$NamePat" (13 : Nat) ({ cls := "LetMill$Scope", name := "bind", desc := "(II)LLetMill$Binding;" } : Jvm.MethodName)) ∈ lw_all := lw_g (lw_at lw_m9 101 rfl) rfl
theorem q2244 : (Jvm.Cond.selects "LetMill$NamePat" ({ cls := "LetMill$Pat", name := "resolveFrom", desc := "(LLetMill$Scope;I)V" } : Jvm.MethodName) ({ cls := "LetMill$NamePat", name := "resolveFrom", desc := "(LLetMill$Scope;I)V" } : Jvm.MethodName)) ∈ lw_all := lw_g (lw_at lw_m9 114 rfl) rfl
theorem q2466 : (Jvm.Cond.instanceMethod ({ cls := "LetMill$NamePat", name := "infer", desc := "(LLetMill$Typer;)I" } : Jvm.MethodName)) ∈ lw_all := lw_g (lw_at lw_m10 96 rfl) rfl
theorem q2467 : (Jvm.Cond.code ({ cls := "LetMill$NamePat", name := "infer", desc := "(LLetMill$Typer;)I" } : Jvm.MethodName) prog_30_method_3_code (2 : Nat) (Option.some Jvm.ClassFile.FieldType.int)) ∈ lw_all := lw_g (lw_at lw_m10 97 rfl) rfl
theorem q2468 : (Jvm.Cond.methodLink "LetMill$NamePat" (29 : Nat) ({ cls := "LetMill$Types", name := "variable", desc := "()I" } : Jvm.MethodName)) ∈ lw_all := lw_g (lw_at lw_m10 98 rfl) rfl
theorem q2469 : (Jvm.Cond.methodLink "LetMill$NamePat" (40 : Nat) ({ cls := "LetMill$Typer", name := "push", desc := "(LLetMill$Binding;)V" } : Jvm.MethodName)) ∈ lw_all := lw_g (lw_at lw_m10 99 rfl) rfl
theorem q2504 : (Jvm.Cond.selects "LetMill$NamePat" ({ cls := "LetMill$Pat", name := "infer", desc := "(LLetMill$Typer;)I" } : Jvm.MethodName) ({ cls := "LetMill$NamePat", name := "infer", desc := "(LLetMill$Typer;)I" } : Jvm.MethodName)) ∈ lw_all := lw_g (lw_at lw_m10 134 rfl) rfl
theorem q2567 : (Jvm.Cond.instanceMethod ({ cls := "LetMill$NamePat", name := "shape", desc := "(LLetMill$Matches;)I" } : Jvm.MethodName)) ∈ lw_all := lw_g (lw_at lw_m10 197 rfl) rfl
theorem q2568 : (Jvm.Cond.code ({ cls := "LetMill$NamePat", name := "shape", desc := "(LLetMill$Matches;)I" } : Jvm.MethodName) prog_30_method_6_code (2 : Nat) (Option.some Jvm.ClassFile.FieldType.int)) ∈ lw_all := lw_g (lw_at lw_m10 198 rfl) rfl
theorem q2595 : (Jvm.Cond.selects "LetMill$NamePat" ({ cls := "LetMill$Pat", name := "shape", desc := "(LLetMill$Matches;)I" } : Jvm.MethodName) ({ cls := "LetMill$NamePat", name := "shape", desc := "(LLetMill$Matches;)I" } : Jvm.MethodName)) ∈ lw_all := lw_g (lw_at lw_m10 225 rfl) rfl
theorem q3136 : (Jvm.Cond.instanceMethod ({ cls := "LetMill$NamePat", name := "fits", desc := "(LLetMill$Machine;I)Z" } : Jvm.MethodName)) ∈ lw_all := lw_g (lw_at lw_m13 46 rfl) rfl
theorem q3137 : (Jvm.Cond.code ({ cls := "LetMill$NamePat", name := "fits", desc := "(LLetMill$Machine;I)Z" } : Jvm.MethodName) prog_30_method_4_code (3 : Nat) (Option.some Jvm.ClassFile.FieldType.boolean)) ∈ lw_all := lw_g (lw_at lw_m13 47 rfl) rfl
theorem q3160 : (Jvm.Cond.selects "LetMill$NamePat" ({ cls := "LetMill$Pat", name := "fits", desc := "(LLetMill$Machine;I)Z" } : Jvm.MethodName) ({ cls := "LetMill$NamePat", name := "fits", desc := "(LLetMill$Machine;I)Z" } : Jvm.MethodName)) ∈ lw_all := lw_g (lw_at lw_m13 70 rfl) rfl
theorem q3179 : (Jvm.Cond.instanceMethod ({ cls := "LetMill$NamePat", name := "bind", desc := "(LLetMill$Machine;II)I" } : Jvm.MethodName)) ∈ lw_all := lw_g (lw_at lw_m13 89 rfl) rfl
theorem q3180 : (Jvm.Cond.code ({ cls := "LetMill$NamePat", name := "bind", desc := "(LLetMill$Machine;II)I" } : Jvm.MethodName) prog_30_method_5_code (4 : Nat) (Option.some Jvm.ClassFile.FieldType.int)) ∈ lw_all := lw_g (lw_at lw_m13 90 rfl) rfl
theorem q3181 : (Jvm.Cond.methodLink "LetMill$NamePat" (44 : Nat) ({ cls := "LetMill$Machine", name := "bound", desc := "(II)I" } : Jvm.MethodName)) ∈ lw_all := lw_g (lw_at lw_m13 91 rfl) rfl
theorem q3190 : (Jvm.Cond.selects "LetMill$NamePat" ({ cls := "LetMill$Pat", name := "bind", desc := "(LLetMill$Machine;II)I" } : Jvm.MethodName) ({ cls := "LetMill$NamePat", name := "bind", desc := "(LLetMill$Machine;II)I" } : Jvm.MethodName)) ∈ lw_all := lw_g (lw_at lw_m13 100 rfl) rfl
theorem q4545 : (Jvm.Cond.castable "LetMill$NamePat" "LetMill$Pat") ∈ lw_tbl := lw_at lw_m19 15 rfl
def RX23 : String := "LetMill$NumberPat"
abbrev cX23_init : ByteArray := prog_32_method_1_code
def yX23_init : MethodName := ⟨RX23, "<init>", "(IJZ)V"⟩
abbrev cX23_resolveFrom : ByteArray := prog_32_method_2_code
def yX23_resolveFrom : MethodName := ⟨RX23, "resolveFrom", "(LLetMill$Scope;I)V"⟩
abbrev cX23_infer : ByteArray := prog_32_method_3_code
def yX23_infer : MethodName := ⟨RX23, "infer", "(LLetMill$Typer;)I"⟩
abbrev cX23_shape : ByteArray := prog_32_method_5_code
def yX23_shape : MethodName := ⟨RX23, "shape", "(LLetMill$Matches;)I"⟩
abbrev cX23_fits : ByteArray := prog_32_method_4_code
def yX23_fits : MethodName := ⟨RX23, "fits", "(LLetMill$Machine;I)Z"⟩
theorem q244 : (Jvm.Cond.initialized "LetMill$NumberPat") ∈ lw_all := lw_g (lw_at lw_m1 34 rfl) rfl
theorem q495 : (Jvm.Cond.fieldLink "LetMill$NumberPat" (28 : Nat) "LetMill$Types" "whole" "I") ∈ lw_all := lw_g (lw_at lw_m2 45 rfl) rfl
theorem q498 : (Jvm.Cond.fieldLink "LetMill$NumberPat" (23 : Nat) "LetMill$Types" "truth" "I") ∈ lw_all := lw_g (lw_at lw_m2 48 rfl) rfl
theorem q804 : (Jvm.Cond.fieldLink "LetMill$NumberPat" (17 : Nat) "LetMill$Typer" "types" "LLetMill$Types;") ∈ lw_all := lw_g (lw_at lw_m3 114 rfl) rfl
theorem q1384 : (Jvm.Cond.instantiable "LetMill$NumberPat" (3 : Nat)) ∈ lw_all := lw_g (lw_at lw_m5 214 rfl) rfl
theorem q1386 : (Jvm.Cond.instanceMethod ({ cls := "LetMill$NumberPat", name := "<init>", desc := "(IJZ)V" } : Jvm.MethodName)) ∈ lw_all := lw_g (lw_at lw_m5 216 rfl) rfl
theorem q1387 : (Jvm.Cond.code ({ cls := "LetMill$NumberPat", name := "<init>", desc := "(IJZ)V" } : Jvm.MethodName) prog_32_method_1_code (5 : Nat) (Option.none : Option Jvm.ClassFile.FieldType)) ∈ lw_all := lw_g (lw_at lw_m5 217 rfl) rfl
theorem q1388 : (Jvm.Cond.methodLink "LetMill$NumberPat" (1 : Nat) ({ cls := "LetMill$Pat", name := "<init>", desc := "(I)V" } : Jvm.MethodName)) ∈ lw_all := lw_g (lw_at lw_m5 218 rfl) rfl
theorem q1389 : (Jvm.Cond.fieldLink "LetMill$NumberPat" (7 : Nat) "LetMill$NumberPat" "value" "I") ∈ lw_all := lw_g (lw_at lw_m5 219 rfl) rfl
theorem q1390 : (Jvm.Cond.fieldLink "LetMill$NumberPat" (13 : Nat) "LetMill$NumberPat" "isTruth" "Z") ∈ lw_all := lw_g (lw_at lw_m5 220 rfl) rfl
theorem q1391 : (Jvm.Cond.laysFinal "LetMill$NumberPat" "LetMill$NumberPat" "value" "I") ∈ lw_all := lw_g (lw_at lw_m5 221 rfl) rfl
theorem q1393 : (Jvm.Cond.laysFinal "LetMill$NumberPat" "LetMill$NumberPat" "isTruth" "Z") ∈ lw_all := lw_g (lw_at lw_m5 223 rfl) rfl
theorem q1395 : (Jvm.Cond.laysFinal "LetMill$NumberPat" "LetMill$Pat" "token" "I") ∈ lw_all := lw_g (lw_at lw_m5 225 rfl) rfl
theorem q2232 : (Jvm.Cond.instanceMethod ({ cls := "LetMill$NumberPat", name := "resolveFrom", desc := "(LLetMill$Scope;I)V" } : Jvm.MethodName)) ∈ lw_all := lw_g (lw_at lw_m9 102 rfl) rfl
theorem q2233 : (Jvm.Cond.code ({ cls := "LetMill$NumberPat", name := "resolveFrom", desc := "(LLetMill$Scope;I)V" } : Jvm.MethodName) prog_32_method_2_code (3 : Nat) (Option.none : Option Jvm.ClassFile.FieldType)) ∈ lw_all := lw_g (lw_at lw_m9 103 rfl) rfl
theorem q2245 : (Jvm.Cond.selects "LetMill$NumberPat" ({ cls := "LetMill$Pat", name := "resolveFrom", desc := "(LLetMill$Scope;I)V" } : Jvm.MethodName) ({ cls := "LetMill$NumberPat", name := "resolveFrom", desc := "(LLetMill$Scope;I)V" } : Jvm.MethodName)) ∈ lw_all := lw_g (lw_at lw_m9 115 rfl) rfl
theorem q2470 : (Jvm.Cond.instanceMethod ({ cls := "LetMill$NumberPat", name := "infer", desc := "(LLetMill$Typer;)I" } : Jvm.MethodName)) ∈ lw_all := lw_g (lw_at lw_m10 100 rfl) rfl
theorem q2471 : (Jvm.Cond.code ({ cls := "LetMill$NumberPat", name := "infer", desc := "(LLetMill$Typer;)I" } : Jvm.MethodName) prog_32_method_3_code (2 : Nat) (Option.some Jvm.ClassFile.FieldType.int)) ∈ lw_all := lw_g (lw_at lw_m10 101 rfl) rfl
theorem q2505 : (Jvm.Cond.selects "LetMill$NumberPat" ({ cls := "LetMill$Pat", name := "infer", desc := "(LLetMill$Typer;)I" } : Jvm.MethodName) ({ cls := "LetMill$NumberPat", name := "infer", desc := "(LLetMill$Typer;)I" } : Jvm.MethodName)) ∈ lw_all := lw_g (lw_at lw_m10 135 rfl) rfl
theorem q2569 : (Jvm.Cond.instanceMethod ({ cls := "LetMill$NumberPat", name := "shape", desc := "(LLetMill$Matches;)I" } : Jvm.MethodName)) ∈ lw_all := lw_g (lw_at lw_m10 199 rfl) rfl
theorem q2570 : (Jvm.Cond.code ({ cls := "LetMill$NumberPat", name := "shape", desc := "(LLetMill$Matches;)I" } : Jvm.MethodName) prog_32_method_5_code (2 : Nat) (Option.some Jvm.ClassFile.FieldType.int)) ∈ lw_all := lw_g (lw_at lw_m10 200 rfl) rfl
theorem q2571 : (Jvm.Cond.methodLink "LetMill$NumberPat" (40 : Nat) ({ cls := "LetMill$Matches", name := "node", desc := "(II)I" } : Jvm.MethodName)) ∈ lw_all := lw_g (lw_at lw_m10 201 rfl) rfl
theorem q2596 : (Jvm.Cond.selects "LetMill$NumberPat" ({ cls := "LetMill$Pat", name := "shape", desc := "(LLetMill$Matches;)I" } : Jvm.MethodName) ({ cls := "LetMill$NumberPat", name := "shape", desc := "(LLetMill$Matches;)I" } : Jvm.MethodName)) ∈ lw_all := lw_g (lw_at lw_m10 226 rfl) rfl
theorem q3138 : (Jvm.Cond.instanceMethod ({ cls := "LetMill$NumberPat", name := "fits", desc := "(LLetMill$Machine;I)Z" } : Jvm.MethodName)) ∈ lw_all := lw_g (lw_at lw_m13 48 rfl) rfl
theorem q3139 : (Jvm.Cond.code ({ cls := "LetMill$NumberPat", name := "fits", desc := "(LLetMill$Machine;I)Z" } : Jvm.MethodName) prog_32_method_4_code (3 : Nat) (Option.some Jvm.ClassFile.FieldType.boolean)) ∈ lw_all := lw_g (lw_at lw_m13 49 rfl) rfl
theorem q3140 : (Jvm.Cond.methodLink "LetMill$NumberPat" (31 : Nat) ({ cls := "LetMill$Machine", name := "isTrue", desc := "(I)Z" } : Jvm.MethodName)) ∈ lw_all := lw_g (lw_at lw_m13 50 rfl) rfl
theorem q3141 : (Jvm.Cond.methodLink "LetMill$NumberPat" (37 : Nat) ({ cls := "LetMill$Machine", name := "whole", desc := "(I)I" } : Jvm.MethodName)) ∈ lw_all := lw_g (lw_at lw_m13 51 rfl) rfl
theorem q3161 : (Jvm.Cond.selects "LetMill$NumberPat" ({ cls := "LetMill$Pat", name := "fits", desc := "(LLetMill$Machine;I)Z" } : Jvm.MethodName) ({ cls := "LetMill$NumberPat", name := "fits", desc := "(LLetMill$Machine;I)Z" } : Jvm.MethodName)) ∈ lw_all := lw_g (lw_at lw_m13 71 rfl) rfl
theorem q3191 : (Jvm.Cond.selects "LetMill$NumberPat" ({ cls := "LetMill$Pat", name := "bind", desc := "(LLetMill$Machine;II)I" } : Jvm.MethodName) ({ cls := "LetMill$Pat", name := "bind", desc := "(LLetMill$Machine;II)I" } : Jvm.MethodName)) ∈ lw_all := lw_g (lw_at lw_m13 101 rfl) rfl
theorem q4546 : (Jvm.Cond.castable "LetMill$NumberPat" "LetMill$Pat") ∈ lw_tbl := lw_at lw_m19 16 rfl
def RX24 : String := "LetMill$ListPat"
abbrev cX24_init : ByteArray := prog_26_method_1_code
def yX24_init : MethodName := ⟨RX24, "<init>", "(I[LLetMill$Pat;)V"⟩
abbrev cX24_resolveFrom : ByteArray := prog_26_method_2_code
def yX24_resolveFrom : MethodName := ⟨RX24, "resolveFrom", "(LLetMill$Scope;I)V"⟩
abbrev cX24_infer : ByteArray := prog_26_method_3_code
def yX24_infer : MethodName := ⟨RX24, "infer", "(LLetMill$Typer;)I"⟩
abbrev cX24_shape : ByteArray := prog_26_method_6_code
def yX24_shape : MethodName := ⟨RX24, "shape", "(LLetMill$Matches;)I"⟩
abbrev cX24_fits : ByteArray := prog_26_method_4_code
def yX24_fits : MethodName := ⟨RX24, "fits", "(LLetMill$Machine;I)Z"⟩
abbrev cX24_bind : ByteArray := prog_26_method_5_code
def yX24_bind : MethodName := ⟨RX24, "bind", "(LLetMill$Machine;II)I"⟩
theorem q245 : (Jvm.Cond.initialized "LetMill$ListPat") ∈ lw_all := lw_g (lw_at lw_m1 35 rfl) rfl
theorem q806 : (Jvm.Cond.fieldLink "LetMill$ListPat" (17 : Nat) "LetMill$Typer" "types" "LLetMill$Types;") ∈ lw_all := lw_g (lw_at lw_m3 116 rfl) rfl
theorem q1354 : (Jvm.Cond.fieldLink "LetMill$ListPat" (37 : Nat) "LetMill$Pat" "token" "I") ∈ lw_all := lw_g (lw_at lw_m5 184 rfl) rfl
theorem q1403 : (Jvm.Cond.instantiable "LetMill$ListPat" (2 : Nat)) ∈ lw_all := lw_g (lw_at lw_m5 233 rfl) rfl
theorem q1419 : (Jvm.Cond.instanceMethod ({ cls := "LetMill$ListPat", name := "<init>", desc := "(I[LLetMill$Pat;)V" } : Jvm.MethodName)) ∈ lw_all := lw_g (lw_at lw_m6 9 rfl) rfl
theorem q1420 : (Jvm.Cond.code ({ cls := "LetMill$ListPat", name := "<init>", desc := "(I[LLetMill$Pat;)V" } : Jvm.MethodName) prog_26_method_1_code (3 : Nat) (Option.none : Option Jvm.ClassFile.FieldType)) ∈ lw_all := lw_g (lw_at lw_m6 10 rfl) rfl
theorem q1421 : (Jvm.Cond.methodLink "LetMill$ListPat" (1 : Nat) ({ cls := "LetMill$Pat", name := "<init>", desc := "(I)V" } : Jvm.MethodName)) ∈ lw_all := lw_g (lw_at lw_m6 11 rfl) rfl
theorem q1422 : (Jvm.Cond.fieldLink "LetMill$ListPat" (7 : Nat) "LetMill$ListPat" "of" "[LLetMill$Pat;") ∈ lw_all := lw_g (lw_at lw_m6 12 rfl) rfl
theorem q1423 : (Jvm.Cond.laysFinal "LetMill$ListPat" "LetMill$ListPat" "of" "[LLetMill$Pat;") ∈ lw_all := lw_g (lw_at lw_m6 13 rfl) rfl
theorem q1425 : (Jvm.Cond.laysFinal "LetMill$ListPat" "LetMill$Pat" "token" "I") ∈ lw_all := lw_g (lw_at lw_m6 15 rfl) rfl
theorem q2226 : (Jvm.Cond.instanceMethod ({ cls := "LetMill$ListPat", name := "resolveFrom", desc := "(LLetMill$Scope;I)V" } : Jvm.MethodName)) ∈ lw_all := lw_g (lw_at lw_m9 96 rfl) rfl
theorem q2227 : (Jvm.Cond.code ({ cls := "LetMill$ListPat", name := "resolveFrom", desc := "(LLetMill$Scope;I)V" } : Jvm.MethodName) prog_26_method_2_code (4 : Nat) (Option.none : Option Jvm.ClassFile.FieldType)) ∈ lw_all := lw_g (lw_at lw_m9 97 rfl) rfl
theorem q2228 : (Jvm.Cond.methodLink "LetMill$ListPat" (13 : Nat) ({ cls := "LetMill$Pat", name := "resolveFrom", desc := "(LLetMill$Scope;I)V" } : Jvm.MethodName)) ∈ lw_all := lw_g (lw_at lw_m9 98 rfl) rfl
theorem q2243 : (Jvm.Cond.selects "LetMill$ListPat" ({ cls := "LetMill$Pat", name := "resolveFrom", desc := "(LLetMill$Scope;I)V" } : Jvm.MethodName) ({ cls := "LetMill$ListPat", name := "resolveFrom", desc := "(LLetMill$Scope;I)V" } : Jvm.MethodName)) ∈ lw_all := lw_g (lw_at lw_m9 113 rfl) rfl
theorem q2461 : (Jvm.Cond.instanceMethod ({ cls := "LetMill$ListPat", name := "infer", desc := "(LLetMill$Typer;)I" } : Jvm.MethodName)) ∈ lw_all := lw_g (lw_at lw_m10 91 rfl) rfl
theorem q2462 : (Jvm.Cond.code ({ cls := "LetMill$ListPat", name := "infer", desc := "(LLetMill$Typer;)I" } : Jvm.MethodName) prog_26_method_3_code (5 : Nat) (Option.some Jvm.ClassFile.FieldType.int)) ∈ lw_all := lw_g (lw_at lw_m10 92 rfl) rfl
theorem q2463 : (Jvm.Cond.methodLink "LetMill$ListPat" (25 : Nat) ({ cls := "LetMill$Types", name := "variable", desc := "()I" } : Jvm.MethodName)) ∈ lw_all := lw_g (lw_at lw_m10 93 rfl) rfl
theorem q2464 : (Jvm.Cond.methodLink "LetMill$ListPat" (29 : Nat) ({ cls := "LetMill$Types", name := "built", desc := "(II)I" } : Jvm.MethodName)) ∈ lw_all := lw_g (lw_at lw_m10 94 rfl) rfl
theorem q2465 : (Jvm.Cond.methodLink "LetMill$ListPat" (33 : Nat) ({ cls := "LetMill$Pat", name := "infer", desc := "(LLetMill$Typer;)I" } : Jvm.MethodName)) ∈ lw_all := lw_g (lw_at lw_m10 95 rfl) rfl
theorem q2500 : (Jvm.Cond.methodLink "LetMill$ListPat" (41 : Nat) ({ cls := "LetMill$Typer", name := "same", desc := "(III)V" } : Jvm.MethodName)) ∈ lw_all := lw_g (lw_at lw_m10 130 rfl) rfl
theorem q2503 : (Jvm.Cond.selects "LetMill$ListPat" ({ cls := "LetMill$Pat", name := "infer", desc := "(LLetMill$Typer;)I" } : Jvm.MethodName) ({ cls := "LetMill$ListPat", name := "infer", desc := "(LLetMill$Typer;)I" } : Jvm.MethodName)) ∈ lw_all := lw_g (lw_at lw_m10 133 rfl) rfl
theorem q2563 : (Jvm.Cond.instanceMethod ({ cls := "LetMill$ListPat", name := "shape", desc := "(LLetMill$Matches;)I" } : Jvm.MethodName)) ∈ lw_all := lw_g (lw_at lw_m10 193 rfl) rfl
theorem q2564 : (Jvm.Cond.code ({ cls := "LetMill$ListPat", name := "shape", desc := "(LLetMill$Matches;)I" } : Jvm.MethodName) prog_26_method_6_code (4 : Nat) (Option.some Jvm.ClassFile.FieldType.int)) ∈ lw_all := lw_g (lw_at lw_m10 194 rfl) rfl
theorem q2565 : (Jvm.Cond.methodLink "LetMill$ListPat" (66 : Nat) ({ cls := "LetMill$Matches", name := "node", desc := "(II)I" } : Jvm.MethodName)) ∈ lw_all := lw_g (lw_at lw_m10 195 rfl) rfl
theorem q2566 : (Jvm.Cond.methodLink "LetMill$ListPat" (71 : Nat) ({ cls := "LetMill$Pat", name := "shape", desc := "(LLetMill$Matches;)I" } : Jvm.MethodName)) ∈ lw_all := lw_g (lw_at lw_m10 196 rfl) rfl
theorem q2588 : (Jvm.Cond.methodLink "LetMill$ListPat" (75 : Nat) ({ cls := "LetMill$Matches", name := "pair", desc := "(II)I" } : Jvm.MethodName)) ∈ lw_all := lw_g (lw_at lw_m10 218 rfl) rfl
theorem q2594 : (Jvm.Cond.selects "LetMill$ListPat" ({ cls := "LetMill$Pat", name := "shape", desc := "(LLetMill$Matches;)I" } : Jvm.MethodName) ({ cls := "LetMill$ListPat", name := "shape", desc := "(LLetMill$Matches;)I" } : Jvm.MethodName)) ∈ lw_all := lw_g (lw_at lw_m10 224 rfl) rfl
theorem q3125 : (Jvm.Cond.instanceMethod ({ cls := "LetMill$ListPat", name := "fits", desc := "(LLetMill$Machine;I)Z" } : Jvm.MethodName)) ∈ lw_all := lw_g (lw_at lw_m13 35 rfl) rfl
theorem q3126 : (Jvm.Cond.code ({ cls := "LetMill$ListPat", name := "fits", desc := "(LLetMill$Machine;I)Z" } : Jvm.MethodName) prog_26_method_4_code (5 : Nat) (Option.some Jvm.ClassFile.FieldType.boolean)) ∈ lw_all := lw_g (lw_at lw_m13 36 rfl) rfl
theorem q3127 : (Jvm.Cond.methodLink "LetMill$ListPat" (45 : Nat) ({ cls := "LetMill$Machine", name := "isPair", desc := "(I)Z" } : Jvm.MethodName)) ∈ lw_all := lw_g (lw_at lw_m13 37 rfl) rfl
theorem q3131 : (Jvm.Cond.methodLink "LetMill$ListPat" (51 : Nat) ({ cls := "LetMill$Machine", name := "head", desc := "(I)I" } : Jvm.MethodName)) ∈ lw_all := lw_g (lw_at lw_m13 41 rfl) rfl
theorem q3135 : (Jvm.Cond.methodLink "LetMill$ListPat" (55 : Nat) ({ cls := "LetMill$Pat", name := "fits", desc := "(LLetMill$Machine;I)Z" } : Jvm.MethodName)) ∈ lw_all := lw_g (lw_at lw_m13 45 rfl) rfl
theorem q3157 : (Jvm.Cond.methodLink "LetMill$ListPat" (59 : Nat) ({ cls := "LetMill$Machine", name := "tail", desc := "(I)I" } : Jvm.MethodName)) ∈ lw_all := lw_g (lw_at lw_m13 67 rfl) rfl
theorem q3159 : (Jvm.Cond.selects "LetMill$ListPat" ({ cls := "LetMill$Pat", name := "fits", desc := "(LLetMill$Machine;I)Z" } : Jvm.MethodName) ({ cls := "LetMill$ListPat", name := "fits", desc := "(LLetMill$Machine;I)Z" } : Jvm.MethodName)) ∈ lw_all := lw_g (lw_at lw_m13 69 rfl) rfl
theorem q3176 : (Jvm.Cond.instanceMethod ({ cls := "LetMill$ListPat", name := "bind", desc := "(LLetMill$Machine;II)I" } : Jvm.MethodName)) ∈ lw_all := lw_g (lw_at lw_m13 86 rfl) rfl
theorem q3177 : (Jvm.Cond.code ({ cls := "LetMill$ListPat", name := "bind", desc := "(LLetMill$Machine;II)I" } : Jvm.MethodName) prog_26_method_5_code (7 : Nat) (Option.some Jvm.ClassFile.FieldType.int)) ∈ lw_all := lw_g (lw_at lw_m13 87 rfl) rfl
theorem q3178 : (Jvm.Cond.methodLink "LetMill$ListPat" (62 : Nat) ({ cls := "LetMill$Pat", name := "bind", desc := "(LLetMill$Machine;II)I" } : Jvm.MethodName)) ∈ lw_all := lw_g (lw_at lw_m13 88 rfl) rfl
theorem q3189 : (Jvm.Cond.selects "LetMill$ListPat" ({ cls := "LetMill$Pat", name := "bind", desc := "(LLetMill$Machine;II)I" } : Jvm.MethodName) ({ cls := "LetMill$ListPat", name := "bind", desc := "(LLetMill$Machine;II)I" } : Jvm.MethodName)) ∈ lw_all := lw_g (lw_at lw_m13 99 rfl) rfl
theorem q4544 : (Jvm.Cond.castable "LetMill$ListPat" "LetMill$Pat") ∈ lw_tbl := lw_at lw_m19 14 rfl
def RX25 : String := "LetMill$UnitPat"
abbrev cX25_init : ByteArray := prog_55_method_1_code
def yX25_init : MethodName := ⟨RX25, "<init>", "(I)V"⟩
abbrev cX25_resolveFrom : ByteArray := prog_55_method_2_code
def yX25_resolveFrom : MethodName := ⟨RX25, "resolveFrom", "(LLetMill$Scope;I)V"⟩
abbrev cX25_infer : ByteArray := prog_55_method_3_code
def yX25_infer : MethodName := ⟨RX25, "infer", "(LLetMill$Typer;)I"⟩
abbrev cX25_shape : ByteArray := prog_55_method_5_code
def yX25_shape : MethodName := ⟨RX25, "shape", "(LLetMill$Matches;)I"⟩
abbrev cX25_fits : ByteArray := prog_55_method_4_code
def yX25_fits : MethodName := ⟨RX25, "fits", "(LLetMill$Machine;I)Z"⟩
theorem q246 : (Jvm.Cond.initialized "LetMill$UnitPat") ∈ lw_all := lw_g (lw_at lw_m1 36 rfl) rfl
theorem q503 : (Jvm.Cond.fieldLink "LetMill$UnitPat" (13 : Nat) "LetMill$Types" "unit" "I") ∈ lw_all := lw_g (lw_at lw_m2 53 rfl) rfl
theorem q801 : (Jvm.Cond.fieldLink "LetMill$UnitPat" (7 : Nat) "LetMill$Typer" "types" "LLetMill$Types;") ∈ lw_all := lw_g (lw_at lw_m3 111 rfl) rfl
theorem q1428 : (Jvm.Cond.instantiable "LetMill$UnitPat" (1 : Nat)) ∈ lw_all := lw_g (lw_at lw_m6 18 rfl) rfl
theorem q1430 : (Jvm.Cond.instanceMethod ({ cls := "LetMill$UnitPat", name := "<init>", desc := "(I)V" } : Jvm.MethodName)) ∈ lw_all := lw_g (lw_at lw_m6 20 rfl) rfl
theorem q1431 : (Jvm.Cond.code ({ cls := "LetMill$UnitPat", name := "<init>", desc := "(I)V" } : Jvm.MethodName) prog_55_method_1_code (2 : Nat) (Option.none : Option Jvm.ClassFile.FieldType)) ∈ lw_all := lw_g (lw_at lw_m6 21 rfl) rfl
theorem q1432 : (Jvm.Cond.methodLink "LetMill$UnitPat" (1 : Nat) ({ cls := "LetMill$Pat", name := "<init>", desc := "(I)V" } : Jvm.MethodName)) ∈ lw_all := lw_g (lw_at lw_m6 22 rfl) rfl
theorem q1433 : (Jvm.Cond.laysFinal "LetMill$UnitPat" "LetMill$Pat" "token" "I") ∈ lw_all := lw_g (lw_at lw_m6 23 rfl) rfl
theorem q2240 : (Jvm.Cond.instanceMethod ({ cls := "LetMill$UnitPat", name := "resolveFrom", desc := "(LLetMill$Scope;I)V" } : Jvm.MethodName)) ∈ lw_all := lw_g (lw_at lw_m9 110 rfl) rfl
theorem q2241 : (Jvm.Cond.code ({ cls := "LetMill$UnitPat", name := "resolveFrom", desc := "(LLetMill$Scope;I)V" } : Jvm.MethodName) prog_55_method_2_code (3 : Nat) (Option.none : Option Jvm.ClassFile.FieldType)) ∈ lw_all := lw_g (lw_at lw_m9 111 rfl) rfl
theorem q2248 : (Jvm.Cond.selects "LetMill$UnitPat" ({ cls := "LetMill$Pat", name := "resolveFrom", desc := "(LLetMill$Scope;I)V" } : Jvm.MethodName) ({ cls := "LetMill$UnitPat", name := "resolveFrom", desc := "(LLetMill$Scope;I)V" } : Jvm.MethodName)) ∈ lw_all := lw_g (lw_at lw_m9 118 rfl) rfl
theorem q2478 : (Jvm.Cond.instanceMethod ({ cls := "LetMill$UnitPat", name := "infer", desc := "(LLetMill$Typer;)I" } : Jvm.MethodName)) ∈ lw_all := lw_g (lw_at lw_m10 108 rfl) rfl
theorem q2479 : (Jvm.Cond.code ({ cls := "LetMill$UnitPat", name := "infer", desc := "(LLetMill$Typer;)I" } : Jvm.MethodName) prog_55_method_3_code (2 : Nat) (Option.some Jvm.ClassFile.FieldType.int)) ∈ lw_all := lw_g (lw_at lw_m10 109 rfl) rfl
theorem q2508 : (Jvm.Cond.selects "LetMill$UnitPat" ({ cls := "LetMill$Pat", name := "infer", desc := "(LLetMill$Typer;)I" } : Jvm.MethodName) ({ cls := "LetMill$UnitPat", name := "infer", desc := "(LLetMill$Typer;)I" } : Jvm.MethodName)) ∈ lw_all := lw_g (lw_at lw_m10 138 rfl) rfl
theorem q2581 : (Jvm.Cond.instanceMethod ({ cls := "LetMill$UnitPat", name := "shape", desc := "(LLetMill$Matches;)I" } : Jvm.MethodName)) ∈ lw_all := lw_g (lw_at lw_m10 211 rfl) rfl
theorem q2582 : (Jvm.Cond.code ({ cls := "LetMill$UnitPat", name := "shape", desc := "(LLetMill$Matches;)I" } : Jvm.MethodName) prog_55_method_5_code (2 : Nat) (Option.some Jvm.ClassFile.FieldType.int)) ∈ lw_all := lw_g (lw_at lw_m10 212 rfl) rfl
theorem q2583 : (Jvm.Cond.methodLink "LetMill$UnitPat" (19 : Nat) ({ cls := "LetMill$Matches", name := "node", desc := "(II)I" } : Jvm.MethodName)) ∈ lw_all := lw_g (lw_at lw_m10 213 rfl) rfl
theorem q2599 : (Jvm.Cond.selects "LetMill$UnitPat" ({ cls := "LetMill$Pat", name := "shape", desc := "(LLetMill$Matches;)I" } : Jvm.MethodName) ({ cls := "LetMill$UnitPat", name := "shape", desc := "(LLetMill$Matches;)I" } : Jvm.MethodName)) ∈ lw_all := lw_g (lw_at lw_m10 229 rfl) rfl
theorem q3151 : (Jvm.Cond.instanceMethod ({ cls := "LetMill$UnitPat", name := "fits", desc := "(LLetMill$Machine;I)Z" } : Jvm.MethodName)) ∈ lw_all := lw_g (lw_at lw_m13 61 rfl) rfl
theorem q3152 : (Jvm.Cond.code ({ cls := "LetMill$UnitPat", name := "fits", desc := "(LLetMill$Machine;I)Z" } : Jvm.MethodName) prog_55_method_4_code (3 : Nat) (Option.some Jvm.ClassFile.FieldType.boolean)) ∈ lw_all := lw_g (lw_at lw_m13 62 rfl) rfl
theorem q3164 : (Jvm.Cond.selects "LetMill$UnitPat" ({ cls := "LetMill$Pat", name := "fits", desc := "(LLetMill$Machine;I)Z" } : Jvm.MethodName) ({ cls := "LetMill$UnitPat", name := "fits", desc := "(LLetMill$Machine;I)Z" } : Jvm.MethodName)) ∈ lw_all := lw_g (lw_at lw_m13 74 rfl) rfl
theorem q3194 : (Jvm.Cond.selects "LetMill$UnitPat" ({ cls := "LetMill$Pat", name := "bind", desc := "(LLetMill$Machine;II)I" } : Jvm.MethodName) ({ cls := "LetMill$Pat", name := "bind", desc := "(LLetMill$Machine;II)I" } : Jvm.MethodName)) ∈ lw_all := lw_g (lw_at lw_m13 104 rfl) rfl
theorem q4549 : (Jvm.Cond.castable "LetMill$UnitPat" "LetMill$Pat") ∈ lw_tbl := lw_at lw_m19 19 rfl
def RX26 : String := "LetMill$GroupPat"
abbrev cX26_init : ByteArray := prog_22_method_1_code
def yX26_init : MethodName := ⟨RX26, "<init>", "(ILLetMill$Pat;)V"⟩
abbrev cX26_resolveFrom : ByteArray := prog_22_method_2_code
def yX26_resolveFrom : MethodName := ⟨RX26, "resolveFrom", "(LLetMill$Scope;I)V"⟩
abbrev cX26_infer : ByteArray := prog_22_method_3_code
def yX26_infer : MethodName := ⟨RX26, "infer", "(LLetMill$Typer;)I"⟩
abbrev cX26_shape : ByteArray := prog_22_method_6_code
def yX26_shape : MethodName := ⟨RX26, "shape", "(LLetMill$Matches;)I"⟩
abbrev cX26_fits : ByteArray := prog_22_method_4_code
def yX26_fits : MethodName := ⟨RX26, "fits", "(LLetMill$Machine;I)Z"⟩
abbrev cX26_bind : ByteArray := prog_22_method_5_code
def yX26_bind : MethodName := ⟨RX26, "bind", "(LLetMill$Machine;II)I"⟩
theorem q247 : (Jvm.Cond.initialized "LetMill$GroupPat") ∈ lw_all := lw_g (lw_at lw_m1 37 rfl) rfl
theorem q1436 : (Jvm.Cond.instantiable "LetMill$GroupPat" (2 : Nat)) ∈ lw_all := lw_g (lw_at lw_m6 26 rfl) rfl
theorem q1438 : (Jvm.Cond.instanceMethod ({ cls := "LetMill$GroupPat", name := "<init>", desc := "(ILLetMill$Pat;)V" } : Jvm.MethodName)) ∈ lw_all := lw_g (lw_at lw_m6 28 rfl) rfl
theorem q1439 : (Jvm.Cond.code ({ cls := "LetMill$GroupPat", name := "<init>", desc := "(ILLetMill$Pat;)V" } : Jvm.MethodName) prog_22_method_1_code (3 : Nat) (Option.none : Option Jvm.ClassFile.FieldType)) ∈ lw_all := lw_g (lw_at lw_m6 29 rfl) rfl
theorem q1440 : (Jvm.Cond.methodLink "LetMill$GroupPat" (1 : Nat) ({ cls := "LetMill$Pat", name := "<init>", desc := "(I)V" } : Jvm.MethodName)) ∈ lw_all := lw_g (lw_at lw_m6 30 rfl) rfl
theorem q1441 : (Jvm.Cond.fieldLink "LetMill$GroupPat" (7 : Nat) "LetMill$GroupPat" "p" "LLetMill$Pat;") ∈ lw_all := lw_g (lw_at lw_m6 31 rfl) rfl
theorem q1442 : (Jvm.Cond.laysFinal "LetMill$GroupPat" "LetMill$GroupPat" "p" "LLetMill$Pat;") ∈ lw_all := lw_g (lw_at lw_m6 32 rfl) rfl
theorem q1444 : (Jvm.Cond.laysFinal "LetMill$GroupPat" "LetMill$Pat" "token" "I") ∈ lw_all := lw_g (lw_at lw_m6 34 rfl) rfl
theorem q2223 : (Jvm.Cond.instanceMethod ({ cls := "LetMill$GroupPat", name := "resolveFrom", desc := "(LLetMill$Scope;I)V" } : Jvm.MethodName)) ∈ lw_all := lw_g (lw_at lw_m9 93 rfl) rfl
theorem q2224 : (Jvm.Cond.code ({ cls := "LetMill$GroupPat", name := "resolveFrom", desc := "(LLetMill$Scope;I)V" } : Jvm.MethodName) prog_22_method_2_code (3 : Nat) (Option.none : Option Jvm.ClassFile.FieldType)) ∈ lw_all := lw_g (lw_at lw_m9 94 rfl) rfl
theorem q2225 : (Jvm.Cond.methodLink "LetMill$GroupPat" (13 : Nat) ({ cls := "LetMill$Pat", name := "resolveFrom", desc := "(LLetMill$Scope;I)V" } : Jvm.MethodName)) ∈ lw_all := lw_g (lw_at lw_m9 95 rfl) rfl
theorem q2242 : (Jvm.Cond.selects "LetMill$GroupPat" ({ cls := "LetMill$Pat", name := "resolveFrom", desc := "(LLetMill$Scope;I)V" } : Jvm.MethodName) ({ cls := "LetMill$GroupPat", name := "resolveFrom", desc := "(LLetMill$Scope;I)V" } : Jvm.MethodName)) ∈ lw_all := lw_g (lw_at lw_m9 112 rfl) rfl
theorem q2458 : (Jvm.Cond.instanceMethod ({ cls := "LetMill$GroupPat", name := "infer", desc := "(LLetMill$Typer;)I" } : Jvm.MethodName)) ∈ lw_all := lw_g (lw_at lw_m10 88 rfl) rfl
theorem q2459 : (Jvm.Cond.code ({ cls := "LetMill$GroupPat", name := "infer", desc := "(LLetMill$Typer;)I" } : Jvm.MethodName) prog_22_method_3_code (2 : Nat) (Option.some Jvm.ClassFile.FieldType.int)) ∈ lw_all := lw_g (lw_at lw_m10 89 rfl) rfl
theorem q2460 : (Jvm.Cond.methodLink "LetMill$GroupPat" (17 : Nat) ({ cls := "LetMill$Pat", name := "infer", desc := "(LLetMill$Typer;)I" } : Jvm.MethodName)) ∈ lw_all := lw_g (lw_at lw_m10 90 rfl) rfl
theorem q2502 : (Jvm.Cond.selects "LetMill$GroupPat" ({ cls := "LetMill$Pat", name := "infer", desc := "(LLetMill$Typer;)I" } : Jvm.MethodName) ({ cls := "LetMill$GroupPat", name := "infer", desc := "(LLetMill$Typer;)I" } : Jvm.MethodName)) ∈ lw_all := lw_g (lw_at lw_m10 132 rfl) rfl
theorem q2560 : (Jvm.Cond.instanceMethod ({ cls := "LetMill$GroupPat", name := "shape", desc := "(LLetMill$Matches;)I" } : Jvm.MethodName)) ∈ lw_all := lw_g (lw_at lw_m10 190 rfl) rfl
theorem q2561 : (Jvm.Cond.code ({ cls := "LetMill$GroupPat", name := "shape", desc := "(LLetMill$Matches;)I" } : Jvm.MethodName) prog_22_method_6_code (2 : Nat) (Option.some Jvm.ClassFile.FieldType.int)) ∈ lw_all := lw_g (lw_at lw_m10 191 rfl) rfl
theorem q2562 : (Jvm.Cond.methodLink "LetMill$GroupPat" (29 : Nat) ({ cls := "LetMill$Pat", name := "shape", desc := "(LLetMill$Matches;)I" } : Jvm.MethodName)) ∈ lw_all := lw_g (lw_at lw_m10 192 rfl) rfl
theorem q2593 : (Jvm.Cond.selects "LetMill$GroupPat" ({ cls := "LetMill$Pat", name := "shape", desc := "(LLetMill$Matches;)I" } : Jvm.MethodName) ({ cls := "LetMill$GroupPat", name := "shape", desc := "(LLetMill$Matches;)I" } : Jvm.MethodName)) ∈ lw_all := lw_g (lw_at lw_m10 223 rfl) rfl
theorem q3122 : (Jvm.Cond.instanceMethod ({ cls := "LetMill$GroupPat", name := "fits", desc := "(LLetMill$Machine;I)Z" } : Jvm.MethodName)) ∈ lw_all := lw_g (lw_at lw_m13 32 rfl) rfl
theorem q3123 : (Jvm.Cond.code ({ cls := "LetMill$GroupPat", name := "fits", desc := "(LLetMill$Machine;I)Z" } : Jvm.MethodName) prog_22_method_4_code (3 : Nat) (Option.some Jvm.ClassFile.FieldType.boolean)) ∈ lw_all := lw_g (lw_at lw_m13 33 rfl) rfl
theorem q3124 : (Jvm.Cond.methodLink "LetMill$GroupPat" (21 : Nat) ({ cls := "LetMill$Pat", name := "fits", desc := "(LLetMill$Machine;I)Z" } : Jvm.MethodName)) ∈ lw_all := lw_g (lw_at lw_m13 34 rfl) rfl
theorem q3158 : (Jvm.Cond.selects "LetMill$GroupPat" ({ cls := "LetMill$Pat", name := "fits", desc := "(LLetMill$Machine;I)Z" } : Jvm.MethodName) ({ cls := "LetMill$GroupPat", name := "fits", desc := "(LLetMill$Machine;I)Z" } : Jvm.MethodName)) ∈ lw_all := lw_g (lw_at lw_m13 68 rfl) rfl
theorem q3173 : (Jvm.Cond.instanceMethod ({ cls := "LetMill$GroupPat", name := "bind", desc := "(LLetMill$Machine;II)I" } : Jvm.MethodName)) ∈ lw_all := lw_g (lw_at lw_m13 83 rfl) rfl
theorem q3174 : (Jvm.Cond.code ({ cls := "LetMill$GroupPat", name := "bind", desc := "(LLetMill$Machine;II)I" } : Jvm.MethodName) prog_22_method_5_code (4 : Nat) (Option.some Jvm.ClassFile.FieldType.int)) ∈ lw_all := lw_g (lw_at lw_m13 84 rfl) rfl
theorem q3175 : (Jvm.Cond.methodLink "LetMill$GroupPat" (25 : Nat) ({ cls := "LetMill$Pat", name := "bind", desc := "(LLetMill$Machine;II)I" } : Jvm.MethodName)) ∈ lw_all := lw_g (lw_at lw_m13 85 rfl) rfl
theorem q3188 : (Jvm.Cond.selects "LetMill$GroupPat" ({ cls := "LetMill$Pat", name := "bind", desc := "(LLetMill$Machine;II)I" } : Jvm.MethodName) ({ cls := "LetMill$GroupPat", name := "bind", desc := "(LLetMill$Machine;II)I" } : Jvm.MethodName)) ∈ lw_all := lw_g (lw_at lw_m13 98 rfl) rfl
theorem q4543 : (Jvm.Cond.castable "LetMill$GroupPat" "LetMill$Pat") ∈ lw_tbl := lw_at lw_m19 13 rfl
def RX27 : String := "LetMill$TuplePat"
abbrev cX27_init : ByteArray := prog_46_method_1_code
def yX27_init : MethodName := ⟨RX27, "<init>", "(I[LLetMill$Pat;)V"⟩
abbrev cX27_resolveFrom : ByteArray := prog_46_method_2_code
def yX27_resolveFrom : MethodName := ⟨RX27, "resolveFrom", "(LLetMill$Scope;I)V"⟩
abbrev cX27_infer : ByteArray := prog_46_method_3_code
def yX27_infer : MethodName := ⟨RX27, "infer", "(LLetMill$Typer;)I"⟩
abbrev cX27_shape : ByteArray := prog_46_method_6_code
def yX27_shape : MethodName := ⟨RX27, "shape", "(LLetMill$Matches;)I"⟩
abbrev cX27_fits : ByteArray := prog_46_method_4_code
def yX27_fits : MethodName := ⟨RX27, "fits", "(LLetMill$Machine;I)Z"⟩
abbrev cX27_bind : ByteArray := prog_46_method_5_code
def yX27_bind : MethodName := ⟨RX27, "bind", "(LLetMill$Machine;II)I"⟩
theorem q248 : (Jvm.Cond.initialized "LetMill$TuplePat") ∈ lw_all := lw_g (lw_at lw_m1 38 rfl) rfl
theorem q815 : (Jvm.Cond.fieldLink "LetMill$TuplePat" (21 : Nat) "LetMill$Typer" "types" "LLetMill$Types;") ∈ lw_all := lw_g (lw_at lw_m3 125 rfl) rfl
theorem q1447 : (Jvm.Cond.instantiable "LetMill$TuplePat" (2 : Nat)) ∈ lw_all := lw_g (lw_at lw_m6 37 rfl) rfl
theorem q1449 : (Jvm.Cond.instanceMethod ({ cls := "LetMill$TuplePat", name := "<init>", desc := "(I[LLetMill$Pat;)V" } : Jvm.MethodName)) ∈ lw_all := lw_g (lw_at lw_m6 39 rfl) rfl
theorem q1450 : (Jvm.Cond.code ({ cls := "LetMill$TuplePat", name := "<init>", desc := "(I[LLetMill$Pat;)V" } : Jvm.MethodName) prog_46_method_1_code (3 : Nat) (Option.none : Option Jvm.ClassFile.FieldType)) ∈ lw_all := lw_g (lw_at lw_m6 40 rfl) rfl
theorem q1451 : (Jvm.Cond.methodLink "LetMill$TuplePat" (1 : Nat) ({ cls := "LetMill$Pat", name := "<init>", desc := "(I)V" } : Jvm.MethodName)) ∈ lw_all := lw_g (lw_at lw_m6 41 rfl) rfl
theorem q1452 : (Jvm.Cond.fieldLink "LetMill$TuplePat" (7 : Nat) "LetMill$TuplePat" "of" "[LLetMill$Pat;") ∈ lw_all := lw_g (lw_at lw_m6 42 rfl) rfl
theorem q1453 : (Jvm.Cond.laysFinal "LetMill$TuplePat" "LetMill$TuplePat" "of" "[LLetMill$Pat;") ∈ lw_all := lw_g (lw_at lw_m6 43 rfl) rfl
theorem q1455 : (Jvm.Cond.laysFinal "LetMill$TuplePat" "LetMill$Pat" "token" "I") ∈ lw_all := lw_g (lw_at lw_m6 45 rfl) rfl
theorem q2237 : (Jvm.Cond.instanceMethod ({ cls := "LetMill$TuplePat", name := "resolveFrom", desc := "(LLetMill$Scope;I)V" } : Jvm.MethodName)) ∈ lw_all := lw_g (lw_at lw_m9 107 rfl) rfl
theorem q2238 : (Jvm.Cond.code ({ cls := "LetMill$TuplePat", name := "resolveFrom", desc := "(LLetMill$Scope;I)V" } : Jvm.MethodName) prog_46_method_2_code (4 : Nat) (Option.none : Option Jvm.ClassFile.FieldType)) ∈ lw_all := lw_g (lw_at lw_m9 108 rfl) rfl
theorem q2239 : (Jvm.Cond.methodLink "LetMill$TuplePat" (13 : Nat) ({ cls := "LetMill$Pat", name := "resolveFrom", desc := "(LLetMill$Scope;I)V" } : Jvm.MethodName)) ∈ lw_all := lw_g (lw_at lw_m9 109 rfl) rfl
theorem q2247 : (Jvm.Cond.selects "LetMill$TuplePat" ({ cls := "LetMill$Pat", name := "resolveFrom", desc := "(LLetMill$Scope;I)V" } : Jvm.MethodName) ({ cls := "LetMill$TuplePat", name := "resolveFrom", desc := "(LLetMill$Scope;I)V" } : Jvm.MethodName)) ∈ lw_all := lw_g (lw_at lw_m9 117 rfl) rfl
theorem q2475 : (Jvm.Cond.instanceMethod ({ cls := "LetMill$TuplePat", name := "infer", desc := "(LLetMill$Typer;)I" } : Jvm.MethodName)) ∈ lw_all := lw_g (lw_at lw_m10 105 rfl) rfl
theorem q2476 : (Jvm.Cond.code ({ cls := "LetMill$TuplePat", name := "infer", desc := "(LLetMill$Typer;)I" } : Jvm.MethodName) prog_46_method_3_code (4 : Nat) (Option.some Jvm.ClassFile.FieldType.int)) ∈ lw_all := lw_g (lw_at lw_m10 106 rfl) rfl
theorem q2477 : (Jvm.Cond.methodLink "LetMill$TuplePat" (17 : Nat) ({ cls := "LetMill$Pat", name := "infer", desc := "(LLetMill$Typer;)I" } : Jvm.MethodName)) ∈ lw_all := lw_g (lw_at lw_m10 107 rfl) rfl
theorem q2480 : (Jvm.Cond.methodLink "LetMill$TuplePat" (27 : Nat) ({ cls := "LetMill$Types", name := "built", desc := "(I[III)I" } : Jvm.MethodName)) ∈ lw_all := lw_g (lw_at lw_m10 110 rfl) rfl
theorem q2507 : (Jvm.Cond.selects "LetMill$TuplePat" ({ cls := "LetMill$Pat", name := "infer", desc := "(LLetMill$Typer;)I" } : Jvm.MethodName) ({ cls := "LetMill$TuplePat", name := "infer", desc := "(LLetMill$Typer;)I" } : Jvm.MethodName)) ∈ lw_all := lw_g (lw_at lw_m10 137 rfl) rfl
theorem q2575 : (Jvm.Cond.instanceMethod ({ cls := "LetMill$TuplePat", name := "shape", desc := "(LLetMill$Matches;)I" } : Jvm.MethodName)) ∈ lw_all := lw_g (lw_at lw_m10 205 rfl) rfl
theorem q2576 : (Jvm.Cond.code ({ cls := "LetMill$TuplePat", name := "shape", desc := "(LLetMill$Matches;)I" } : Jvm.MethodName) prog_46_method_6_code (2 : Nat) (Option.some Jvm.ClassFile.FieldType.int)) ∈ lw_all := lw_g (lw_at lw_m10 206 rfl) rfl
theorem q2577 : (Jvm.Cond.methodLink "LetMill$TuplePat" (47 : Nat) ({ cls := "LetMill$Matches", name := "tuple", desc := "([LLetMill$Pat;)I" } : Jvm.MethodName)) ∈ lw_all := lw_g (lw_at lw_m10 207 rfl) rfl
theorem q2598 : (Jvm.Cond.selects "LetMill$TuplePat" ({ cls := "LetMill$Pat", name := "shape", desc := "(LLetMill$Matches;)I" } : Jvm.MethodName) ({ cls := "LetMill$TuplePat", name := "shape", desc := "(LLetMill$Matches;)I" } : Jvm.MethodName)) ∈ lw_all := lw_g (lw_at lw_m10 228 rfl) rfl
theorem q3147 : (Jvm.Cond.instanceMethod ({ cls := "LetMill$TuplePat", name := "fits", desc := "(LLetMill$Machine;I)Z" } : Jvm.MethodName)) ∈ lw_all := lw_g (lw_at lw_m13 57 rfl) rfl
theorem q3148 : (Jvm.Cond.code ({ cls := "LetMill$TuplePat", name := "fits", desc := "(LLetMill$Machine;I)Z" } : Jvm.MethodName) prog_46_method_4_code (4 : Nat) (Option.some Jvm.ClassFile.FieldType.boolean)) ∈ lw_all := lw_g (lw_at lw_m13 58 rfl) rfl
theorem q3149 : (Jvm.Cond.methodLink "LetMill$TuplePat" (33 : Nat) ({ cls := "LetMill$Machine", name := "part", desc := "(II)I" } : Jvm.MethodName)) ∈ lw_all := lw_g (lw_at lw_m13 59 rfl) rfl
theorem q3150 : (Jvm.Cond.methodLink "LetMill$TuplePat" (39 : Nat) ({ cls := "LetMill$Pat", name := "fits", desc := "(LLetMill$Machine;I)Z" } : Jvm.MethodName)) ∈ lw_all := lw_g (lw_at lw_m13 60 rfl) rfl
theorem q3163 : (Jvm.Cond.selects "LetMill$TuplePat" ({ cls := "LetMill$Pat", name := "fits", desc := "(LLetMill$Machine;I)Z" } : Jvm.MethodName) ({ cls := "LetMill$TuplePat", name := "fits", desc := "(LLetMill$Machine;I)Z" } : Jvm.MethodName)) ∈ lw_all := lw_g (lw_at lw_m13 73 rfl) rfl
theorem q3185 : (Jvm.Cond.instanceMethod ({ cls := "LetMill$TuplePat", name := "bind", desc := "(LLetMill$Machine;II)I" } : Jvm.MethodName)) ∈ lw_all := lw_g (lw_at lw_m13 95 rfl) rfl
theorem q3186 : (Jvm.Cond.code ({ cls := "LetMill$TuplePat", name := "bind", desc := "(LLetMill$Machine;II)I" } : Jvm.MethodName) prog_46_method_5_code (6 : Nat) (Option.some Jvm.ClassFile.FieldType.int)) ∈ lw_all := lw_g (lw_at lw_m13 96 rfl) rfl
theorem q3187 : (Jvm.Cond.methodLink "LetMill$TuplePat" (43 : Nat) ({ cls := "LetMill$Pat", name := "bind", desc := "(LLetMill$Machine;II)I" } : Jvm.MethodName)) ∈ lw_all := lw_g (lw_at lw_m13 97 rfl) rfl
theorem q3193 : (Jvm.Cond.selects "LetMill$TuplePat" ({ cls := "LetMill$Pat", name := "bind", desc := "(LLetMill$Machine;II)I" } : Jvm.MethodName) ({ cls := "LetMill$TuplePat", name := "bind", desc := "(LLetMill$Machine;II)I" } : Jvm.MethodName)) ∈ lw_all := lw_g (lw_at lw_m13 103 rfl) rfl
theorem q4548 : (Jvm.Cond.castable "LetMill$TuplePat" "LetMill$Pat") ∈ lw_tbl := lw_at lw_m19 18 rfl
def RX28 : String := "LetMill$PairPat"
abbrev cX28_init : ByteArray := prog_33_method_1_code
def yX28_init : MethodName := ⟨RX28, "<init>", "(ILLetMill$Pat;LLetMill$Pat;)V"⟩
abbrev cX28_resolveFrom : ByteArray := prog_33_method_2_code
def yX28_resolveFrom : MethodName := ⟨RX28, "resolveFrom", "(LLetMill$Scope;I)V"⟩
abbrev cX28_infer : ByteArray := prog_33_method_3_code
def yX28_infer : MethodName := ⟨RX28, "infer", "(LLetMill$Typer;)I"⟩
abbrev cX28_shape : ByteArray := prog_33_method_6_code
def yX28_shape : MethodName := ⟨RX28, "shape", "(LLetMill$Matches;)I"⟩
abbrev cX28_fits : ByteArray := prog_33_method_4_code
def yX28_fits : MethodName := ⟨RX28, "fits", "(LLetMill$Machine;I)Z"⟩
abbrev cX28_bind : ByteArray := prog_33_method_5_code
def yX28_bind : MethodName := ⟨RX28, "bind", "(LLetMill$Machine;II)I"⟩
theorem q249 : (Jvm.Cond.initialized "LetMill$PairPat") ∈ lw_all := lw_g (lw_at lw_m1 39 rfl) rfl
theorem q810 : (Jvm.Cond.fieldLink "LetMill$PairPat" (24 : Nat) "LetMill$Typer" "types" "LLetMill$Types;") ∈ lw_all := lw_g (lw_at lw_m3 120 rfl) rfl
theorem q1352 : (Jvm.Cond.fieldLink "LetMill$PairPat" (36 : Nat) "LetMill$Pat" "token" "I") ∈ lw_all := lw_g (lw_at lw_m5 182 rfl) rfl
theorem q1458 : (Jvm.Cond.instantiable "LetMill$PairPat" (3 : Nat)) ∈ lw_all := lw_g (lw_at lw_m6 48 rfl) rfl
theorem q1460 : (Jvm.Cond.instanceMethod ({ cls := "LetMill$PairPat", name := "<init>", desc := "(ILLetMill$Pat;LLetMill$Pat;)V" } : Jvm.MethodName)) ∈ lw_all := lw_g (lw_at lw_m6 50 rfl) rfl
theorem q1461 : (Jvm.Cond.code ({ cls := "LetMill$PairPat", name := "<init>", desc := "(ILLetMill$Pat;LLetMill$Pat;)V" } : Jvm.MethodName) prog_33_method_1_code (4 : Nat) (Option.none : Option Jvm.ClassFile.FieldType)) ∈ lw_all := lw_g (lw_at lw_m6 51 rfl) rfl
theorem q1462 : (Jvm.Cond.methodLink "LetMill$PairPat" (1 : Nat) ({ cls := "LetMill$Pat", name := "<init>", desc := "(I)V" } : Jvm.MethodName)) ∈ lw_all := lw_g (lw_at lw_m6 52 rfl) rfl
theorem q1463 : (Jvm.Cond.fieldLink "LetMill$PairPat" (7 : Nat) "LetMill$PairPat" "head" "LLetMill$Pat;") ∈ lw_all := lw_g (lw_at lw_m6 53 rfl) rfl
theorem q1464 : (Jvm.Cond.fieldLink "LetMill$PairPat" (13 : Nat) "LetMill$PairPat" "tail" "LLetMill$Pat;") ∈ lw_all := lw_g (lw_at lw_m6 54 rfl) rfl
theorem q1465 : (Jvm.Cond.laysFinal "LetMill$PairPat" "LetMill$PairPat" "head" "LLetMill$Pat;") ∈ lw_all := lw_g (lw_at lw_m6 55 rfl) rfl
theorem q1467 : (Jvm.Cond.laysFinal "LetMill$PairPat" "LetMill$PairPat" "tail" "LLetMill$Pat;") ∈ lw_all := lw_g (lw_at lw_m6 57 rfl) rfl
theorem q1469 : (Jvm.Cond.laysFinal "LetMill$PairPat" "LetMill$Pat" "token" "I") ∈ lw_all := lw_g (lw_at lw_m6 59 rfl) rfl
theorem q2234 : (Jvm.Cond.instanceMethod ({ cls := "LetMill$PairPat", name := "resolveFrom", desc := "(LLetMill$Scope;I)V" } : Jvm.MethodName)) ∈ lw_all := lw_g (lw_at lw_m9 104 rfl) rfl
theorem q2235 : (Jvm.Cond.code ({ cls := "LetMill$PairPat", name := "resolveFrom", desc := "(LLetMill$Scope;I)V" } : Jvm.MethodName) prog_33_method_2_code (3 : Nat) (Option.none : Option Jvm.ClassFile.FieldType)) ∈ lw_all := lw_g (lw_at lw_m9 105 rfl) rfl
theorem q2236 : (Jvm.Cond.methodLink "LetMill$PairPat" (16 : Nat) ({ cls := "LetMill$Pat", name := "resolveFrom", desc := "(LLetMill$Scope;I)V" } : Jvm.MethodName)) ∈ lw_all := lw_g (lw_at lw_m9 106 rfl) rfl
theorem q2246 : (Jvm.Cond.selects "LetMill$PairPat" ({ cls := "LetMill$Pat", name := "resolveFrom", desc := "(LLetMill$Scope;I)V" } : Jvm.MethodName) ({ cls := "LetMill$PairPat", name := "resolveFrom", desc := "(LLetMill$Scope;I)V" } : Jvm.MethodName)) ∈ lw_all := lw_g (lw_at lw_m9 116 rfl) rfl
theorem q2472 : (Jvm.Cond.instanceMethod ({ cls := "LetMill$PairPat", name := "infer", desc := "(LLetMill$Typer;)I" } : Jvm.MethodName)) ∈ lw_all := lw_g (lw_at lw_m10 102 rfl) rfl
theorem q2473 : (Jvm.Cond.code ({ cls := "LetMill$PairPat", name := "infer", desc := "(LLetMill$Typer;)I" } : Jvm.MethodName) prog_33_method_3_code (5 : Nat) (Option.some Jvm.ClassFile.FieldType.int)) ∈ lw_all := lw_g (lw_at lw_m10 103 rfl) rfl
theorem q2474 : (Jvm.Cond.methodLink "LetMill$PairPat" (20 : Nat) ({ cls := "LetMill$Pat", name := "infer", desc := "(LLetMill$Typer;)I" } : Jvm.MethodName)) ∈ lw_all := lw_g (lw_at lw_m10 104 rfl) rfl
theorem q2481 : (Jvm.Cond.methodLink "LetMill$PairPat" (32 : Nat) ({ cls := "LetMill$Types", name := "built", desc := "(II)I" } : Jvm.MethodName)) ∈ lw_all := lw_g (lw_at lw_m10 111 rfl) rfl
theorem q2482 : (Jvm.Cond.methodLink "LetMill$PairPat" (40 : Nat) ({ cls := "LetMill$Typer", name := "same", desc := "(III)V" } : Jvm.MethodName)) ∈ lw_all := lw_g (lw_at lw_m10 112 rfl) rfl
theorem q2506 : (Jvm.Cond.selects "LetMill$PairPat" ({ cls := "LetMill$Pat", name := "infer", desc := "(LLetMill$Typer;)I" } : Jvm.MethodName) ({ cls := "LetMill$PairPat", name := "infer", desc := "(LLetMill$Typer;)I" } : Jvm.MethodName)) ∈ lw_all := lw_g (lw_at lw_m10 136 rfl) rfl
theorem q2572 : (Jvm.Cond.instanceMethod ({ cls := "LetMill$PairPat", name := "shape", desc := "(LLetMill$Matches;)I" } : Jvm.MethodName)) ∈ lw_all := lw_g (lw_at lw_m10 202 rfl) rfl
theorem q2573 : (Jvm.Cond.code ({ cls := "LetMill$PairPat", name := "shape", desc := "(LLetMill$Matches;)I" } : Jvm.MethodName) prog_33_method_6_code (2 : Nat) (Option.some Jvm.ClassFile.FieldType.int)) ∈ lw_all := lw_g (lw_at lw_m10 203 rfl) rfl
theorem q2574 : (Jvm.Cond.methodLink "LetMill$PairPat" (63 : Nat) ({ cls := "LetMill$Pat", name := "shape", desc := "(LLetMill$Matches;)I" } : Jvm.MethodName)) ∈ lw_all := lw_g (lw_at lw_m10 204 rfl) rfl
theorem q2584 : (Jvm.Cond.methodLink "LetMill$PairPat" (67 : Nat) ({ cls := "LetMill$Matches", name := "pair", desc := "(II)I" } : Jvm.MethodName)) ∈ lw_all := lw_g (lw_at lw_m10 214 rfl) rfl
theorem q2597 : (Jvm.Cond.selects "LetMill$PairPat" ({ cls := "LetMill$Pat", name := "shape", desc := "(LLetMill$Matches;)I" } : Jvm.MethodName) ({ cls := "LetMill$PairPat", name := "shape", desc := "(LLetMill$Matches;)I" } : Jvm.MethodName)) ∈ lw_all := lw_g (lw_at lw_m10 227 rfl) rfl
theorem q3142 : (Jvm.Cond.instanceMethod ({ cls := "LetMill$PairPat", name := "fits", desc := "(LLetMill$Machine;I)Z" } : Jvm.MethodName)) ∈ lw_all := lw_g (lw_at lw_m13 52 rfl) rfl
theorem q3143 : (Jvm.Cond.code ({ cls := "LetMill$PairPat", name := "fits", desc := "(LLetMill$Machine;I)Z" } : Jvm.MethodName) prog_33_method_4_code (3 : Nat) (Option.some Jvm.ClassFile.FieldType.boolean)) ∈ lw_all := lw_g (lw_at lw_m13 53 rfl) rfl
theorem q3144 : (Jvm.Cond.methodLink "LetMill$PairPat" (44 : Nat) ({ cls := "LetMill$Machine", name := "isPair", desc := "(I)Z" } : Jvm.MethodName)) ∈ lw_all := lw_g (lw_at lw_m13 54 rfl) rfl
theorem q3145 : (Jvm.Cond.methodLink "LetMill$PairPat" (50 : Nat) ({ cls := "LetMill$Machine", name := "head", desc := "(I)I" } : Jvm.MethodName)) ∈ lw_all := lw_g (lw_at lw_m13 55 rfl) rfl
theorem q3146 : (Jvm.Cond.methodLink "LetMill$PairPat" (53 : Nat) ({ cls := "LetMill$Pat", name := "fits", desc := "(LLetMill$Machine;I)Z" } : Jvm.MethodName)) ∈ lw_all := lw_g (lw_at lw_m13 56 rfl) rfl
theorem q3153 : (Jvm.Cond.methodLink "LetMill$PairPat" (57 : Nat) ({ cls := "LetMill$Machine", name := "tail", desc := "(I)I" } : Jvm.MethodName)) ∈ lw_all := lw_g (lw_at lw_m13 63 rfl) rfl
theorem q3162 : (Jvm.Cond.selects "LetMill$PairPat" ({ cls := "LetMill$Pat", name := "fits", desc := "(LLetMill$Machine;I)Z" } : Jvm.MethodName) ({ cls := "LetMill$PairPat", name := "fits", desc := "(LLetMill$Machine;I)Z" } : Jvm.MethodName)) ∈ lw_all := lw_g (lw_at lw_m13 72 rfl) rfl
theorem q3182 : (Jvm.Cond.instanceMethod ({ cls := "LetMill$PairPat", name := "bind", desc := "(LLetMill$Machine;II)I" } : Jvm.MethodName)) ∈ lw_all := lw_g (lw_at lw_m13 92 rfl) rfl
theorem q3183 : (Jvm.Cond.code ({ cls := "LetMill$PairPat", name := "bind", desc := "(LLetMill$Machine;II)I" } : Jvm.MethodName) prog_33_method_5_code (4 : Nat) (Option.some Jvm.ClassFile.FieldType.int)) ∈ lw_all := lw_g (lw_at lw_m13 93 rfl) rfl
theorem q3184 : (Jvm.Cond.methodLink "LetMill$PairPat" (59 : Nat) ({ cls := "LetMill$Pat", name := "bind", desc := "(LLetMill$Machine;II)I" } : Jvm.MethodName)) ∈ lw_all := lw_g (lw_at lw_m13 94 rfl) rfl
theorem q3192 : (Jvm.Cond.selects "LetMill$PairPat" ({ cls := "LetMill$Pat", name := "bind", desc := "(LLetMill$Machine;II)I" } : Jvm.MethodName) ({ cls := "LetMill$PairPat", name := "bind", desc := "(LLetMill$Machine;II)I" } : Jvm.MethodName)) ∈ lw_all := lw_g (lw_at lw_m13 102 rfl) rfl
theorem q4547 : (Jvm.Cond.castable "LetMill$PairPat" "LetMill$Pat") ∈ lw_tbl := lw_at lw_m19 17 rfl
def RX29 : String := "LetMill$Dec"
abbrev cX29_init : ByteArray := prog_15_method_1_code
def yX29_init : MethodName := ⟨RX29, "<init>", "(I)V"⟩
abbrev cX29_exp : ByteArray := prog_15_method_5_code
def yX29_exp : MethodName := ⟨RX29, "exp", "()LLetMill$Exp;"⟩
theorem q250 : (Jvm.Cond.initialized "LetMill$Dec") ∈ lw_all := lw_g (lw_at lw_m1 40 rfl) rfl
theorem q1820 : (Jvm.Cond.instanceMethod ({ cls := "LetMill$Dec", name := "<init>", desc := "(I)V" } : Jvm.MethodName)) ∈ lw_all := lw_g (lw_at lw_m7 170 rfl) rfl
theorem q1821 : (Jvm.Cond.code ({ cls := "LetMill$Dec", name := "<init>", desc := "(I)V" } : Jvm.MethodName) prog_15_method_1_code (2 : Nat) (Option.none : Option Jvm.ClassFile.FieldType)) ∈ lw_all := lw_g (lw_at lw_m7 171 rfl) rfl
theorem q1822 : (Jvm.Cond.methodLink "LetMill$Dec" (1 : Nat) ({ cls := "java/lang/Object", name := "<init>", desc := "()V" } : Jvm.MethodName)) ∈ lw_all := lw_g (lw_at lw_m7 172 rfl) rfl
theorem q1826 : (Jvm.Cond.fieldLink "LetMill$Dec" (7 : Nat) "LetMill$Dec" "token" "I") ∈ lw_all := lw_g (lw_at lw_m7 176 rfl) rfl
theorem q2042 : (Jvm.Cond.declares ({ cls := "LetMill$Dec", name := "resolve", desc := "(LLetMill$Scope;)V" } : Jvm.MethodName)) ∈ lw_tbl := lw_at lw_m8 152 rfl
theorem q2043 : (Jvm.Cond.sameMethod "LetMill$Dec" "LetMill$Dec" "resolve" "(LLetMill$Scope;)V") ∈ lw_all := lw_g (lw_at lw_m8 153 rfl) rfl
theorem q2329 : (Jvm.Cond.declares ({ cls := "LetMill$Dec", name := "infer", desc := "(LLetMill$Typer;)V" } : Jvm.MethodName)) ∈ lw_tbl := lw_at lw_m9 199 rfl
theorem q2330 : (Jvm.Cond.sameMethod "LetMill$Dec" "LetMill$Dec" "infer" "(LLetMill$Typer;)V") ∈ lw_all := lw_g (lw_at lw_m9 200 rfl) rfl
theorem q2977 : (Jvm.Cond.instanceMethod ({ cls := "LetMill$Dec", name := "exp", desc := "()LLetMill$Exp;" } : Jvm.MethodName)) ∈ lw_all := lw_g (lw_at lw_m12 127 rfl) rfl
theorem q2978 : (Jvm.Cond.sameMethod "LetMill$Dec" "LetMill$Dec" "exp" "()LLetMill$Exp;") ∈ lw_all := lw_g (lw_at lw_m12 128 rfl) rfl
theorem q2984 : (Jvm.Cond.code ({ cls := "LetMill$Dec", name := "exp", desc := "()LLetMill$Exp;" } : Jvm.MethodName) prog_15_method_5_code (1 : Nat) (Option.some (Jvm.ClassFile.FieldType.object "LetMill$Exp"))) ∈ lw_all := lw_g (lw_at lw_m12 134 rfl) rfl
theorem q2988 : (Jvm.Cond.declares ({ cls := "LetMill$Dec", name := "begin", desc := "(LLetMill$Machine;I)I" } : Jvm.MethodName)) ∈ lw_tbl := lw_at lw_m12 138 rfl
theorem q2989 : (Jvm.Cond.sameMethod "LetMill$Dec" "LetMill$Dec" "begin" "(LLetMill$Machine;I)I") ∈ lw_all := lw_g (lw_at lw_m12 139 rfl) rfl
def RX30 : String := "LetMill$Val"
abbrev cX30_init : ByteArray := prog_58_method_1_code
def yX30_init : MethodName := ⟨RX30, "<init>", "(ILLetMill$Pat;LLetMill$Exp;)V"⟩
abbrev cX30_resolve : ByteArray := prog_58_method_3_code
def yX30_resolve : MethodName := ⟨RX30, "resolve", "(LLetMill$Scope;)V"⟩
abbrev cX30_infer : ByteArray := prog_58_method_4_code
def yX30_infer : MethodName := ⟨RX30, "infer", "(LLetMill$Typer;)V"⟩
abbrev cX30_exp : ByteArray := prog_58_method_2_code
def yX30_exp : MethodName := ⟨RX30, "exp", "()LLetMill$Exp;"⟩
abbrev cX30_begin : ByteArray := prog_58_method_5_code
def yX30_begin : MethodName := ⟨RX30, "begin", "(LLetMill$Machine;I)I"⟩
theorem q251 : (Jvm.Cond.initialized "LetMill$Val") ∈ lw_all := lw_g (lw_at lw_m1 41 rfl) rfl
theorem q689 : (Jvm.Cond.fieldLink "LetMill$Val" (23 : Nat) "LetMill$Scope" "many" "I") ∈ lw_all := lw_g (lw_at lw_m2 239 rfl) rfl
theorem q826 : (Jvm.Cond.fieldLink "LetMill$Val" (63 : Nat) "LetMill$Typer" "k" "LLetMill$Tokens;") ∈ lw_all := lw_g (lw_at lw_m3 136 rfl) rfl
theorem q831 : (Jvm.Cond.fieldLink "LetMill$Val" (59 : Nat) "LetMill$Typer" "matches" "LLetMill$Matches;") ∈ lw_all := lw_g (lw_at lw_m3 141 rfl) rfl
theorem q836 : (Jvm.Cond.fieldLink "LetMill$Val" (39 : Nat) "LetMill$Typer" "many" "I") ∈ lw_all := lw_g (lw_at lw_m3 146 rfl) rfl
theorem q1355 : (Jvm.Cond.fieldLink "LetMill$Val" (43 : Nat) "LetMill$Pat" "token" "I") ∈ lw_all := lw_g (lw_at lw_m5 185 rfl) rfl
theorem q1476 : (Jvm.Cond.instantiable "LetMill$Val" (3 : Nat)) ∈ lw_all := lw_g (lw_at lw_m6 66 rfl) rfl
theorem q1817 : (Jvm.Cond.instanceMethod ({ cls := "LetMill$Val", name := "<init>", desc := "(ILLetMill$Pat;LLetMill$Exp;)V" } : Jvm.MethodName)) ∈ lw_all := lw_g (lw_at lw_m7 167 rfl) rfl
theorem q1818 : (Jvm.Cond.code ({ cls := "LetMill$Val", name := "<init>", desc := "(ILLetMill$Pat;LLetMill$Exp;)V" } : Jvm.MethodName) prog_58_method_1_code (4 : Nat) (Option.none : Option Jvm.ClassFile.FieldType)) ∈ lw_all := lw_g (lw_at lw_m7 168 rfl) rfl
theorem q1819 : (Jvm.Cond.methodLink "LetMill$Val" (1 : Nat) ({ cls := "LetMill$Dec", name := "<init>", desc := "(I)V" } : Jvm.MethodName)) ∈ lw_all := lw_g (lw_at lw_m7 169 rfl) rfl
theorem q1823 : (Jvm.Cond.fieldLink "LetMill$Val" (7 : Nat) "LetMill$Val" "pat" "LLetMill$Pat;") ∈ lw_all := lw_g (lw_at lw_m7 173 rfl) rfl
theorem q1825 : (Jvm.Cond.fieldLink "LetMill$Val" (13 : Nat) "LetMill$Val" "e" "LLetMill$Exp;") ∈ lw_all := lw_g (lw_at lw_m7 175 rfl) rfl
theorem q1831 : (Jvm.Cond.fieldLink "LetMill$Val" (50 : Nat) "LetMill$Val" "token" "I") ∈ lw_all := lw_g (lw_at lw_m7 181 rfl) rfl
theorem q1832 : (Jvm.Cond.sameField "LetMill$Val" "LetMill$Dec" "token" "I") ∈ lw_all := lw_g (lw_at lw_m7 182 rfl) rfl
theorem q1834 : (Jvm.Cond.laysFinal "LetMill$Val" "LetMill$Val" "pat" "LLetMill$Pat;") ∈ lw_all := lw_g (lw_at lw_m7 184 rfl) rfl
theorem q1836 : (Jvm.Cond.laysFinal "LetMill$Val" "LetMill$Val" "e" "LLetMill$Exp;") ∈ lw_all := lw_g (lw_at lw_m7 186 rfl) rfl
theorem q1838 : (Jvm.Cond.laysFinal "LetMill$Val" "LetMill$Dec" "token" "I") ∈ lw_all := lw_g (lw_at lw_m7 188 rfl) rfl
theorem q2311 : (Jvm.Cond.selects "LetMill$Val" ({ cls := "LetMill$Dec", name := "resolve", desc := "(LLetMill$Scope;)V" } : Jvm.MethodName) ({ cls := "LetMill$Val", name := "resolve", desc := "(LLetMill$Scope;)V" } : Jvm.MethodName)) ∈ lw_all := lw_g (lw_at lw_m9 181 rfl) rfl
theorem q2312 : (Jvm.Cond.instanceMethod ({ cls := "LetMill$Val", name := "resolve", desc := "(LLetMill$Scope;)V" } : Jvm.MethodName)) ∈ lw_all := lw_g (lw_at lw_m9 182 rfl) rfl
theorem q2313 : (Jvm.Cond.code ({ cls := "LetMill$Val", name := "resolve", desc := "(LLetMill$Scope;)V" } : Jvm.MethodName) prog_58_method_3_code (2 : Nat) (Option.none : Option Jvm.ClassFile.FieldType)) ∈ lw_all := lw_g (lw_at lw_m9 183 rfl) rfl
theorem q2314 : (Jvm.Cond.methodLink "LetMill$Val" (17 : Nat) ({ cls := "LetMill$Exp", name := "resolve", desc := "(LLetMill$Scope;)V" } : Jvm.MethodName)) ∈ lw_all := lw_g (lw_at lw_m9 184 rfl) rfl
theorem q2315 : (Jvm.Cond.methodLink "LetMill$Val" (29 : Nat) ({ cls := "LetMill$Pat", name := "resolveFrom", desc := "(LLetMill$Scope;I)V" } : Jvm.MethodName)) ∈ lw_all := lw_g (lw_at lw_m9 185 rfl) rfl
theorem q2638 : (Jvm.Cond.instanceMethod ({ cls := "LetMill$Val", name := "infer", desc := "(LLetMill$Typer;)V" } : Jvm.MethodName)) ∈ lw_all := lw_g (lw_at lw_m11 28 rfl) rfl
theorem q2639 : (Jvm.Cond.code ({ cls := "LetMill$Val", name := "infer", desc := "(LLetMill$Typer;)V" } : Jvm.MethodName) prog_58_method_4_code (5 : Nat) (Option.none : Option Jvm.ClassFile.FieldType)) ∈ lw_all := lw_g (lw_at lw_m11 29 rfl) rfl
theorem q2640 : (Jvm.Cond.methodLink "LetMill$Val" (35 : Nat) ({ cls := "LetMill$Exp", name := "infer", desc := "(LLetMill$Typer;)I" } : Jvm.MethodName)) ∈ lw_all := lw_g (lw_at lw_m11 30 rfl) rfl
theorem q2678 : (Jvm.Cond.methodLink "LetMill$Val" (42 : Nat) ({ cls := "LetMill$Pat", name := "infer", desc := "(LLetMill$Typer;)I" } : Jvm.MethodName)) ∈ lw_all := lw_g (lw_at lw_m11 68 rfl) rfl
theorem q2679 : (Jvm.Cond.methodLink "LetMill$Val" (46 : Nat) ({ cls := "LetMill$Typer", name := "same", desc := "(III)V" } : Jvm.MethodName)) ∈ lw_all := lw_g (lw_at lw_m11 69 rfl) rfl
theorem q2680 : (Jvm.Cond.methodLink "LetMill$Val" (51 : Nat) ({ cls := "LetMill$Exp", name := "isStill", desc := "()Z" } : Jvm.MethodName)) ∈ lw_all := lw_g (lw_at lw_m11 70 rfl) rfl
theorem q2741 : (Jvm.Cond.methodLink "LetMill$Val" (55 : Nat) ({ cls := "LetMill$Typer", name := "declared", desc := "(IIZ)V" } : Jvm.MethodName)) ∈ lw_all := lw_g (lw_at lw_m11 131 rfl) rfl
theorem q2755 : (Jvm.Cond.methodLink "LetMill$Val" (67 : Nat) ({ cls := "LetMill$Matches", name := "check", desc := "(LLetMill$Pat;LLetMill$Tokens;I)V" } : Jvm.MethodName)) ∈ lw_all := lw_g (lw_at lw_m11 145 rfl) rfl
theorem q2799 : (Jvm.Cond.selects "LetMill$Val" ({ cls := "LetMill$Dec", name := "infer", desc := "(LLetMill$Typer;)V" } : Jvm.MethodName) ({ cls := "LetMill$Val", name := "infer", desc := "(LLetMill$Typer;)V" } : Jvm.MethodName)) ∈ lw_all := lw_g (lw_at lw_m11 189 rfl) rfl
theorem q2981 : (Jvm.Cond.selects "LetMill$Val" ({ cls := "LetMill$Dec", name := "exp", desc := "()LLetMill$Exp;" } : Jvm.MethodName) ({ cls := "LetMill$Val", name := "exp", desc := "()LLetMill$Exp;" } : Jvm.MethodName)) ∈ lw_all := lw_g (lw_at lw_m12 131 rfl) rfl
theorem q2982 : (Jvm.Cond.instanceMethod ({ cls := "LetMill$Val", name := "exp", desc := "()LLetMill$Exp;" } : Jvm.MethodName)) ∈ lw_all := lw_g (lw_at lw_m12 132 rfl) rfl
theorem q2983 : (Jvm.Cond.code ({ cls := "LetMill$Val", name := "exp", desc := "()LLetMill$Exp;" } : Jvm.MethodName) prog_58_method_2_code (1 : Nat) (Option.some (Jvm.ClassFile.FieldType.object "LetMill$Exp"))) ∈ lw_all := lw_g (lw_at lw_m12 133 rfl) rfl
theorem q3012 : (Jvm.Cond.selects "LetMill$Val" ({ cls := "LetMill$Dec", name := "begin", desc := "(LLetMill$Machine;I)I" } : Jvm.MethodName) ({ cls := "LetMill$Val", name := "begin", desc := "(LLetMill$Machine;I)I" } : Jvm.MethodName)) ∈ lw_all := lw_g (lw_at lw_m12 162 rfl) rfl
theorem q3013 : (Jvm.Cond.instanceMethod ({ cls := "LetMill$Val", name := "begin", desc := "(LLetMill$Machine;I)I" } : Jvm.MethodName)) ∈ lw_all := lw_g (lw_at lw_m12 163 rfl) rfl
theorem q3014 : (Jvm.Cond.code ({ cls := "LetMill$Val", name := "begin", desc := "(LLetMill$Machine;I)I" } : Jvm.MethodName) prog_58_method_5_code (3 : Nat) (Option.some Jvm.ClassFile.FieldType.int)) ∈ lw_all := lw_g (lw_at lw_m12 164 rfl) rfl
theorem q4571 : (Jvm.Cond.castable "LetMill$Val" "LetMill$Dec") ∈ lw_tbl := lw_at lw_m19 41 rfl
theorem q4580 : (Jvm.Cond.castable "LetMill$Val" "LetMill$Val") ∈ lw_tbl := lw_at lw_m19 50 rfl
def RX31 : String := "LetMill$Clause"
abbrev cX31_init : ByteArray := prog_8_method_1_code
def yX31_init : MethodName := ⟨RX31, "<init>", "(I[LLetMill$Pat;LLetMill$Exp;)V"⟩
theorem q252 : (Jvm.Cond.initialized "LetMill$Clause") ∈ lw_all := lw_g (lw_at lw_m1 42 rfl) rfl
theorem q1486 : (Jvm.Cond.instantiable "LetMill$Clause" (3 : Nat)) ∈ lw_all := lw_g (lw_at lw_m6 76 rfl) rfl
theorem q1488 : (Jvm.Cond.instanceMethod ({ cls := "LetMill$Clause", name := "<init>", desc := "(I[LLetMill$Pat;LLetMill$Exp;)V" } : Jvm.MethodName)) ∈ lw_all := lw_g (lw_at lw_m6 78 rfl) rfl
theorem q1489 : (Jvm.Cond.code ({ cls := "LetMill$Clause", name := "<init>", desc := "(I[LLetMill$Pat;LLetMill$Exp;)V" } : Jvm.MethodName) prog_8_method_1_code (4 : Nat) (Option.none : Option Jvm.ClassFile.FieldType)) ∈ lw_all := lw_g (lw_at lw_m6 79 rfl) rfl
theorem q1490 : (Jvm.Cond.methodLink "LetMill$Clause" (1 : Nat) ({ cls := "java/lang/Object", name := "<init>", desc := "()V" } : Jvm.MethodName)) ∈ lw_all := lw_g (lw_at lw_m6 80 rfl) rfl
theorem q1491 : (Jvm.Cond.fieldLink "LetMill$Clause" (7 : Nat) "LetMill$Clause" "token" "I") ∈ lw_all := lw_g (lw_at lw_m6 81 rfl) rfl
theorem q1494 : (Jvm.Cond.fieldLink "LetMill$Clause" (13 : Nat) "LetMill$Clause" "pats" "[LLetMill$Pat;") ∈ lw_all := lw_g (lw_at lw_m6 84 rfl) rfl
theorem q1500 : (Jvm.Cond.fieldLink "LetMill$Clause" (17 : Nat) "LetMill$Clause" "body" "LLetMill$Exp;") ∈ lw_all := lw_g (lw_at lw_m6 90 rfl) rfl
theorem q1504 : (Jvm.Cond.laysFinal "LetMill$Clause" "LetMill$Clause" "token" "I") ∈ lw_all := lw_g (lw_at lw_m6 94 rfl) rfl
theorem q1506 : (Jvm.Cond.laysFinal "LetMill$Clause" "LetMill$Clause" "pats" "[LLetMill$Pat;") ∈ lw_all := lw_g (lw_at lw_m6 96 rfl) rfl
theorem q1508 : (Jvm.Cond.laysFinal "LetMill$Clause" "LetMill$Clause" "body" "LLetMill$Exp;") ∈ lw_all := lw_g (lw_at lw_m6 98 rfl) rfl
theorem q4576 : (Jvm.Cond.castable "LetMill$Clause" "LetMill$Clause") ∈ lw_tbl := lw_at lw_m19 46 rfl
def RX32 : String := "LetMill$Fn"
abbrev cX32_init : ByteArray := prog_18_method_1_code
def yX32_init : MethodName := ⟨RX32, "<init>", "(ILLetMill$Row;)V"⟩
abbrev cX32_resolve : ByteArray := prog_18_method_2_code
def yX32_resolve : MethodName := ⟨RX32, "resolve", "(LLetMill$Scope;)V"⟩
abbrev cX32_infer : ByteArray := prog_18_method_3_code
def yX32_infer : MethodName := ⟨RX32, "infer", "(LLetMill$Typer;)I"⟩
abbrev cX32_isStill : ByteArray := prog_18_method_4_code
def yX32_isStill : MethodName := ⟨RX32, "isStill", "()Z"⟩
abbrev cX32_begin : ByteArray := prog_18_method_5_code
def yX32_begin : MethodName := ⟨RX32, "begin", "(LLetMill$Machine;I)V"⟩
theorem q253 : (Jvm.Cond.initialized "LetMill$Fn") ∈ lw_all := lw_g (lw_at lw_m1 43 rfl) rfl
theorem q569 : (Jvm.Cond.fieldLink "LetMill$Fn" (13 : Nat) "LetMill$Row" "many" "I") ∈ lw_all := lw_g (lw_at lw_m2 119 rfl) rfl
theorem q814 : (Jvm.Cond.fieldLink "LetMill$Fn" (51 : Nat) "LetMill$Typer" "types" "LLetMill$Types;") ∈ lw_all := lw_g (lw_at lw_m3 124 rfl) rfl
theorem q822 : (Jvm.Cond.fieldLink "LetMill$Fn" (38 : Nat) "LetMill$Typer" "k" "LLetMill$Tokens;") ∈ lw_all := lw_g (lw_at lw_m3 132 rfl) rfl
theorem q828 : (Jvm.Cond.fieldLink "LetMill$Fn" (34 : Nat) "LetMill$Typer" "matches" "LLetMill$Matches;") ∈ lw_all := lw_g (lw_at lw_m3 138 rfl) rfl
theorem q1516 : (Jvm.Cond.instantiable "LetMill$Fn" (4 : Nat)) ∈ lw_all := lw_g (lw_at lw_m6 106 rfl) rfl
theorem q1518 : (Jvm.Cond.instanceMethod ({ cls := "LetMill$Fn", name := "<init>", desc := "(ILLetMill$Row;)V" } : Jvm.MethodName)) ∈ lw_all := lw_g (lw_at lw_m6 108 rfl) rfl
theorem q1519 : (Jvm.Cond.code ({ cls := "LetMill$Fn", name := "<init>", desc := "(ILLetMill$Row;)V" } : Jvm.MethodName) prog_18_method_1_code (3 : Nat) (Option.none : Option Jvm.ClassFile.FieldType)) ∈ lw_all := lw_g (lw_at lw_m6 109 rfl) rfl
theorem q1520 : (Jvm.Cond.methodLink "LetMill$Fn" (1 : Nat) ({ cls := "LetMill$Exp", name := "<init>", desc := "(I)V" } : Jvm.MethodName)) ∈ lw_all := lw_g (lw_at lw_m6 110 rfl) rfl
theorem q1524 : (Jvm.Cond.fieldLink "LetMill$Fn" (7 : Nat) "LetMill$Fn" "clauses" "LLetMill$Row;") ∈ lw_all := lw_g (lw_at lw_m6 114 rfl) rfl
theorem q1525 : (Jvm.Cond.fieldLink "LetMill$Fn" (67 : Nat) "LetMill$Fn" "code" "I") ∈ lw_all := lw_g (lw_at lw_m6 115 rfl) rfl
theorem q1533 : (Jvm.Cond.fieldLink "LetMill$Fn" (42 : Nat) "LetMill$Fn" "token" "I") ∈ lw_all := lw_g (lw_at lw_m6 123 rfl) rfl
theorem q1534 : (Jvm.Cond.sameField "LetMill$Fn" "LetMill$Exp" "token" "I") ∈ lw_all := lw_g (lw_at lw_m6 124 rfl) rfl
theorem q1547 : (Jvm.Cond.laysFinal "LetMill$Fn" "LetMill$Fn" "clauses" "LLetMill$Row;") ∈ lw_all := lw_g (lw_at lw_m6 137 rfl) rfl
theorem q1549 : (Jvm.Cond.lays "LetMill$Fn" "LetMill$Fn" "code" "I") ∈ lw_all := lw_g (lw_at lw_m6 139 rfl) rfl
theorem q1551 : (Jvm.Cond.laysFinal "LetMill$Fn" "LetMill$Exp" "token" "I") ∈ lw_all := lw_g (lw_at lw_m6 141 rfl) rfl
theorem q1553 : (Jvm.Cond.lays "LetMill$Fn" "LetMill$Exp" "id" "I") ∈ lw_all := lw_g (lw_at lw_m6 143 rfl) rfl
theorem q2266 : (Jvm.Cond.instanceMethod ({ cls := "LetMill$Fn", name := "resolve", desc := "(LLetMill$Scope;)V" } : Jvm.MethodName)) ∈ lw_all := lw_g (lw_at lw_m9 136 rfl) rfl
theorem q2267 : (Jvm.Cond.code ({ cls := "LetMill$Fn", name := "resolve", desc := "(LLetMill$Scope;)V" } : Jvm.MethodName) prog_18_method_2_code (3 : Nat) (Option.none : Option Jvm.ClassFile.FieldType)) ∈ lw_all := lw_g (lw_at lw_m9 137 rfl) rfl
theorem q2268 : (Jvm.Cond.methodLink "LetMill$Fn" (19 : Nat) ({ cls := "LetMill$Row", name := "clause", desc := "(I)LLetMill$Clause;" } : Jvm.MethodName)) ∈ lw_all := lw_g (lw_at lw_m9 138 rfl) rfl
theorem q2269 : (Jvm.Cond.methodLink "LetMill$Fn" (23 : Nat) ({ cls := "LetMill$Scope", name := "clause", desc := "(LLetMill$Clause;)V" } : Jvm.MethodName)) ∈ lw_all := lw_g (lw_at lw_m9 139 rfl) rfl
theorem q2297 : (Jvm.Cond.selects "LetMill$Fn" ({ cls := "LetMill$Exp", name := "resolve", desc := "(LLetMill$Scope;)V" } : Jvm.MethodName) ({ cls := "LetMill$Fn", name := "resolve", desc := "(LLetMill$Scope;)V" } : Jvm.MethodName)) ∈ lw_all := lw_g (lw_at lw_m9 167 rfl) rfl
theorem q2530 : (Jvm.Cond.instanceMethod ({ cls := "LetMill$Fn", name := "infer", desc := "(LLetMill$Typer;)I" } : Jvm.MethodName)) ∈ lw_all := lw_g (lw_at lw_m10 160 rfl) rfl
theorem q2531 : (Jvm.Cond.code ({ cls := "LetMill$Fn", name := "infer", desc := "(LLetMill$Typer;)I" } : Jvm.MethodName) prog_18_method_3_code (4 : Nat) (Option.some Jvm.ClassFile.FieldType.int)) ∈ lw_all := lw_g (lw_at lw_m10 161 rfl) rfl
theorem q2532 : (Jvm.Cond.methodLink "LetMill$Fn" (28 : Nat) ({ cls := "LetMill$Typer", name := "match", desc := "(LLetMill$Row;[I)I" } : Jvm.MethodName)) ∈ lw_all := lw_g (lw_at lw_m10 162 rfl) rfl
theorem q2533 : (Jvm.Cond.methodLink "LetMill$Fn" (45 : Nat) ({ cls := "LetMill$Matches", name := "check", desc := "(LLetMill$Row;LLetMill$Tokens;I)V" } : Jvm.MethodName)) ∈ lw_all := lw_g (lw_at lw_m10 163 rfl) rfl
theorem q2628 : (Jvm.Cond.methodLink "LetMill$Fn" (55 : Nat) ({ cls := "LetMill$Types", name := "fun", desc := "(II)I" } : Jvm.MethodName)) ∈ lw_all := lw_g (lw_at lw_m11 18 rfl) rfl
theorem q2694 : (Jvm.Cond.selects "LetMill$Fn" ({ cls := "LetMill$Exp", name := "isCon", desc := "()Z" } : Jvm.MethodName) ({ cls := "LetMill$Exp", name := "isCon", desc := "()Z" } : Jvm.MethodName)) ∈ lw_all := lw_g (lw_at lw_m11 84 rfl) rfl
theorem q2712 : (Jvm.Cond.instanceMethod ({ cls := "LetMill$Fn", name := "isStill", desc := "()Z" } : Jvm.MethodName)) ∈ lw_all := lw_g (lw_at lw_m11 102 rfl) rfl
theorem q2713 : (Jvm.Cond.code ({ cls := "LetMill$Fn", name := "isStill", desc := "()Z" } : Jvm.MethodName) prog_18_method_4_code (1 : Nat) (Option.some Jvm.ClassFile.FieldType.boolean)) ∈ lw_all := lw_g (lw_at lw_m11 103 rfl) rfl
theorem q2730 : (Jvm.Cond.selects "LetMill$Fn" ({ cls := "LetMill$Exp", name := "isStill", desc := "()Z" } : Jvm.MethodName) ({ cls := "LetMill$Fn", name := "isStill", desc := "()Z" } : Jvm.MethodName)) ∈ lw_all := lw_g (lw_at lw_m11 120 rfl) rfl
theorem q2785 : (Jvm.Cond.selects "LetMill$Fn" ({ cls := "LetMill$Exp", name := "infer", desc := "(LLetMill$Typer;)I" } : Jvm.MethodName) ({ cls := "LetMill$Fn", name := "infer", desc := "(LLetMill$Typer;)I" } : Jvm.MethodName)) ∈ lw_all := lw_g (lw_at lw_m11 175 rfl) rfl
theorem q2941 : (Jvm.Cond.selects "LetMill$Fn" ({ cls := "LetMill$Exp", name := "begin", desc := "(LLetMill$Machine;I)V" } : Jvm.MethodName) ({ cls := "LetMill$Fn", name := "begin", desc := "(LLetMill$Machine;I)V" } : Jvm.MethodName)) ∈ lw_all := lw_g (lw_at lw_m12 91 rfl) rfl
theorem q2942 : (Jvm.Cond.instanceMethod ({ cls := "LetMill$Fn", name := "begin", desc := "(LLetMill$Machine;I)V" } : Jvm.MethodName)) ∈ lw_all := lw_g (lw_at lw_m12 92 rfl) rfl
theorem q2943 : (Jvm.Cond.code ({ cls := "LetMill$Fn", name := "begin", desc := "(LLetMill$Machine;I)V" } : Jvm.MethodName) prog_18_method_5_code (3 : Nat) (Option.none : Option Jvm.ClassFile.FieldType)) ∈ lw_all := lw_g (lw_at lw_m12 93 rfl) rfl
theorem q2944 : (Jvm.Cond.methodLink "LetMill$Fn" (61 : Nat) ({ cls := "LetMill$Machine", name := "pay", desc := "(I)Z" } : Jvm.MethodName)) ∈ lw_all := lw_g (lw_at lw_m12 94 rfl) rfl
theorem q2945 : (Jvm.Cond.methodLink "LetMill$Fn" (70 : Nat) ({ cls := "LetMill$Machine", name := "code", desc := "(LLetMill$Row;)I" } : Jvm.MethodName)) ∈ lw_all := lw_g (lw_at lw_m12 95 rfl) rfl
theorem q2949 : (Jvm.Cond.methodLink "LetMill$Fn" (73 : Nat) ({ cls := "LetMill$Machine", name := "closure", desc := "(IIII)I" } : Jvm.MethodName)) ∈ lw_all := lw_g (lw_at lw_m12 99 rfl) rfl
theorem q2953 : (Jvm.Cond.methodLink "LetMill$Fn" (77 : Nat) ({ cls := "LetMill$Machine", name := "give", desc := "(I)V" } : Jvm.MethodName)) ∈ lw_all := lw_g (lw_at lw_m12 103 rfl) rfl
theorem q3229 : (Jvm.Cond.selects "LetMill$Fn" ({ cls := "LetMill$Exp", name := "resume", desc := "(LLetMill$Machine;III)V" } : Jvm.MethodName) ({ cls := "LetMill$Exp", name := "resume", desc := "(LLetMill$Machine;III)V" } : Jvm.MethodName)) ∈ lw_all := lw_g (lw_at lw_m13 139 rfl) rfl
theorem q4555 : (Jvm.Cond.castable "LetMill$Fn" "LetMill$Exp") ∈ lw_tbl := lw_at lw_m19 25 rfl
def RX33 : String := "LetMill$Case"
abbrev cX33_init : ByteArray := prog_6_method_1_code
def yX33_init : MethodName := ⟨RX33, "<init>", "(ILLetMill$Exp;LLetMill$Row;)V"⟩
abbrev cX33_resolve : ByteArray := prog_6_method_2_code
def yX33_resolve : MethodName := ⟨RX33, "resolve", "(LLetMill$Scope;)V"⟩
abbrev cX33_infer : ByteArray := prog_6_method_3_code
def yX33_infer : MethodName := ⟨RX33, "infer", "(LLetMill$Typer;)I"⟩
abbrev cX33_begin : ByteArray := prog_6_method_4_code
def yX33_begin : MethodName := ⟨RX33, "begin", "(LLetMill$Machine;I)V"⟩
abbrev cX33_resume : ByteArray := prog_6_method_5_code
def yX33_resume : MethodName := ⟨RX33, "resume", "(LLetMill$Machine;III)V"⟩
theorem q254 : (Jvm.Cond.initialized "LetMill$Case") ∈ lw_all := lw_g (lw_at lw_m1 44 rfl) rfl
theorem q571 : (Jvm.Cond.fieldLink "LetMill$Case" (21 : Nat) "LetMill$Row" "many" "I") ∈ lw_all := lw_g (lw_at lw_m2 121 rfl) rfl
theorem q823 : (Jvm.Cond.fieldLink "LetMill$Case" (57 : Nat) "LetMill$Typer" "k" "LLetMill$Tokens;") ∈ lw_all := lw_g (lw_at lw_m3 133 rfl) rfl
theorem q829 : (Jvm.Cond.fieldLink "LetMill$Case" (53 : Nat) "LetMill$Typer" "matches" "LLetMill$Matches;") ∈ lw_all := lw_g (lw_at lw_m3 139 rfl) rfl
theorem q1535 : (Jvm.Cond.fieldLink "LetMill$Case" (46 : Nat) "LetMill$Exp" "token" "I") ∈ lw_all := lw_g (lw_at lw_m6 125 rfl) rfl
theorem q1537 : (Jvm.Cond.fieldLink "LetMill$Case" (61 : Nat) "LetMill$Case" "token" "I") ∈ lw_all := lw_g (lw_at lw_m6 127 rfl) rfl
theorem q1538 : (Jvm.Cond.sameField "LetMill$Case" "LetMill$Exp" "token" "I") ∈ lw_all := lw_g (lw_at lw_m6 128 rfl) rfl
theorem q1557 : (Jvm.Cond.instantiable "LetMill$Case" (4 : Nat)) ∈ lw_all := lw_g (lw_at lw_m6 147 rfl) rfl
theorem q1559 : (Jvm.Cond.instanceMethod ({ cls := "LetMill$Case", name := "<init>", desc := "(ILLetMill$Exp;LLetMill$Row;)V" } : Jvm.MethodName)) ∈ lw_all := lw_g (lw_at lw_m6 149 rfl) rfl
theorem q1560 : (Jvm.Cond.code ({ cls := "LetMill$Case", name := "<init>", desc := "(ILLetMill$Exp;LLetMill$Row;)V" } : Jvm.MethodName) prog_6_method_1_code (4 : Nat) (Option.none : Option Jvm.ClassFile.FieldType)) ∈ lw_all := lw_g (lw_at lw_m6 150 rfl) rfl
theorem q1561 : (Jvm.Cond.methodLink "LetMill$Case" (1 : Nat) ({ cls := "LetMill$Exp", name := "<init>", desc := "(I)V" } : Jvm.MethodName)) ∈ lw_all := lw_g (lw_at lw_m6 151 rfl) rfl
theorem q1562 : (Jvm.Cond.fieldLink "LetMill$Case" (7 : Nat) "LetMill$Case" "of" "LLetMill$Exp;") ∈ lw_all := lw_g (lw_at lw_m6 152 rfl) rfl
theorem q1563 : (Jvm.Cond.fieldLink "LetMill$Case" (13 : Nat) "LetMill$Case" "clauses" "LLetMill$Row;") ∈ lw_all := lw_g (lw_at lw_m6 153 rfl) rfl
theorem q1564 : (Jvm.Cond.laysFinal "LetMill$Case" "LetMill$Case" "of" "LLetMill$Exp;") ∈ lw_all := lw_g (lw_at lw_m6 154 rfl) rfl
theorem q1566 : (Jvm.Cond.laysFinal "LetMill$Case" "LetMill$Case" "clauses" "LLetMill$Row;") ∈ lw_all := lw_g (lw_at lw_m6 156 rfl) rfl
theorem q1568 : (Jvm.Cond.laysFinal "LetMill$Case" "LetMill$Exp" "token" "I") ∈ lw_all := lw_g (lw_at lw_m6 158 rfl) rfl
theorem q1569 : (Jvm.Cond.lays "LetMill$Case" "LetMill$Exp" "id" "I") ∈ lw_all := lw_g (lw_at lw_m6 159 rfl) rfl
theorem q2258 : (Jvm.Cond.instanceMethod ({ cls := "LetMill$Case", name := "resolve", desc := "(LLetMill$Scope;)V" } : Jvm.MethodName)) ∈ lw_all := lw_g (lw_at lw_m9 128 rfl) rfl
theorem q2259 : (Jvm.Cond.code ({ cls := "LetMill$Case", name := "resolve", desc := "(LLetMill$Scope;)V" } : Jvm.MethodName) prog_6_method_2_code (3 : Nat) (Option.none : Option Jvm.ClassFile.FieldType)) ∈ lw_all := lw_g (lw_at lw_m9 129 rfl) rfl
theorem q2260 : (Jvm.Cond.methodLink "LetMill$Case" (17 : Nat) ({ cls := "LetMill$Exp", name := "resolve", desc := "(LLetMill$Scope;)V" } : Jvm.MethodName)) ∈ lw_all := lw_g (lw_at lw_m9 130 rfl) rfl
theorem q2291 : (Jvm.Cond.methodLink "LetMill$Case" (27 : Nat) ({ cls := "LetMill$Row", name := "clause", desc := "(I)LLetMill$Clause;" } : Jvm.MethodName)) ∈ lw_all := lw_g (lw_at lw_m9 161 rfl) rfl
theorem q2292 : (Jvm.Cond.methodLink "LetMill$Case" (31 : Nat) ({ cls := "LetMill$Scope", name := "clause", desc := "(LLetMill$Clause;)V" } : Jvm.MethodName)) ∈ lw_all := lw_g (lw_at lw_m9 162 rfl) rfl
theorem q2294 : (Jvm.Cond.selects "LetMill$Case" ({ cls := "LetMill$Exp", name := "resolve", desc := "(LLetMill$Scope;)V" } : Jvm.MethodName) ({ cls := "LetMill$Case", name := "resolve", desc := "(LLetMill$Scope;)V" } : Jvm.MethodName)) ∈ lw_all := lw_g (lw_at lw_m9 164 rfl) rfl
theorem q2522 : (Jvm.Cond.instanceMethod ({ cls := "LetMill$Case", name := "infer", desc := "(LLetMill$Typer;)I" } : Jvm.MethodName)) ∈ lw_all := lw_g (lw_at lw_m10 152 rfl) rfl
theorem q2523 : (Jvm.Cond.code ({ cls := "LetMill$Case", name := "infer", desc := "(LLetMill$Typer;)I" } : Jvm.MethodName) prog_6_method_3_code (5 : Nat) (Option.some Jvm.ClassFile.FieldType.int)) ∈ lw_all := lw_g (lw_at lw_m10 153 rfl) rfl
theorem q2524 : (Jvm.Cond.methodLink "LetMill$Case" (36 : Nat) ({ cls := "LetMill$Exp", name := "infer", desc := "(LLetMill$Typer;)I" } : Jvm.MethodName)) ∈ lw_all := lw_g (lw_at lw_m10 154 rfl) rfl
theorem q2691 : (Jvm.Cond.selects "LetMill$Case" ({ cls := "LetMill$Exp", name := "isCon", desc := "()Z" } : Jvm.MethodName) ({ cls := "LetMill$Exp", name := "isCon", desc := "()Z" } : Jvm.MethodName)) ∈ lw_all := lw_g (lw_at lw_m11 81 rfl) rfl
theorem q2727 : (Jvm.Cond.selects "LetMill$Case" ({ cls := "LetMill$Exp", name := "isStill", desc := "()Z" } : Jvm.MethodName) ({ cls := "LetMill$Exp", name := "isStill", desc := "()Z" } : Jvm.MethodName)) ∈ lw_all := lw_g (lw_at lw_m11 117 rfl) rfl
theorem q2775 : (Jvm.Cond.methodLink "LetMill$Case" (40 : Nat) ({ cls := "LetMill$Typer", name := "match", desc := "(LLetMill$Row;[I)I" } : Jvm.MethodName)) ∈ lw_all := lw_g (lw_at lw_m11 165 rfl) rfl
theorem q2776 : (Jvm.Cond.methodLink "LetMill$Case" (49 : Nat) ({ cls := "LetMill$Typer", name := "same", desc := "(III)V" } : Jvm.MethodName)) ∈ lw_all := lw_g (lw_at lw_m11 166 rfl) rfl
theorem q2777 : (Jvm.Cond.methodLink "LetMill$Case" (62 : Nat) ({ cls := "LetMill$Matches", name := "check", desc := "(LLetMill$Row;LLetMill$Tokens;I)V" } : Jvm.MethodName)) ∈ lw_all := lw_g (lw_at lw_m11 167 rfl) rfl
theorem q2782 : (Jvm.Cond.selects "LetMill$Case" ({ cls := "LetMill$Exp", name := "infer", desc := "(LLetMill$Typer;)I" } : Jvm.MethodName) ({ cls := "LetMill$Case", name := "infer", desc := "(LLetMill$Typer;)I" } : Jvm.MethodName)) ∈ lw_all := lw_g (lw_at lw_m11 172 rfl) rfl
theorem q2916 : (Jvm.Cond.selects "LetMill$Case" ({ cls := "LetMill$Exp", name := "begin", desc := "(LLetMill$Machine;I)V" } : Jvm.MethodName) ({ cls := "LetMill$Case", name := "begin", desc := "(LLetMill$Machine;I)V" } : Jvm.MethodName)) ∈ lw_all := lw_g (lw_at lw_m12 66 rfl) rfl
theorem q2917 : (Jvm.Cond.instanceMethod ({ cls := "LetMill$Case", name := "begin", desc := "(LLetMill$Machine;I)V" } : Jvm.MethodName)) ∈ lw_all := lw_g (lw_at lw_m12 67 rfl) rfl
theorem q2918 : (Jvm.Cond.code ({ cls := "LetMill$Case", name := "begin", desc := "(LLetMill$Machine;I)V" } : Jvm.MethodName) prog_6_method_4_code (3 : Nat) (Option.none : Option Jvm.ClassFile.FieldType)) ∈ lw_all := lw_g (lw_at lw_m12 68 rfl) rfl
theorem q2919 : (Jvm.Cond.methodLink "LetMill$Case" (68 : Nat) ({ cls := "LetMill$Machine", name := "pay", desc := "(I)Z" } : Jvm.MethodName)) ∈ lw_all := lw_g (lw_at lw_m12 69 rfl) rfl
theorem q2920 : (Jvm.Cond.methodLink "LetMill$Case" (74 : Nat) ({ cls := "LetMill$Machine", name := "frame", desc := "(LLetMill$Exp;II)V" } : Jvm.MethodName)) ∈ lw_all := lw_g (lw_at lw_m12 70 rfl) rfl
theorem q2921 : (Jvm.Cond.methodLink "LetMill$Case" (78 : Nat) ({ cls := "LetMill$Machine", name := "next", desc := "(LLetMill$Exp;I)V" } : Jvm.MethodName)) ∈ lw_all := lw_g (lw_at lw_m12 71 rfl) rfl
theorem q3198 : (Jvm.Cond.selects "LetMill$Case" ({ cls := "LetMill$Exp", name := "resume", desc := "(LLetMill$Machine;III)V" } : Jvm.MethodName) ({ cls := "LetMill$Case", name := "resume", desc := "(LLetMill$Machine;III)V" } : Jvm.MethodName)) ∈ lw_all := lw_g (lw_at lw_m13 108 rfl) rfl
theorem q3199 : (Jvm.Cond.instanceMethod ({ cls := "LetMill$Case", name := "resume", desc := "(LLetMill$Machine;III)V" } : Jvm.MethodName)) ∈ lw_all := lw_g (lw_at lw_m13 109 rfl) rfl
theorem q3200 : (Jvm.Cond.code ({ cls := "LetMill$Case", name := "resume", desc := "(LLetMill$Machine;III)V" } : Jvm.MethodName) prog_6_method_5_code (5 : Nat) (Option.none : Option Jvm.ClassFile.FieldType)) ∈ lw_all := lw_g (lw_at lw_m13 110 rfl) rfl
theorem q3201 : (Jvm.Cond.methodLink "LetMill$Case" (82 : Nat) ({ cls := "LetMill$Machine", name := "choose", desc := "(LLetMill$Row;II)V" } : Jvm.MethodName)) ∈ lw_all := lw_g (lw_at lw_m13 111 rfl) rfl
theorem q4552 : (Jvm.Cond.castable "LetMill$Case" "LetMill$Exp") ∈ lw_tbl := lw_at lw_m19 22 rfl
def RX34 : String := "LetMill$If"
abbrev cX34_init : ByteArray := prog_23_method_1_code
def yX34_init : MethodName := ⟨RX34, "<init>", "(ILLetMill$Exp;LLetMill$Exp;LLetMill$Exp;)V"⟩
abbrev cX34_resolve : ByteArray := prog_23_method_2_code
def yX34_resolve : MethodName := ⟨RX34, "resolve", "(LLetMill$Scope;)V"⟩
abbrev cX34_infer : ByteArray := prog_23_method_3_code
def yX34_infer : MethodName := ⟨RX34, "infer", "(LLetMill$Typer;)I"⟩
abbrev cX34_begin : ByteArray := prog_23_method_4_code
def yX34_begin : MethodName := ⟨RX34, "begin", "(LLetMill$Machine;I)V"⟩
abbrev cX34_resume : ByteArray := prog_23_method_5_code
def yX34_resume : MethodName := ⟨RX34, "resume", "(LLetMill$Machine;III)V"⟩
theorem q255 : (Jvm.Cond.initialized "LetMill$If") ∈ lw_all := lw_g (lw_at lw_m1 45 rfl) rfl
theorem q499 : (Jvm.Cond.fieldLink "LetMill$If" (33 : Nat) "LetMill$Types" "truth" "I") ∈ lw_all := lw_g (lw_at lw_m2 49 rfl) rfl
theorem q809 : (Jvm.Cond.fieldLink "LetMill$If" (27 : Nat) "LetMill$Typer" "types" "LLetMill$Types;") ∈ lw_all := lw_g (lw_at lw_m3 119 rfl) rfl
theorem q1532 : (Jvm.Cond.fieldLink "LetMill$If" (39 : Nat) "LetMill$Exp" "token" "I") ∈ lw_all := lw_g (lw_at lw_m6 122 rfl) rfl
theorem q1572 : (Jvm.Cond.instantiable "LetMill$If" (5 : Nat)) ∈ lw_all := lw_g (lw_at lw_m6 162 rfl) rfl
theorem q1574 : (Jvm.Cond.instanceMethod ({ cls := "LetMill$If", name := "<init>", desc := "(ILLetMill$Exp;LLetMill$Exp;LLetMill$Exp;)V" } : Jvm.MethodName)) ∈ lw_all := lw_g (lw_at lw_m6 164 rfl) rfl
theorem q1575 : (Jvm.Cond.code ({ cls := "LetMill$If", name := "<init>", desc := "(ILLetMill$Exp;LLetMill$Exp;LLetMill$Exp;)V" } : Jvm.MethodName) prog_23_method_1_code (5 : Nat) (Option.none : Option Jvm.ClassFile.FieldType)) ∈ lw_all := lw_g (lw_at lw_m6 165 rfl) rfl
theorem q1576 : (Jvm.Cond.methodLink "LetMill$If" (1 : Nat) ({ cls := "LetMill$Exp", name := "<init>", desc := "(I)V" } : Jvm.MethodName)) ∈ lw_all := lw_g (lw_at lw_m6 166 rfl) rfl
theorem q1577 : (Jvm.Cond.fieldLink "LetMill$If" (7 : Nat) "LetMill$If" "c" "LLetMill$Exp;") ∈ lw_all := lw_g (lw_at lw_m6 167 rfl) rfl
theorem q1578 : (Jvm.Cond.fieldLink "LetMill$If" (13 : Nat) "LetMill$If" "yes" "LLetMill$Exp;") ∈ lw_all := lw_g (lw_at lw_m6 168 rfl) rfl
theorem q1579 : (Jvm.Cond.fieldLink "LetMill$If" (16 : Nat) "LetMill$If" "no" "LLetMill$Exp;") ∈ lw_all := lw_g (lw_at lw_m6 169 rfl) rfl
theorem q1580 : (Jvm.Cond.laysFinal "LetMill$If" "LetMill$If" "c" "LLetMill$Exp;") ∈ lw_all := lw_g (lw_at lw_m6 170 rfl) rfl
theorem q1582 : (Jvm.Cond.laysFinal "LetMill$If" "LetMill$If" "yes" "LLetMill$Exp;") ∈ lw_all := lw_g (lw_at lw_m6 172 rfl) rfl
theorem q1584 : (Jvm.Cond.laysFinal "LetMill$If" "LetMill$If" "no" "LLetMill$Exp;") ∈ lw_all := lw_g (lw_at lw_m6 174 rfl) rfl
theorem q1586 : (Jvm.Cond.laysFinal "LetMill$If" "LetMill$Exp" "token" "I") ∈ lw_all := lw_g (lw_at lw_m6 176 rfl) rfl
theorem q1587 : (Jvm.Cond.lays "LetMill$If" "LetMill$Exp" "id" "I") ∈ lw_all := lw_g (lw_at lw_m6 177 rfl) rfl
theorem q2273 : (Jvm.Cond.instanceMethod ({ cls := "LetMill$If", name := "resolve", desc := "(LLetMill$Scope;)V" } : Jvm.MethodName)) ∈ lw_all := lw_g (lw_at lw_m9 143 rfl) rfl
theorem q2274 : (Jvm.Cond.code ({ cls := "LetMill$If", name := "resolve", desc := "(LLetMill$Scope;)V" } : Jvm.MethodName) prog_23_method_2_code (2 : Nat) (Option.none : Option Jvm.ClassFile.FieldType)) ∈ lw_all := lw_g (lw_at lw_m9 144 rfl) rfl
theorem q2275 : (Jvm.Cond.methodLink "LetMill$If" (19 : Nat) ({ cls := "LetMill$Exp", name := "resolve", desc := "(LLetMill$Scope;)V" } : Jvm.MethodName)) ∈ lw_all := lw_g (lw_at lw_m9 145 rfl) rfl
theorem q2299 : (Jvm.Cond.selects "LetMill$If" ({ cls := "LetMill$Exp", name := "resolve", desc := "(LLetMill$Scope;)V" } : Jvm.MethodName) ({ cls := "LetMill$If", name := "resolve", desc := "(LLetMill$Scope;)V" } : Jvm.MethodName)) ∈ lw_all := lw_g (lw_at lw_m9 169 rfl) rfl
theorem q2632 : (Jvm.Cond.instanceMethod ({ cls := "LetMill$If", name := "infer", desc := "(LLetMill$Typer;)I" } : Jvm.MethodName)) ∈ lw_all := lw_g (lw_at lw_m11 22 rfl) rfl
theorem q2633 : (Jvm.Cond.code ({ cls := "LetMill$If", name := "infer", desc := "(LLetMill$Typer;)I" } : Jvm.MethodName) prog_23_method_3_code (4 : Nat) (Option.some Jvm.ClassFile.FieldType.int)) ∈ lw_all := lw_g (lw_at lw_m11 23 rfl) rfl
theorem q2634 : (Jvm.Cond.methodLink "LetMill$If" (23 : Nat) ({ cls := "LetMill$Exp", name := "infer", desc := "(LLetMill$Typer;)I" } : Jvm.MethodName)) ∈ lw_all := lw_g (lw_at lw_m11 24 rfl) rfl
theorem q2696 : (Jvm.Cond.selects "LetMill$If" ({ cls := "LetMill$Exp", name := "isCon", desc := "()Z" } : Jvm.MethodName) ({ cls := "LetMill$Exp", name := "isCon", desc := "()Z" } : Jvm.MethodName)) ∈ lw_all := lw_g (lw_at lw_m11 86 rfl) rfl
theorem q2732 : (Jvm.Cond.selects "LetMill$If" ({ cls := "LetMill$Exp", name := "isStill", desc := "()Z" } : Jvm.MethodName) ({ cls := "LetMill$Exp", name := "isStill", desc := "()Z" } : Jvm.MethodName)) ∈ lw_all := lw_g (lw_at lw_m11 122 rfl) rfl
theorem q2760 : (Jvm.Cond.methodLink "LetMill$If" (42 : Nat) ({ cls := "LetMill$Typer", name := "same", desc := "(III)V" } : Jvm.MethodName)) ∈ lw_all := lw_g (lw_at lw_m11 150 rfl) rfl
theorem q2787 : (Jvm.Cond.selects "LetMill$If" ({ cls := "LetMill$Exp", name := "infer", desc := "(LLetMill$Typer;)I" } : Jvm.MethodName) ({ cls := "LetMill$If", name := "infer", desc := "(LLetMill$Typer;)I" } : Jvm.MethodName)) ∈ lw_all := lw_g (lw_at lw_m11 177 rfl) rfl
theorem q2958 : (Jvm.Cond.selects "LetMill$If" ({ cls := "LetMill$Exp", name := "begin", desc := "(LLetMill$Machine;I)V" } : Jvm.MethodName) ({ cls := "LetMill$If", name := "begin", desc := "(LLetMill$Machine;I)V" } : Jvm.MethodName)) ∈ lw_all := lw_g (lw_at lw_m12 108 rfl) rfl
theorem q2959 : (Jvm.Cond.instanceMethod ({ cls := "LetMill$If", name := "begin", desc := "(LLetMill$Machine;I)V" } : Jvm.MethodName)) ∈ lw_all := lw_g (lw_at lw_m12 109 rfl) rfl
theorem q2960 : (Jvm.Cond.code ({ cls := "LetMill$If", name := "begin", desc := "(LLetMill$Machine;I)V" } : Jvm.MethodName) prog_23_method_4_code (3 : Nat) (Option.none : Option Jvm.ClassFile.FieldType)) ∈ lw_all := lw_g (lw_at lw_m12 110 rfl) rfl
theorem q2961 : (Jvm.Cond.methodLink "LetMill$If" (46 : Nat) ({ cls := "LetMill$Machine", name := "pay", desc := "(I)Z" } : Jvm.MethodName)) ∈ lw_all := lw_g (lw_at lw_m12 111 rfl) rfl
theorem q2962 : (Jvm.Cond.methodLink "LetMill$If" (52 : Nat) ({ cls := "LetMill$Machine", name := "frame", desc := "(LLetMill$Exp;II)V" } : Jvm.MethodName)) ∈ lw_all := lw_g (lw_at lw_m12 112 rfl) rfl
theorem q2963 : (Jvm.Cond.methodLink "LetMill$If" (56 : Nat) ({ cls := "LetMill$Machine", name := "next", desc := "(LLetMill$Exp;I)V" } : Jvm.MethodName)) ∈ lw_all := lw_g (lw_at lw_m12 113 rfl) rfl
theorem q3231 : (Jvm.Cond.selects "LetMill$If" ({ cls := "LetMill$Exp", name := "resume", desc := "(LLetMill$Machine;III)V" } : Jvm.MethodName) ({ cls := "LetMill$If", name := "resume", desc := "(LLetMill$Machine;III)V" } : Jvm.MethodName)) ∈ lw_all := lw_g (lw_at lw_m13 141 rfl) rfl
theorem q3232 : (Jvm.Cond.instanceMethod ({ cls := "LetMill$If", name := "resume", desc := "(LLetMill$Machine;III)V" } : Jvm.MethodName)) ∈ lw_all := lw_g (lw_at lw_m13 142 rfl) rfl
theorem q3233 : (Jvm.Cond.code ({ cls := "LetMill$If", name := "resume", desc := "(LLetMill$Machine;III)V" } : Jvm.MethodName) prog_23_method_5_code (5 : Nat) (Option.none : Option Jvm.ClassFile.FieldType)) ∈ lw_all := lw_g (lw_at lw_m13 143 rfl) rfl
theorem q3234 : (Jvm.Cond.methodLink "LetMill$If" (60 : Nat) ({ cls := "LetMill$Machine", name := "isTrue", desc := "(I)Z" } : Jvm.MethodName)) ∈ lw_all := lw_g (lw_at lw_m13 144 rfl) rfl
theorem q4557 : (Jvm.Cond.castable "LetMill$If" "LetMill$Exp") ∈ lw_tbl := lw_at lw_m19 27 rfl
def RX35 : String := "LetMill$Use"
abbrev cX35_init : ByteArray := prog_56_method_1_code
def yX35_init : MethodName := ⟨RX35, "<init>", "(I)V"⟩
abbrev cX35_resolve : ByteArray := prog_56_method_2_code
def yX35_resolve : MethodName := ⟨RX35, "resolve", "(LLetMill$Scope;)V"⟩
abbrev cX35_infer : ByteArray := prog_56_method_3_code
def yX35_infer : MethodName := ⟨RX35, "infer", "(LLetMill$Typer;)I"⟩
abbrev cX35_isStill : ByteArray := prog_56_method_4_code
def yX35_isStill : MethodName := ⟨RX35, "isStill", "()Z"⟩
abbrev cX35_begin : ByteArray := prog_56_method_5_code
def yX35_begin : MethodName := ⟨RX35, "begin", "(LLetMill$Machine;I)V"⟩
theorem q256 : (Jvm.Cond.initialized "LetMill$Use") ∈ lw_all := lw_g (lw_at lw_m1 46 rfl) rfl
theorem q692 : (Jvm.Cond.fieldLink "LetMill$Use" (23 : Nat) "LetMill$Scope" "depth" "I") ∈ lw_all := lw_g (lw_at lw_m3 2 rfl) rfl
theorem q929 : (Jvm.Cond.fieldLink "LetMill$Use" (26 : Nat) "LetMill$Binding" "level" "I") ∈ lw_all := lw_g (lw_at lw_m3 239 rfl) rfl
theorem q936 : (Jvm.Cond.fieldLink "LetMill$Use" (46 : Nat) "LetMill$Binding" "value" "I") ∈ lw_all := lw_g (lw_at lw_m4 6 rfl) rfl
theorem q1527 : (Jvm.Cond.fieldLink "LetMill$Use" (7 : Nat) "LetMill$Use" "token" "I") ∈ lw_all := lw_g (lw_at lw_m6 117 rfl) rfl
theorem q1528 : (Jvm.Cond.sameField "LetMill$Use" "LetMill$Exp" "token" "I") ∈ lw_all := lw_g (lw_at lw_m6 118 rfl) rfl
theorem q1602 : (Jvm.Cond.instantiable "LetMill$Use" (4 : Nat)) ∈ lw_all := lw_g (lw_at lw_m6 192 rfl) rfl
theorem q1604 : (Jvm.Cond.instanceMethod ({ cls := "LetMill$Use", name := "<init>", desc := "(I)V" } : Jvm.MethodName)) ∈ lw_all := lw_g (lw_at lw_m6 194 rfl) rfl
theorem q1605 : (Jvm.Cond.code ({ cls := "LetMill$Use", name := "<init>", desc := "(I)V" } : Jvm.MethodName) prog_56_method_1_code (2 : Nat) (Option.none : Option Jvm.ClassFile.FieldType)) ∈ lw_all := lw_g (lw_at lw_m6 195 rfl) rfl
theorem q1606 : (Jvm.Cond.methodLink "LetMill$Use" (1 : Nat) ({ cls := "LetMill$Exp", name := "<init>", desc := "(I)V" } : Jvm.MethodName)) ∈ lw_all := lw_g (lw_at lw_m6 196 rfl) rfl
theorem q1607 : (Jvm.Cond.fieldLink "LetMill$Use" (19 : Nat) "LetMill$Use" "b" "LLetMill$Binding;") ∈ lw_all := lw_g (lw_at lw_m6 197 rfl) rfl
theorem q1608 : (Jvm.Cond.fieldLink "LetMill$Use" (31 : Nat) "LetMill$Use" "up" "I") ∈ lw_all := lw_g (lw_at lw_m6 198 rfl) rfl
theorem q1609 : (Jvm.Cond.lays "LetMill$Use" "LetMill$Use" "b" "LLetMill$Binding;") ∈ lw_all := lw_g (lw_at lw_m6 199 rfl) rfl
theorem q1611 : (Jvm.Cond.lays "LetMill$Use" "LetMill$Use" "up" "I") ∈ lw_all := lw_g (lw_at lw_m6 201 rfl) rfl
theorem q1613 : (Jvm.Cond.laysFinal "LetMill$Use" "LetMill$Exp" "token" "I") ∈ lw_all := lw_g (lw_at lw_m6 203 rfl) rfl
theorem q1614 : (Jvm.Cond.lays "LetMill$Use" "LetMill$Exp" "id" "I") ∈ lw_all := lw_g (lw_at lw_m6 204 rfl) rfl
theorem q2282 : (Jvm.Cond.instanceMethod ({ cls := "LetMill$Use", name := "resolve", desc := "(LLetMill$Scope;)V" } : Jvm.MethodName)) ∈ lw_all := lw_g (lw_at lw_m9 152 rfl) rfl
theorem q2283 : (Jvm.Cond.code ({ cls := "LetMill$Use", name := "resolve", desc := "(LLetMill$Scope;)V" } : Jvm.MethodName) prog_56_method_2_code (2 : Nat) (Option.none : Option Jvm.ClassFile.FieldType)) ∈ lw_all := lw_g (lw_at lw_m9 153 rfl) rfl
theorem q2284 : (Jvm.Cond.methodLink "LetMill$Use" (13 : Nat) ({ cls := "LetMill$Scope", name := "name", desc := "(I)LLetMill$Binding;" } : Jvm.MethodName)) ∈ lw_all := lw_g (lw_at lw_m9 154 rfl) rfl
theorem q2305 : (Jvm.Cond.selects "LetMill$Use" ({ cls := "LetMill$Exp", name := "resolve", desc := "(LLetMill$Scope;)V" } : Jvm.MethodName) ({ cls := "LetMill$Use", name := "resolve", desc := "(LLetMill$Scope;)V" } : Jvm.MethodName)) ∈ lw_all := lw_g (lw_at lw_m9 175 rfl) rfl
theorem q2655 : (Jvm.Cond.instanceMethod ({ cls := "LetMill$Use", name := "infer", desc := "(LLetMill$Typer;)I" } : Jvm.MethodName)) ∈ lw_all := lw_g (lw_at lw_m11 45 rfl) rfl
theorem q2656 : (Jvm.Cond.code ({ cls := "LetMill$Use", name := "infer", desc := "(LLetMill$Typer;)I" } : Jvm.MethodName) prog_56_method_3_code (2 : Nat) (Option.some Jvm.ClassFile.FieldType.int)) ∈ lw_all := lw_g (lw_at lw_m11 46 rfl) rfl
theorem q2657 : (Jvm.Cond.methodLink "LetMill$Use" (34 : Nat) ({ cls := "LetMill$Typer", name := "typeOf", desc := "(LLetMill$Binding;)I" } : Jvm.MethodName)) ∈ lw_all := lw_g (lw_at lw_m11 47 rfl) rfl
theorem q2702 : (Jvm.Cond.selects "LetMill$Use" ({ cls := "LetMill$Exp", name := "isCon", desc := "()Z" } : Jvm.MethodName) ({ cls := "LetMill$Exp", name := "isCon", desc := "()Z" } : Jvm.MethodName)) ∈ lw_all := lw_g (lw_at lw_m11 92 rfl) rfl
theorem q2722 : (Jvm.Cond.instanceMethod ({ cls := "LetMill$Use", name := "isStill", desc := "()Z" } : Jvm.MethodName)) ∈ lw_all := lw_g (lw_at lw_m11 112 rfl) rfl
theorem q2723 : (Jvm.Cond.code ({ cls := "LetMill$Use", name := "isStill", desc := "()Z" } : Jvm.MethodName) prog_56_method_4_code (1 : Nat) (Option.some Jvm.ClassFile.FieldType.boolean)) ∈ lw_all := lw_g (lw_at lw_m11 113 rfl) rfl
theorem q2738 : (Jvm.Cond.selects "LetMill$Use" ({ cls := "LetMill$Exp", name := "isStill", desc := "()Z" } : Jvm.MethodName) ({ cls := "LetMill$Use", name := "isStill", desc := "()Z" } : Jvm.MethodName)) ∈ lw_all := lw_g (lw_at lw_m11 128 rfl) rfl
theorem q2793 : (Jvm.Cond.selects "LetMill$Use" ({ cls := "LetMill$Exp", name := "infer", desc := "(LLetMill$Typer;)I" } : Jvm.MethodName) ({ cls := "LetMill$Use", name := "infer", desc := "(LLetMill$Typer;)I" } : Jvm.MethodName)) ∈ lw_all := lw_g (lw_at lw_m11 183 rfl) rfl
theorem q3034 : (Jvm.Cond.selects "LetMill$Use" ({ cls := "LetMill$Exp", name := "begin", desc := "(LLetMill$Machine;I)V" } : Jvm.MethodName) ({ cls := "LetMill$Use", name := "begin", desc := "(LLetMill$Machine;I)V" } : Jvm.MethodName)) ∈ lw_all := lw_g (lw_at lw_m12 184 rfl) rfl
theorem q3035 : (Jvm.Cond.instanceMethod ({ cls := "LetMill$Use", name := "begin", desc := "(LLetMill$Machine;I)V" } : Jvm.MethodName)) ∈ lw_all := lw_g (lw_at lw_m12 185 rfl) rfl
theorem q3036 : (Jvm.Cond.code ({ cls := "LetMill$Use", name := "begin", desc := "(LLetMill$Machine;I)V" } : Jvm.MethodName) prog_56_method_5_code (3 : Nat) (Option.none : Option Jvm.ClassFile.FieldType)) ∈ lw_all := lw_g (lw_at lw_m12 186 rfl) rfl
theorem q3037 : (Jvm.Cond.methodLink "LetMill$Use" (40 : Nat) ({ cls := "LetMill$Machine", name := "pay", desc := "(I)Z" } : Jvm.MethodName)) ∈ lw_all := lw_g (lw_at lw_m12 187 rfl) rfl
theorem q3038 : (Jvm.Cond.methodLink "LetMill$Use" (49 : Nat) ({ cls := "LetMill$Machine", name := "known", desc := "(II)I" } : Jvm.MethodName)) ∈ lw_all := lw_g (lw_at lw_m12 188 rfl) rfl
theorem q3042 : (Jvm.Cond.methodLink "LetMill$Use" (53 : Nat) ({ cls := "LetMill$Machine", name := "give", desc := "(I)V" } : Jvm.MethodName)) ∈ lw_all := lw_g (lw_at lw_m12 192 rfl) rfl
theorem q3285 : (Jvm.Cond.selects "LetMill$Use" ({ cls := "LetMill$Exp", name := "resume", desc := "(LLetMill$Machine;III)V" } : Jvm.MethodName) ({ cls := "LetMill$Exp", name := "resume", desc := "(LLetMill$Machine;III)V" } : Jvm.MethodName)) ∈ lw_all := lw_g (lw_at lw_m13 195 rfl) rfl
theorem q4563 : (Jvm.Cond.castable "LetMill$Use" "LetMill$Exp") ∈ lw_tbl := lw_at lw_m19 33 rfl
def RX36 : String := "LetMill$UseCon"
abbrev cX36_init : ByteArray := prog_57_method_1_code
def yX36_init : MethodName := ⟨RX36, "<init>", "(I)V"⟩
abbrev cX36_resolve : ByteArray := prog_57_method_2_code
def yX36_resolve : MethodName := ⟨RX36, "resolve", "(LLetMill$Scope;)V"⟩
abbrev cX36_infer : ByteArray := prog_57_method_3_code
def yX36_infer : MethodName := ⟨RX36, "infer", "(LLetMill$Typer;)I"⟩
abbrev cX36_isCon : ByteArray := prog_57_method_5_code
def yX36_isCon : MethodName := ⟨RX36, "isCon", "()Z"⟩
abbrev cX36_isStill : ByteArray := prog_57_method_4_code
def yX36_isStill : MethodName := ⟨RX36, "isStill", "()Z"⟩
abbrev cX36_begin : ByteArray := prog_57_method_6_code
def yX36_begin : MethodName := ⟨RX36, "begin", "(LLetMill$Machine;I)V"⟩
theorem q257 : (Jvm.Cond.initialized "LetMill$UseCon") ∈ lw_all := lw_g (lw_at lw_m1 47 rfl) rfl
theorem q802 : (Jvm.Cond.fieldLink "LetMill$UseCon" (22 : Nat) "LetMill$Typer" "types" "LLetMill$Types;") ∈ lw_all := lw_g (lw_at lw_m3 112 rfl) rfl
theorem q1529 : (Jvm.Cond.fieldLink "LetMill$UseCon" (7 : Nat) "LetMill$UseCon" "token" "I") ∈ lw_all := lw_g (lw_at lw_m6 119 rfl) rfl
theorem q1530 : (Jvm.Cond.sameField "LetMill$UseCon" "LetMill$Exp" "token" "I") ∈ lw_all := lw_g (lw_at lw_m6 120 rfl) rfl
theorem q1617 : (Jvm.Cond.instantiable "LetMill$UseCon" (3 : Nat)) ∈ lw_all := lw_g (lw_at lw_m6 207 rfl) rfl
theorem q1619 : (Jvm.Cond.instanceMethod ({ cls := "LetMill$UseCon", name := "<init>", desc := "(I)V" } : Jvm.MethodName)) ∈ lw_all := lw_g (lw_at lw_m6 209 rfl) rfl
theorem q1620 : (Jvm.Cond.code ({ cls := "LetMill$UseCon", name := "<init>", desc := "(I)V" } : Jvm.MethodName) prog_57_method_1_code (2 : Nat) (Option.none : Option Jvm.ClassFile.FieldType)) ∈ lw_all := lw_g (lw_at lw_m6 210 rfl) rfl
theorem q1621 : (Jvm.Cond.methodLink "LetMill$UseCon" (1 : Nat) ({ cls := "LetMill$Exp", name := "<init>", desc := "(I)V" } : Jvm.MethodName)) ∈ lw_all := lw_g (lw_at lw_m6 211 rfl) rfl
theorem q1622 : (Jvm.Cond.fieldLink "LetMill$UseCon" (19 : Nat) "LetMill$UseCon" "con" "LLetMill$Con;") ∈ lw_all := lw_g (lw_at lw_m6 212 rfl) rfl
theorem q1623 : (Jvm.Cond.lays "LetMill$UseCon" "LetMill$UseCon" "con" "LLetMill$Con;") ∈ lw_all := lw_g (lw_at lw_m6 213 rfl) rfl
theorem q1625 : (Jvm.Cond.laysFinal "LetMill$UseCon" "LetMill$Exp" "token" "I") ∈ lw_all := lw_g (lw_at lw_m6 215 rfl) rfl
theorem q1626 : (Jvm.Cond.lays "LetMill$UseCon" "LetMill$Exp" "id" "I") ∈ lw_all := lw_g (lw_at lw_m6 216 rfl) rfl
theorem q2145 : (Jvm.Cond.fieldLink "LetMill$UseCon" (60 : Nat) "LetMill$Con" "id" "I") ∈ lw_all := lw_g (lw_at lw_m9 15 rfl) rfl
theorem q2149 : (Jvm.Cond.fieldLink "LetMill$UseCon" (40 : Nat) "LetMill$Con" "isWith" "Z") ∈ lw_all := lw_g (lw_at lw_m9 19 rfl) rfl
theorem q2152 : (Jvm.Cond.fieldLink "LetMill$UseCon" (44 : Nat) "LetMill$Con" "has" "[I") ∈ lw_all := lw_g (lw_at lw_m9 22 rfl) rfl
theorem q2155 : (Jvm.Cond.fieldLink "LetMill$UseCon" (28 : Nat) "LetMill$Con" "gives" "[I") ∈ lw_all := lw_g (lw_at lw_m9 25 rfl) rfl
theorem q2288 : (Jvm.Cond.instanceMethod ({ cls := "LetMill$UseCon", name := "resolve", desc := "(LLetMill$Scope;)V" } : Jvm.MethodName)) ∈ lw_all := lw_g (lw_at lw_m9 158 rfl) rfl
theorem q2289 : (Jvm.Cond.code ({ cls := "LetMill$UseCon", name := "resolve", desc := "(LLetMill$Scope;)V" } : Jvm.MethodName) prog_57_method_2_code (2 : Nat) (Option.none : Option Jvm.ClassFile.FieldType)) ∈ lw_all := lw_g (lw_at lw_m9 159 rfl) rfl
theorem q2290 : (Jvm.Cond.methodLink "LetMill$UseCon" (13 : Nat) ({ cls := "LetMill$Scope", name := "con", desc := "(I)LLetMill$Con;" } : Jvm.MethodName)) ∈ lw_all := lw_g (lw_at lw_m9 160 rfl) rfl
theorem q2306 : (Jvm.Cond.selects "LetMill$UseCon" ({ cls := "LetMill$Exp", name := "resolve", desc := "(LLetMill$Scope;)V" } : Jvm.MethodName) ({ cls := "LetMill$UseCon", name := "resolve", desc := "(LLetMill$Scope;)V" } : Jvm.MethodName)) ∈ lw_all := lw_g (lw_at lw_m9 176 rfl) rfl
theorem q2668 : (Jvm.Cond.instanceMethod ({ cls := "LetMill$UseCon", name := "infer", desc := "(LLetMill$Typer;)I" } : Jvm.MethodName)) ∈ lw_all := lw_g (lw_at lw_m11 58 rfl) rfl
theorem q2669 : (Jvm.Cond.code ({ cls := "LetMill$UseCon", name := "infer", desc := "(LLetMill$Typer;)I" } : Jvm.MethodName) prog_57_method_3_code (3 : Nat) (Option.some Jvm.ClassFile.FieldType.int)) ∈ lw_all := lw_g (lw_at lw_m11 59 rfl) rfl
theorem q2670 : (Jvm.Cond.methodLink "LetMill$UseCon" (34 : Nat) ({ cls := "LetMill$Types", name := "read", desc := "([I)I" } : Jvm.MethodName)) ∈ lw_all := lw_g (lw_at lw_m11 60 rfl) rfl
theorem q2671 : (Jvm.Cond.methodLink "LetMill$UseCon" (47 : Nat) ({ cls := "LetMill$Types", name := "readOn", desc := "([I)I" } : Jvm.MethodName)) ∈ lw_all := lw_g (lw_at lw_m11 61 rfl) rfl
theorem q2672 : (Jvm.Cond.methodLink "LetMill$UseCon" (50 : Nat) ({ cls := "LetMill$Types", name := "fun", desc := "(II)I" } : Jvm.MethodName)) ∈ lw_all := lw_g (lw_at lw_m11 62 rfl) rfl
theorem q2703 : (Jvm.Cond.selects "LetMill$UseCon" ({ cls := "LetMill$Exp", name := "isCon", desc := "()Z" } : Jvm.MethodName) ({ cls := "LetMill$UseCon", name := "isCon", desc := "()Z" } : Jvm.MethodName)) ∈ lw_all := lw_g (lw_at lw_m11 93 rfl) rfl
theorem q2704 : (Jvm.Cond.instanceMethod ({ cls := "LetMill$UseCon", name := "isCon", desc := "()Z" } : Jvm.MethodName)) ∈ lw_all := lw_g (lw_at lw_m11 94 rfl) rfl
theorem q2705 : (Jvm.Cond.code ({ cls := "LetMill$UseCon", name := "isCon", desc := "()Z" } : Jvm.MethodName) prog_57_method_5_code (1 : Nat) (Option.some Jvm.ClassFile.FieldType.boolean)) ∈ lw_all := lw_g (lw_at lw_m11 95 rfl) rfl
theorem q2724 : (Jvm.Cond.instanceMethod ({ cls := "LetMill$UseCon", name := "isStill", desc := "()Z" } : Jvm.MethodName)) ∈ lw_all := lw_g (lw_at lw_m11 114 rfl) rfl
theorem q2725 : (Jvm.Cond.code ({ cls := "LetMill$UseCon", name := "isStill", desc := "()Z" } : Jvm.MethodName) prog_57_method_4_code (1 : Nat) (Option.some Jvm.ClassFile.FieldType.boolean)) ∈ lw_all := lw_g (lw_at lw_m11 115 rfl) rfl
theorem q2739 : (Jvm.Cond.selects "LetMill$UseCon" ({ cls := "LetMill$Exp", name := "isStill", desc := "()Z" } : Jvm.MethodName) ({ cls := "LetMill$UseCon", name := "isStill", desc := "()Z" } : Jvm.MethodName)) ∈ lw_all := lw_g (lw_at lw_m11 129 rfl) rfl
theorem q2794 : (Jvm.Cond.selects "LetMill$UseCon" ({ cls := "LetMill$Exp", name := "infer", desc := "(LLetMill$Typer;)I" } : Jvm.MethodName) ({ cls := "LetMill$UseCon", name := "infer", desc := "(LLetMill$Typer;)I" } : Jvm.MethodName)) ∈ lw_all := lw_g (lw_at lw_m11 184 rfl) rfl
theorem q3043 : (Jvm.Cond.selects "LetMill$UseCon" ({ cls := "LetMill$Exp", name := "begin", desc := "(LLetMill$Machine;I)V" } : Jvm.MethodName) ({ cls := "LetMill$UseCon", name := "begin", desc := "(LLetMill$Machine;I)V" } : Jvm.MethodName)) ∈ lw_all := lw_g (lw_at lw_m12 193 rfl) rfl
theorem q3044 : (Jvm.Cond.instanceMethod ({ cls := "LetMill$UseCon", name := "begin", desc := "(LLetMill$Machine;I)V" } : Jvm.MethodName)) ∈ lw_all := lw_g (lw_at lw_m12 194 rfl) rfl
theorem q3045 : (Jvm.Cond.code ({ cls := "LetMill$UseCon", name := "begin", desc := "(LLetMill$Machine;I)V" } : Jvm.MethodName) prog_57_method_6_code (3 : Nat) (Option.none : Option Jvm.ClassFile.FieldType)) ∈ lw_all := lw_g (lw_at lw_m12 195 rfl) rfl
theorem q3046 : (Jvm.Cond.methodLink "LetMill$UseCon" (54 : Nat) ({ cls := "LetMill$Machine", name := "pay", desc := "(I)Z" } : Jvm.MethodName)) ∈ lw_all := lw_g (lw_at lw_m12 196 rfl) rfl
theorem q3047 : (Jvm.Cond.methodLink "LetMill$UseCon" (63 : Nat) ({ cls := "LetMill$Machine", name := "made", desc := "(II)I" } : Jvm.MethodName)) ∈ lw_all := lw_g (lw_at lw_m12 197 rfl) rfl
theorem q3048 : (Jvm.Cond.methodLink "LetMill$UseCon" (66 : Nat) ({ cls := "LetMill$Machine", name := "made", desc := "(III)I" } : Jvm.MethodName)) ∈ lw_all := lw_g (lw_at lw_m12 198 rfl) rfl
theorem q3049 : (Jvm.Cond.methodLink "LetMill$UseCon" (69 : Nat) ({ cls := "LetMill$Machine", name := "give", desc := "(I)V" } : Jvm.MethodName)) ∈ lw_all := lw_g (lw_at lw_m12 199 rfl) rfl
theorem q3286 : (Jvm.Cond.selects "LetMill$UseCon" ({ cls := "LetMill$Exp", name := "resume", desc := "(LLetMill$Machine;III)V" } : Jvm.MethodName) ({ cls := "LetMill$Exp", name := "resume", desc := "(LLetMill$Machine;III)V" } : Jvm.MethodName)) ∈ lw_all := lw_g (lw_at lw_m13 196 rfl) rfl
theorem q4564 : (Jvm.Cond.castable "LetMill$UseCon" "LetMill$Exp") ∈ lw_tbl := lw_at lw_m19 34 rfl
def RX37 : String := "LetMill$Constant"
abbrev cX37_init : ByteArray := prog_12_method_1_code
def yX37_init : MethodName := ⟨RX37, "<init>", "(III)V"⟩
abbrev cX37_resolve : ByteArray := prog_12_method_2_code
def yX37_resolve : MethodName := ⟨RX37, "resolve", "(LLetMill$Scope;)V"⟩
abbrev cX37_infer : ByteArray := prog_12_method_3_code
def yX37_infer : MethodName := ⟨RX37, "infer", "(LLetMill$Typer;)I"⟩
abbrev cX37_isStill : ByteArray := prog_12_method_4_code
def yX37_isStill : MethodName := ⟨RX37, "isStill", "()Z"⟩
abbrev cX37_begin : ByteArray := prog_12_method_5_code
def yX37_begin : MethodName := ⟨RX37, "begin", "(LLetMill$Machine;I)V"⟩
theorem q258 : (Jvm.Cond.initialized "LetMill$Constant") ∈ lw_all := lw_g (lw_at lw_m1 48 rfl) rfl
theorem q493 : (Jvm.Cond.fieldLink "LetMill$Constant" (22 : Nat) "LetMill$Types" "whole" "I") ∈ lw_all := lw_g (lw_at lw_m2 43 rfl) rfl
theorem q500 : (Jvm.Cond.fieldLink "LetMill$Constant" (27 : Nat) "LetMill$Types" "truth" "I") ∈ lw_all := lw_g (lw_at lw_m2 50 rfl) rfl
theorem q504 : (Jvm.Cond.fieldLink "LetMill$Constant" (30 : Nat) "LetMill$Types" "unit" "I") ∈ lw_all := lw_g (lw_at lw_m2 54 rfl) rfl
theorem q805 : (Jvm.Cond.fieldLink "LetMill$Constant" (16 : Nat) "LetMill$Typer" "types" "LLetMill$Types;") ∈ lw_all := lw_g (lw_at lw_m3 115 rfl) rfl
theorem q1629 : (Jvm.Cond.instantiable "LetMill$Constant" (4 : Nat)) ∈ lw_all := lw_g (lw_at lw_m6 219 rfl) rfl
theorem q1631 : (Jvm.Cond.instanceMethod ({ cls := "LetMill$Constant", name := "<init>", desc := "(III)V" } : Jvm.MethodName)) ∈ lw_all := lw_g (lw_at lw_m6 221 rfl) rfl
theorem q1632 : (Jvm.Cond.code ({ cls := "LetMill$Constant", name := "<init>", desc := "(III)V" } : Jvm.MethodName) prog_12_method_1_code (4 : Nat) (Option.none : Option Jvm.ClassFile.FieldType)) ∈ lw_all := lw_g (lw_at lw_m6 222 rfl) rfl
theorem q1633 : (Jvm.Cond.methodLink "LetMill$Constant" (1 : Nat) ({ cls := "LetMill$Exp", name := "<init>", desc := "(I)V" } : Jvm.MethodName)) ∈ lw_all := lw_g (lw_at lw_m6 223 rfl) rfl
theorem q1634 : (Jvm.Cond.fieldLink "LetMill$Constant" (7 : Nat) "LetMill$Constant" "sort" "I") ∈ lw_all := lw_g (lw_at lw_m6 224 rfl) rfl
theorem q1635 : (Jvm.Cond.fieldLink "LetMill$Constant" (13 : Nat) "LetMill$Constant" "value" "I") ∈ lw_all := lw_g (lw_at lw_m6 225 rfl) rfl
theorem q1636 : (Jvm.Cond.laysFinal "LetMill$Constant" "LetMill$Constant" "sort" "I") ∈ lw_all := lw_g (lw_at lw_m6 226 rfl) rfl
theorem q1638 : (Jvm.Cond.laysFinal "LetMill$Constant" "LetMill$Constant" "value" "I") ∈ lw_all := lw_g (lw_at lw_m6 228 rfl) rfl
theorem q1640 : (Jvm.Cond.laysFinal "LetMill$Constant" "LetMill$Exp" "token" "I") ∈ lw_all := lw_g (lw_at lw_m6 230 rfl) rfl
theorem q1641 : (Jvm.Cond.lays "LetMill$Constant" "LetMill$Exp" "id" "I") ∈ lw_all := lw_g (lw_at lw_m6 231 rfl) rfl
theorem q2264 : (Jvm.Cond.instanceMethod ({ cls := "LetMill$Constant", name := "resolve", desc := "(LLetMill$Scope;)V" } : Jvm.MethodName)) ∈ lw_all := lw_g (lw_at lw_m9 134 rfl) rfl
theorem q2265 : (Jvm.Cond.code ({ cls := "LetMill$Constant", name := "resolve", desc := "(LLetMill$Scope;)V" } : Jvm.MethodName) prog_12_method_2_code (2 : Nat) (Option.none : Option Jvm.ClassFile.FieldType)) ∈ lw_all := lw_g (lw_at lw_m9 135 rfl) rfl
theorem q2296 : (Jvm.Cond.selects "LetMill$Constant" ({ cls := "LetMill$Exp", name := "resolve", desc := "(LLetMill$Scope;)V" } : Jvm.MethodName) ({ cls := "LetMill$Constant", name := "resolve", desc := "(LLetMill$Scope;)V" } : Jvm.MethodName)) ∈ lw_all := lw_g (lw_at lw_m9 166 rfl) rfl
theorem q2528 : (Jvm.Cond.instanceMethod ({ cls := "LetMill$Constant", name := "infer", desc := "(LLetMill$Typer;)I" } : Jvm.MethodName)) ∈ lw_all := lw_g (lw_at lw_m10 158 rfl) rfl
theorem q2529 : (Jvm.Cond.code ({ cls := "LetMill$Constant", name := "infer", desc := "(LLetMill$Typer;)I" } : Jvm.MethodName) prog_12_method_3_code (2 : Nat) (Option.some Jvm.ClassFile.FieldType.int)) ∈ lw_all := lw_g (lw_at lw_m10 159 rfl) rfl
theorem q2693 : (Jvm.Cond.selects "LetMill$Constant" ({ cls := "LetMill$Exp", name := "isCon", desc := "()Z" } : Jvm.MethodName) ({ cls := "LetMill$Exp", name := "isCon", desc := "()Z" } : Jvm.MethodName)) ∈ lw_all := lw_g (lw_at lw_m11 83 rfl) rfl
theorem q2710 : (Jvm.Cond.instanceMethod ({ cls := "LetMill$Constant", name := "isStill", desc := "()Z" } : Jvm.MethodName)) ∈ lw_all := lw_g (lw_at lw_m11 100 rfl) rfl
theorem q2711 : (Jvm.Cond.code ({ cls := "LetMill$Constant", name := "isStill", desc := "()Z" } : Jvm.MethodName) prog_12_method_4_code (1 : Nat) (Option.some Jvm.ClassFile.FieldType.boolean)) ∈ lw_all := lw_g (lw_at lw_m11 101 rfl) rfl
theorem q2729 : (Jvm.Cond.selects "LetMill$Constant" ({ cls := "LetMill$Exp", name := "isStill", desc := "()Z" } : Jvm.MethodName) ({ cls := "LetMill$Constant", name := "isStill", desc := "()Z" } : Jvm.MethodName)) ∈ lw_all := lw_g (lw_at lw_m11 119 rfl) rfl
theorem q2784 : (Jvm.Cond.selects "LetMill$Constant" ({ cls := "LetMill$Exp", name := "infer", desc := "(LLetMill$Typer;)I" } : Jvm.MethodName) ({ cls := "LetMill$Constant", name := "infer", desc := "(LLetMill$Typer;)I" } : Jvm.MethodName)) ∈ lw_all := lw_g (lw_at lw_m11 174 rfl) rfl
theorem q2928 : (Jvm.Cond.selects "LetMill$Constant" ({ cls := "LetMill$Exp", name := "begin", desc := "(LLetMill$Machine;I)V" } : Jvm.MethodName) ({ cls := "LetMill$Constant", name := "begin", desc := "(LLetMill$Machine;I)V" } : Jvm.MethodName)) ∈ lw_all := lw_g (lw_at lw_m12 78 rfl) rfl
theorem q2929 : (Jvm.Cond.instanceMethod ({ cls := "LetMill$Constant", name := "begin", desc := "(LLetMill$Machine;I)V" } : Jvm.MethodName)) ∈ lw_all := lw_g (lw_at lw_m12 79 rfl) rfl
theorem q2930 : (Jvm.Cond.code ({ cls := "LetMill$Constant", name := "begin", desc := "(LLetMill$Machine;I)V" } : Jvm.MethodName) prog_12_method_5_code (3 : Nat) (Option.none : Option Jvm.ClassFile.FieldType)) ∈ lw_all := lw_g (lw_at lw_m12 80 rfl) rfl
theorem q2931 : (Jvm.Cond.methodLink "LetMill$Constant" (33 : Nat) ({ cls := "LetMill$Machine", name := "pay", desc := "(I)Z" } : Jvm.MethodName)) ∈ lw_all := lw_g (lw_at lw_m12 81 rfl) rfl
theorem q2932 : (Jvm.Cond.methodLink "LetMill$Constant" (39 : Nat) ({ cls := "LetMill$Machine", name := "made", desc := "(II)I" } : Jvm.MethodName)) ∈ lw_all := lw_g (lw_at lw_m12 82 rfl) rfl
theorem q2936 : (Jvm.Cond.methodLink "LetMill$Constant" (43 : Nat) ({ cls := "LetMill$Machine", name := "truth", desc := "(Z)I" } : Jvm.MethodName)) ∈ lw_all := lw_g (lw_at lw_m12 86 rfl) rfl
theorem q2940 : (Jvm.Cond.methodLink "LetMill$Constant" (46 : Nat) ({ cls := "LetMill$Machine", name := "give", desc := "(I)V" } : Jvm.MethodName)) ∈ lw_all := lw_g (lw_at lw_m12 90 rfl) rfl
theorem q3228 : (Jvm.Cond.selects "LetMill$Constant" ({ cls := "LetMill$Exp", name := "resume", desc := "(LLetMill$Machine;III)V" } : Jvm.MethodName) ({ cls := "LetMill$Exp", name := "resume", desc := "(LLetMill$Machine;III)V" } : Jvm.MethodName)) ∈ lw_all := lw_g (lw_at lw_m13 138 rfl) rfl
theorem q4554 : (Jvm.Cond.castable "LetMill$Constant" "LetMill$Exp") ∈ lw_tbl := lw_at lw_m19 24 rfl
def RX38 : String := "LetMill$Built"
abbrev cX38_init : ByteArray := prog_5_method_1_code
def yX38_init : MethodName := ⟨RX38, "<init>", "(II)V"⟩
abbrev cX38_resolve : ByteArray := prog_5_method_2_code
def yX38_resolve : MethodName := ⟨RX38, "resolve", "(LLetMill$Scope;)V"⟩
abbrev cX38_infer : ByteArray := prog_5_method_3_code
def yX38_infer : MethodName := ⟨RX38, "infer", "(LLetMill$Typer;)I"⟩
abbrev cX38_isStill : ByteArray := prog_5_method_4_code
def yX38_isStill : MethodName := ⟨RX38, "isStill", "()Z"⟩
abbrev cX38_begin : ByteArray := prog_5_method_5_code
def yX38_begin : MethodName := ⟨RX38, "begin", "(LLetMill$Machine;I)V"⟩
theorem q259 : (Jvm.Cond.initialized "LetMill$Built") ∈ lw_all := lw_g (lw_at lw_m1 49 rfl) rfl
theorem q494 : (Jvm.Cond.fieldLink "LetMill$Built" (21 : Nat) "LetMill$Types" "whole" "I") ∈ lw_all := lw_g (lw_at lw_m2 44 rfl) rfl
theorem q807 : (Jvm.Cond.fieldLink "LetMill$Built" (15 : Nat) "LetMill$Typer" "types" "LLetMill$Types;") ∈ lw_all := lw_g (lw_at lw_m3 117 rfl) rfl
theorem q1644 : (Jvm.Cond.instantiable "LetMill$Built" (3 : Nat)) ∈ lw_all := lw_g (lw_at lw_m6 234 rfl) rfl
theorem q1646 : (Jvm.Cond.instanceMethod ({ cls := "LetMill$Built", name := "<init>", desc := "(II)V" } : Jvm.MethodName)) ∈ lw_all := lw_g (lw_at lw_m6 236 rfl) rfl
theorem q1647 : (Jvm.Cond.code ({ cls := "LetMill$Built", name := "<init>", desc := "(II)V" } : Jvm.MethodName) prog_5_method_1_code (3 : Nat) (Option.none : Option Jvm.ClassFile.FieldType)) ∈ lw_all := lw_g (lw_at lw_m6 237 rfl) rfl
theorem q1648 : (Jvm.Cond.methodLink "LetMill$Built" (1 : Nat) ({ cls := "LetMill$Exp", name := "<init>", desc := "(I)V" } : Jvm.MethodName)) ∈ lw_all := lw_g (lw_at lw_m6 238 rfl) rfl
theorem q1649 : (Jvm.Cond.fieldLink "LetMill$Built" (7 : Nat) "LetMill$Built" "which" "I") ∈ lw_all := lw_g (lw_at lw_m6 239 rfl) rfl
theorem q1650 : (Jvm.Cond.laysFinal "LetMill$Built" "LetMill$Built" "which" "I") ∈ lw_all := lw_g (lw_at lw_m7 0 rfl) rfl
theorem q1652 : (Jvm.Cond.laysFinal "LetMill$Built" "LetMill$Exp" "token" "I") ∈ lw_all := lw_g (lw_at lw_m7 2 rfl) rfl
theorem q1653 : (Jvm.Cond.lays "LetMill$Built" "LetMill$Exp" "id" "I") ∈ lw_all := lw_g (lw_at lw_m7 3 rfl) rfl
theorem q2256 : (Jvm.Cond.instanceMethod ({ cls := "LetMill$Built", name := "resolve", desc := "(LLetMill$Scope;)V" } : Jvm.MethodName)) ∈ lw_all := lw_g (lw_at lw_m9 126 rfl) rfl
theorem q2257 : (Jvm.Cond.code ({ cls := "LetMill$Built", name := "resolve", desc := "(LLetMill$Scope;)V" } : Jvm.MethodName) prog_5_method_2_code (2 : Nat) (Option.none : Option Jvm.ClassFile.FieldType)) ∈ lw_all := lw_g (lw_at lw_m9 127 rfl) rfl
theorem q2293 : (Jvm.Cond.selects "LetMill$Built" ({ cls := "LetMill$Exp", name := "resolve", desc := "(LLetMill$Scope;)V" } : Jvm.MethodName) ({ cls := "LetMill$Built", name := "resolve", desc := "(LLetMill$Scope;)V" } : Jvm.MethodName)) ∈ lw_all := lw_g (lw_at lw_m9 163 rfl) rfl
theorem q2517 : (Jvm.Cond.instanceMethod ({ cls := "LetMill$Built", name := "infer", desc := "(LLetMill$Typer;)I" } : Jvm.MethodName)) ∈ lw_all := lw_g (lw_at lw_m10 147 rfl) rfl
theorem q2518 : (Jvm.Cond.code ({ cls := "LetMill$Built", name := "infer", desc := "(LLetMill$Typer;)I" } : Jvm.MethodName) prog_5_method_3_code (3 : Nat) (Option.some Jvm.ClassFile.FieldType.int)) ∈ lw_all := lw_g (lw_at lw_m10 148 rfl) rfl
theorem q2519 : (Jvm.Cond.methodLink "LetMill$Built" (26 : Nat) ({ cls := "LetMill$Types", name := "fun", desc := "(II)I" } : Jvm.MethodName)) ∈ lw_all := lw_g (lw_at lw_m10 149 rfl) rfl
theorem q2520 : (Jvm.Cond.methodLink "LetMill$Built" (30 : Nat) ({ cls := "LetMill$Types", name := "variable", desc := "()I" } : Jvm.MethodName)) ∈ lw_all := lw_g (lw_at lw_m10 150 rfl) rfl
theorem q2521 : (Jvm.Cond.methodLink "LetMill$Built" (34 : Nat) ({ cls := "LetMill$Types", name := "built", desc := "(II)I" } : Jvm.MethodName)) ∈ lw_all := lw_g (lw_at lw_m10 151 rfl) rfl
theorem q2690 : (Jvm.Cond.selects "LetMill$Built" ({ cls := "LetMill$Exp", name := "isCon", desc := "()Z" } : Jvm.MethodName) ({ cls := "LetMill$Exp", name := "isCon", desc := "()Z" } : Jvm.MethodName)) ∈ lw_all := lw_g (lw_at lw_m11 80 rfl) rfl
theorem q2708 : (Jvm.Cond.instanceMethod ({ cls := "LetMill$Built", name := "isStill", desc := "()Z" } : Jvm.MethodName)) ∈ lw_all := lw_g (lw_at lw_m11 98 rfl) rfl
theorem q2709 : (Jvm.Cond.code ({ cls := "LetMill$Built", name := "isStill", desc := "()Z" } : Jvm.MethodName) prog_5_method_4_code (1 : Nat) (Option.some Jvm.ClassFile.FieldType.boolean)) ∈ lw_all := lw_g (lw_at lw_m11 99 rfl) rfl
theorem q2726 : (Jvm.Cond.selects "LetMill$Built" ({ cls := "LetMill$Exp", name := "isStill", desc := "()Z" } : Jvm.MethodName) ({ cls := "LetMill$Built", name := "isStill", desc := "()Z" } : Jvm.MethodName)) ∈ lw_all := lw_g (lw_at lw_m11 116 rfl) rfl
theorem q2781 : (Jvm.Cond.selects "LetMill$Built" ({ cls := "LetMill$Exp", name := "infer", desc := "(LLetMill$Typer;)I" } : Jvm.MethodName) ({ cls := "LetMill$Built", name := "infer", desc := "(LLetMill$Typer;)I" } : Jvm.MethodName)) ∈ lw_all := lw_g (lw_at lw_m11 171 rfl) rfl
theorem q2907 : (Jvm.Cond.selects "LetMill$Built" ({ cls := "LetMill$Exp", name := "begin", desc := "(LLetMill$Machine;I)V" } : Jvm.MethodName) ({ cls := "LetMill$Built", name := "begin", desc := "(LLetMill$Machine;I)V" } : Jvm.MethodName)) ∈ lw_all := lw_g (lw_at lw_m12 57 rfl) rfl
theorem q2908 : (Jvm.Cond.instanceMethod ({ cls := "LetMill$Built", name := "begin", desc := "(LLetMill$Machine;I)V" } : Jvm.MethodName)) ∈ lw_all := lw_g (lw_at lw_m12 58 rfl) rfl
theorem q2909 : (Jvm.Cond.code ({ cls := "LetMill$Built", name := "begin", desc := "(LLetMill$Machine;I)V" } : Jvm.MethodName) prog_5_method_5_code (3 : Nat) (Option.none : Option Jvm.ClassFile.FieldType)) ∈ lw_all := lw_g (lw_at lw_m12 59 rfl) rfl
theorem q2910 : (Jvm.Cond.methodLink "LetMill$Built" (37 : Nat) ({ cls := "LetMill$Machine", name := "pay", desc := "(I)Z" } : Jvm.MethodName)) ∈ lw_all := lw_g (lw_at lw_m12 60 rfl) rfl
theorem q2911 : (Jvm.Cond.methodLink "LetMill$Built" (41 : Nat) ({ cls := "LetMill$Machine", name := "builtIn", desc := "(I)I" } : Jvm.MethodName)) ∈ lw_all := lw_g (lw_at lw_m12 61 rfl) rfl
theorem q2912 : (Jvm.Cond.methodLink "LetMill$Built" (45 : Nat) ({ cls := "LetMill$Machine", name := "give", desc := "(I)V" } : Jvm.MethodName)) ∈ lw_all := lw_g (lw_at lw_m12 62 rfl) rfl
theorem q3197 : (Jvm.Cond.selects "LetMill$Built" ({ cls := "LetMill$Exp", name := "resume", desc := "(LLetMill$Machine;III)V" } : Jvm.MethodName) ({ cls := "LetMill$Exp", name := "resume", desc := "(LLetMill$Machine;III)V" } : Jvm.MethodName)) ∈ lw_all := lw_g (lw_at lw_m13 107 rfl) rfl
theorem q4551 : (Jvm.Cond.castable "LetMill$Built" "LetMill$Exp") ∈ lw_tbl := lw_at lw_m19 21 rfl
def RX39 : String := "LetMill$Group"
abbrev cX39_init : ByteArray := prog_21_method_1_code
def yX39_init : MethodName := ⟨RX39, "<init>", "(ILLetMill$Exp;)V"⟩
abbrev cX39_resolve : ByteArray := prog_21_method_2_code
def yX39_resolve : MethodName := ⟨RX39, "resolve", "(LLetMill$Scope;)V"⟩
abbrev cX39_infer : ByteArray := prog_21_method_3_code
def yX39_infer : MethodName := ⟨RX39, "infer", "(LLetMill$Typer;)I"⟩
abbrev cX39_isStill : ByteArray := prog_21_method_4_code
def yX39_isStill : MethodName := ⟨RX39, "isStill", "()Z"⟩
abbrev cX39_begin : ByteArray := prog_21_method_5_code
def yX39_begin : MethodName := ⟨RX39, "begin", "(LLetMill$Machine;I)V"⟩
theorem q260 : (Jvm.Cond.initialized "LetMill$Group") ∈ lw_all := lw_g (lw_at lw_m1 50 rfl) rfl
theorem q1660 : (Jvm.Cond.instantiable "LetMill$Group" (3 : Nat)) ∈ lw_all := lw_g (lw_at lw_m7 10 rfl) rfl
theorem q1667 : (Jvm.Cond.instanceMethod ({ cls := "LetMill$Group", name := "<init>", desc := "(ILLetMill$Exp;)V" } : Jvm.MethodName)) ∈ lw_all := lw_g (lw_at lw_m7 17 rfl) rfl
theorem q1668 : (Jvm.Cond.code ({ cls := "LetMill$Group", name := "<init>", desc := "(ILLetMill$Exp;)V" } : Jvm.MethodName) prog_21_method_1_code (3 : Nat) (Option.none : Option Jvm.ClassFile.FieldType)) ∈ lw_all := lw_g (lw_at lw_m7 18 rfl) rfl
theorem q1669 : (Jvm.Cond.methodLink "LetMill$Group" (1 : Nat) ({ cls := "LetMill$Exp", name := "<init>", desc := "(I)V" } : Jvm.MethodName)) ∈ lw_all := lw_g (lw_at lw_m7 19 rfl) rfl
theorem q1670 : (Jvm.Cond.fieldLink "LetMill$Group" (7 : Nat) "LetMill$Group" "e" "LLetMill$Exp;") ∈ lw_all := lw_g (lw_at lw_m7 20 rfl) rfl
theorem q1671 : (Jvm.Cond.laysFinal "LetMill$Group" "LetMill$Group" "e" "LLetMill$Exp;") ∈ lw_all := lw_g (lw_at lw_m7 21 rfl) rfl
theorem q1673 : (Jvm.Cond.laysFinal "LetMill$Group" "LetMill$Exp" "token" "I") ∈ lw_all := lw_g (lw_at lw_m7 23 rfl) rfl
theorem q1674 : (Jvm.Cond.lays "LetMill$Group" "LetMill$Exp" "id" "I") ∈ lw_all := lw_g (lw_at lw_m7 24 rfl) rfl
theorem q2270 : (Jvm.Cond.instanceMethod ({ cls := "LetMill$Group", name := "resolve", desc := "(LLetMill$Scope;)V" } : Jvm.MethodName)) ∈ lw_all := lw_g (lw_at lw_m9 140 rfl) rfl
theorem q2271 : (Jvm.Cond.code ({ cls := "LetMill$Group", name := "resolve", desc := "(LLetMill$Scope;)V" } : Jvm.MethodName) prog_21_method_2_code (2 : Nat) (Option.none : Option Jvm.ClassFile.FieldType)) ∈ lw_all := lw_g (lw_at lw_m9 141 rfl) rfl
theorem q2272 : (Jvm.Cond.methodLink "LetMill$Group" (13 : Nat) ({ cls := "LetMill$Exp", name := "resolve", desc := "(LLetMill$Scope;)V" } : Jvm.MethodName)) ∈ lw_all := lw_g (lw_at lw_m9 142 rfl) rfl
theorem q2298 : (Jvm.Cond.selects "LetMill$Group" ({ cls := "LetMill$Exp", name := "resolve", desc := "(LLetMill$Scope;)V" } : Jvm.MethodName) ({ cls := "LetMill$Group", name := "resolve", desc := "(LLetMill$Scope;)V" } : Jvm.MethodName)) ∈ lw_all := lw_g (lw_at lw_m9 168 rfl) rfl
theorem q2629 : (Jvm.Cond.instanceMethod ({ cls := "LetMill$Group", name := "infer", desc := "(LLetMill$Typer;)I" } : Jvm.MethodName)) ∈ lw_all := lw_g (lw_at lw_m11 19 rfl) rfl
theorem q2630 : (Jvm.Cond.code ({ cls := "LetMill$Group", name := "infer", desc := "(LLetMill$Typer;)I" } : Jvm.MethodName) prog_21_method_3_code (2 : Nat) (Option.some Jvm.ClassFile.FieldType.int)) ∈ lw_all := lw_g (lw_at lw_m11 20 rfl) rfl
theorem q2631 : (Jvm.Cond.methodLink "LetMill$Group" (17 : Nat) ({ cls := "LetMill$Exp", name := "infer", desc := "(LLetMill$Typer;)I" } : Jvm.MethodName)) ∈ lw_all := lw_g (lw_at lw_m11 21 rfl) rfl
theorem q2695 : (Jvm.Cond.selects "LetMill$Group" ({ cls := "LetMill$Exp", name := "isCon", desc := "()Z" } : Jvm.MethodName) ({ cls := "LetMill$Exp", name := "isCon", desc := "()Z" } : Jvm.MethodName)) ∈ lw_all := lw_g (lw_at lw_m11 85 rfl) rfl
theorem q2714 : (Jvm.Cond.instanceMethod ({ cls := "LetMill$Group", name := "isStill", desc := "()Z" } : Jvm.MethodName)) ∈ lw_all := lw_g (lw_at lw_m11 104 rfl) rfl
theorem q2715 : (Jvm.Cond.code ({ cls := "LetMill$Group", name := "isStill", desc := "()Z" } : Jvm.MethodName) prog_21_method_4_code (1 : Nat) (Option.some Jvm.ClassFile.FieldType.boolean)) ∈ lw_all := lw_g (lw_at lw_m11 105 rfl) rfl
theorem q2716 : (Jvm.Cond.methodLink "LetMill$Group" (21 : Nat) ({ cls := "LetMill$Exp", name := "isStill", desc := "()Z" } : Jvm.MethodName)) ∈ lw_all := lw_g (lw_at lw_m11 106 rfl) rfl
theorem q2731 : (Jvm.Cond.selects "LetMill$Group" ({ cls := "LetMill$Exp", name := "isStill", desc := "()Z" } : Jvm.MethodName) ({ cls := "LetMill$Group", name := "isStill", desc := "()Z" } : Jvm.MethodName)) ∈ lw_all := lw_g (lw_at lw_m11 121 rfl) rfl
theorem q2786 : (Jvm.Cond.selects "LetMill$Group" ({ cls := "LetMill$Exp", name := "infer", desc := "(LLetMill$Typer;)I" } : Jvm.MethodName) ({ cls := "LetMill$Group", name := "infer", desc := "(LLetMill$Typer;)I" } : Jvm.MethodName)) ∈ lw_all := lw_g (lw_at lw_m11 176 rfl) rfl
theorem q2954 : (Jvm.Cond.selects "LetMill$Group" ({ cls := "LetMill$Exp", name := "begin", desc := "(LLetMill$Machine;I)V" } : Jvm.MethodName) ({ cls := "LetMill$Group", name := "begin", desc := "(LLetMill$Machine;I)V" } : Jvm.MethodName)) ∈ lw_all := lw_g (lw_at lw_m12 104 rfl) rfl
theorem q2955 : (Jvm.Cond.instanceMethod ({ cls := "LetMill$Group", name := "begin", desc := "(LLetMill$Machine;I)V" } : Jvm.MethodName)) ∈ lw_all := lw_g (lw_at lw_m12 105 rfl) rfl
theorem q2956 : (Jvm.Cond.code ({ cls := "LetMill$Group", name := "begin", desc := "(LLetMill$Machine;I)V" } : Jvm.MethodName) prog_21_method_5_code (3 : Nat) (Option.none : Option Jvm.ClassFile.FieldType)) ∈ lw_all := lw_g (lw_at lw_m12 106 rfl) rfl
theorem q2957 : (Jvm.Cond.methodLink "LetMill$Group" (25 : Nat) ({ cls := "LetMill$Machine", name := "next", desc := "(LLetMill$Exp;I)V" } : Jvm.MethodName)) ∈ lw_all := lw_g (lw_at lw_m12 107 rfl) rfl
theorem q3230 : (Jvm.Cond.selects "LetMill$Group" ({ cls := "LetMill$Exp", name := "resume", desc := "(LLetMill$Machine;III)V" } : Jvm.MethodName) ({ cls := "LetMill$Exp", name := "resume", desc := "(LLetMill$Machine;III)V" } : Jvm.MethodName)) ∈ lw_all := lw_g (lw_at lw_m13 140 rfl) rfl
theorem q4556 : (Jvm.Cond.castable "LetMill$Group" "LetMill$Exp") ∈ lw_tbl := lw_at lw_m19 26 rfl
def RX40 : String := "LetMill$Parts"
abbrev cX40_init : ByteArray := prog_34_method_1_code
def yX40_init : MethodName := ⟨RX40, "<init>", "(I[LLetMill$Exp;)V"⟩
abbrev cX40_resolve : ByteArray := prog_34_method_2_code
def yX40_resolve : MethodName := ⟨RX40, "resolve", "(LLetMill$Scope;)V"⟩
abbrev cX40_isStill : ByteArray := prog_34_method_3_code
def yX40_isStill : MethodName := ⟨RX40, "isStill", "()Z"⟩
abbrev cX40_begin : ByteArray := prog_34_method_4_code
def yX40_begin : MethodName := ⟨RX40, "begin", "(LLetMill$Machine;I)V"⟩
abbrev cX40_resume : ByteArray := prog_34_method_5_code
def yX40_resume : MethodName := ⟨RX40, "resume", "(LLetMill$Machine;III)V"⟩
theorem q261 : (Jvm.Cond.initialized "LetMill$Parts") ∈ lw_all := lw_g (lw_at lw_m1 51 rfl) rfl
theorem q1687 : (Jvm.Cond.instanceMethod ({ cls := "LetMill$Parts", name := "<init>", desc := "(I[LLetMill$Exp;)V" } : Jvm.MethodName)) ∈ lw_all := lw_g (lw_at lw_m7 37 rfl) rfl
theorem q1688 : (Jvm.Cond.code ({ cls := "LetMill$Parts", name := "<init>", desc := "(I[LLetMill$Exp;)V" } : Jvm.MethodName) prog_34_method_1_code (3 : Nat) (Option.none : Option Jvm.ClassFile.FieldType)) ∈ lw_all := lw_g (lw_at lw_m7 38 rfl) rfl
theorem q1689 : (Jvm.Cond.methodLink "LetMill$Parts" (1 : Nat) ({ cls := "LetMill$Exp", name := "<init>", desc := "(I)V" } : Jvm.MethodName)) ∈ lw_all := lw_g (lw_at lw_m7 39 rfl) rfl
theorem q1690 : (Jvm.Cond.fieldLink "LetMill$Parts" (7 : Nat) "LetMill$Parts" "of" "[LLetMill$Exp;") ∈ lw_all := lw_g (lw_at lw_m7 40 rfl) rfl
theorem q2276 : (Jvm.Cond.instanceMethod ({ cls := "LetMill$Parts", name := "resolve", desc := "(LLetMill$Scope;)V" } : Jvm.MethodName)) ∈ lw_all := lw_g (lw_at lw_m9 146 rfl) rfl
theorem q2277 : (Jvm.Cond.code ({ cls := "LetMill$Parts", name := "resolve", desc := "(LLetMill$Scope;)V" } : Jvm.MethodName) prog_34_method_2_code (3 : Nat) (Option.none : Option Jvm.ClassFile.FieldType)) ∈ lw_all := lw_g (lw_at lw_m9 147 rfl) rfl
theorem q2278 : (Jvm.Cond.methodLink "LetMill$Parts" (13 : Nat) ({ cls := "LetMill$Exp", name := "resolve", desc := "(LLetMill$Scope;)V" } : Jvm.MethodName)) ∈ lw_all := lw_g (lw_at lw_m9 148 rfl) rfl
theorem q2717 : (Jvm.Cond.instanceMethod ({ cls := "LetMill$Parts", name := "isStill", desc := "()Z" } : Jvm.MethodName)) ∈ lw_all := lw_g (lw_at lw_m11 107 rfl) rfl
theorem q2718 : (Jvm.Cond.code ({ cls := "LetMill$Parts", name := "isStill", desc := "()Z" } : Jvm.MethodName) prog_34_method_3_code (2 : Nat) (Option.some Jvm.ClassFile.FieldType.boolean)) ∈ lw_all := lw_g (lw_at lw_m11 108 rfl) rfl
theorem q2719 : (Jvm.Cond.methodLink "LetMill$Parts" (17 : Nat) ({ cls := "LetMill$Exp", name := "isStill", desc := "()Z" } : Jvm.MethodName)) ∈ lw_all := lw_g (lw_at lw_m11 109 rfl) rfl
theorem q3020 : (Jvm.Cond.instanceMethod ({ cls := "LetMill$Parts", name := "begin", desc := "(LLetMill$Machine;I)V" } : Jvm.MethodName)) ∈ lw_all := lw_g (lw_at lw_m12 170 rfl) rfl
theorem q3021 : (Jvm.Cond.code ({ cls := "LetMill$Parts", name := "begin", desc := "(LLetMill$Machine;I)V" } : Jvm.MethodName) prog_34_method_4_code (3 : Nat) (Option.none : Option Jvm.ClassFile.FieldType)) ∈ lw_all := lw_g (lw_at lw_m12 171 rfl) rfl
theorem q3022 : (Jvm.Cond.methodLink "LetMill$Parts" (21 : Nat) ({ cls := "LetMill$Machine", name := "pay", desc := "(I)Z" } : Jvm.MethodName)) ∈ lw_all := lw_g (lw_at lw_m12 172 rfl) rfl
theorem q3023 : (Jvm.Cond.methodLink "LetMill$Parts" (27 : Nat) ({ cls := "LetMill$Machine", name := "give", desc := "(I)V" } : Jvm.MethodName)) ∈ lw_all := lw_g (lw_at lw_m12 173 rfl) rfl
theorem q3024 : (Jvm.Cond.methodLink "LetMill$Parts" (30 : Nat) ({ cls := "LetMill$Machine", name := "frame", desc := "(LLetMill$Exp;II)V" } : Jvm.MethodName)) ∈ lw_all := lw_g (lw_at lw_m12 174 rfl) rfl
theorem q3025 : (Jvm.Cond.methodLink "LetMill$Parts" (34 : Nat) ({ cls := "LetMill$Machine", name := "next", desc := "(LLetMill$Exp;I)V" } : Jvm.MethodName)) ∈ lw_all := lw_g (lw_at lw_m12 175 rfl) rfl
theorem q3243 : (Jvm.Cond.instanceMethod ({ cls := "LetMill$Parts", name := "resume", desc := "(LLetMill$Machine;III)V" } : Jvm.MethodName)) ∈ lw_all := lw_g (lw_at lw_m13 153 rfl) rfl
theorem q3244 : (Jvm.Cond.code ({ cls := "LetMill$Parts", name := "resume", desc := "(LLetMill$Machine;III)V" } : Jvm.MethodName) prog_34_method_5_code (5 : Nat) (Option.none : Option Jvm.ClassFile.FieldType)) ∈ lw_all := lw_g (lw_at lw_m13 154 rfl) rfl
theorem q3245 : (Jvm.Cond.methodLink "LetMill$Parts" (38 : Nat) ({ cls := "LetMill$Machine", name := "push", desc := "(I)V" } : Jvm.MethodName)) ∈ lw_all := lw_g (lw_at lw_m13 155 rfl) rfl
theorem q3246 : (Jvm.Cond.methodLink "LetMill$Parts" (41 : Nat) ({ cls := "LetMill$Parts", name := "whole", desc := "(LLetMill$Machine;)I" } : Jvm.MethodName)) ∈ lw_all := lw_g (lw_at lw_m13 156 rfl) rfl
theorem q3247 : (Jvm.Cond.declares ({ cls := "LetMill$Parts", name := "whole", desc := "(LLetMill$Machine;)I" } : Jvm.MethodName)) ∈ lw_tbl := lw_at lw_m13 157 rfl
theorem q3248 : (Jvm.Cond.sameMethod "LetMill$Parts" "LetMill$Parts" "whole" "(LLetMill$Machine;)I") ∈ lw_all := lw_g (lw_at lw_m13 158 rfl) rfl
def RX41 : String := "LetMill$Tuple"
abbrev cX41_init : ByteArray := prog_45_method_1_code
def yX41_init : MethodName := ⟨RX41, "<init>", "(I[LLetMill$Exp;)V"⟩
abbrev cX41_infer : ByteArray := prog_45_method_2_code
def yX41_infer : MethodName := ⟨RX41, "infer", "(LLetMill$Typer;)I"⟩
abbrev cX41_whole : ByteArray := prog_45_method_3_code
def yX41_whole : MethodName := ⟨RX41, "whole", "(LLetMill$Machine;)I"⟩
theorem q262 : (Jvm.Cond.initialized "LetMill$Tuple") ∈ lw_all := lw_g (lw_at lw_m1 52 rfl) rfl
theorem q798 : (Jvm.Cond.fieldLink "LetMill$Tuple" (19 : Nat) "LetMill$Typer" "types" "LLetMill$Types;") ∈ lw_all := lw_g (lw_at lw_m3 108 rfl) rfl
theorem q1677 : (Jvm.Cond.instantiable "LetMill$Tuple" (3 : Nat)) ∈ lw_all := lw_g (lw_at lw_m7 27 rfl) rfl
theorem q1684 : (Jvm.Cond.instanceMethod ({ cls := "LetMill$Tuple", name := "<init>", desc := "(I[LLetMill$Exp;)V" } : Jvm.MethodName)) ∈ lw_all := lw_g (lw_at lw_m7 34 rfl) rfl
theorem q1685 : (Jvm.Cond.code ({ cls := "LetMill$Tuple", name := "<init>", desc := "(I[LLetMill$Exp;)V" } : Jvm.MethodName) prog_45_method_1_code (3 : Nat) (Option.none : Option Jvm.ClassFile.FieldType)) ∈ lw_all := lw_g (lw_at lw_m7 35 rfl) rfl
theorem q1686 : (Jvm.Cond.methodLink "LetMill$Tuple" (1 : Nat) ({ cls := "LetMill$Parts", name := "<init>", desc := "(I[LLetMill$Exp;)V" } : Jvm.MethodName)) ∈ lw_all := lw_g (lw_at lw_m7 36 rfl) rfl
theorem q1693 : (Jvm.Cond.fieldLink "LetMill$Tuple" (7 : Nat) "LetMill$Tuple" "of" "[LLetMill$Exp;") ∈ lw_all := lw_g (lw_at lw_m7 43 rfl) rfl
theorem q1694 : (Jvm.Cond.sameField "LetMill$Tuple" "LetMill$Parts" "of" "[LLetMill$Exp;") ∈ lw_all := lw_g (lw_at lw_m7 44 rfl) rfl
theorem q1697 : (Jvm.Cond.laysFinal "LetMill$Tuple" "LetMill$Parts" "of" "[LLetMill$Exp;") ∈ lw_all := lw_g (lw_at lw_m7 47 rfl) rfl
theorem q1699 : (Jvm.Cond.laysFinal "LetMill$Tuple" "LetMill$Exp" "token" "I") ∈ lw_all := lw_g (lw_at lw_m7 49 rfl) rfl
theorem q1700 : (Jvm.Cond.lays "LetMill$Tuple" "LetMill$Exp" "id" "I") ∈ lw_all := lw_g (lw_at lw_m7 50 rfl) rfl
theorem q2304 : (Jvm.Cond.selects "LetMill$Tuple" ({ cls := "LetMill$Exp", name := "resolve", desc := "(LLetMill$Scope;)V" } : Jvm.MethodName) ({ cls := "LetMill$Parts", name := "resolve", desc := "(LLetMill$Scope;)V" } : Jvm.MethodName)) ∈ lw_all := lw_g (lw_at lw_m9 174 rfl) rfl
theorem q2652 : (Jvm.Cond.instanceMethod ({ cls := "LetMill$Tuple", name := "infer", desc := "(LLetMill$Typer;)I" } : Jvm.MethodName)) ∈ lw_all := lw_g (lw_at lw_m11 42 rfl) rfl
theorem q2653 : (Jvm.Cond.code ({ cls := "LetMill$Tuple", name := "infer", desc := "(LLetMill$Typer;)I" } : Jvm.MethodName) prog_45_method_2_code (4 : Nat) (Option.some Jvm.ClassFile.FieldType.int)) ∈ lw_all := lw_g (lw_at lw_m11 43 rfl) rfl
theorem q2654 : (Jvm.Cond.methodLink "LetMill$Tuple" (13 : Nat) ({ cls := "LetMill$Exp", name := "infer", desc := "(LLetMill$Typer;)I" } : Jvm.MethodName)) ∈ lw_all := lw_g (lw_at lw_m11 44 rfl) rfl
theorem q2673 : (Jvm.Cond.methodLink "LetMill$Tuple" (25 : Nat) ({ cls := "LetMill$Types", name := "built", desc := "(I[III)I" } : Jvm.MethodName)) ∈ lw_all := lw_g (lw_at lw_m11 63 rfl) rfl
theorem q2701 : (Jvm.Cond.selects "LetMill$Tuple" ({ cls := "LetMill$Exp", name := "isCon", desc := "()Z" } : Jvm.MethodName) ({ cls := "LetMill$Exp", name := "isCon", desc := "()Z" } : Jvm.MethodName)) ∈ lw_all := lw_g (lw_at lw_m11 91 rfl) rfl
theorem q2737 : (Jvm.Cond.selects "LetMill$Tuple" ({ cls := "LetMill$Exp", name := "isStill", desc := "()Z" } : Jvm.MethodName) ({ cls := "LetMill$Parts", name := "isStill", desc := "()Z" } : Jvm.MethodName)) ∈ lw_all := lw_g (lw_at lw_m11 127 rfl) rfl
theorem q2792 : (Jvm.Cond.selects "LetMill$Tuple" ({ cls := "LetMill$Exp", name := "infer", desc := "(LLetMill$Typer;)I" } : Jvm.MethodName) ({ cls := "LetMill$Tuple", name := "infer", desc := "(LLetMill$Typer;)I" } : Jvm.MethodName)) ∈ lw_all := lw_g (lw_at lw_m11 182 rfl) rfl
theorem q3033 : (Jvm.Cond.selects "LetMill$Tuple" ({ cls := "LetMill$Exp", name := "begin", desc := "(LLetMill$Machine;I)V" } : Jvm.MethodName) ({ cls := "LetMill$Parts", name := "begin", desc := "(LLetMill$Machine;I)V" } : Jvm.MethodName)) ∈ lw_all := lw_g (lw_at lw_m12 183 rfl) rfl
theorem q3257 : (Jvm.Cond.selects "LetMill$Tuple" ({ cls := "LetMill$Parts", name := "whole", desc := "(LLetMill$Machine;)I" } : Jvm.MethodName) ({ cls := "LetMill$Tuple", name := "whole", desc := "(LLetMill$Machine;)I" } : Jvm.MethodName)) ∈ lw_all := lw_g (lw_at lw_m13 167 rfl) rfl
theorem q3258 : (Jvm.Cond.instanceMethod ({ cls := "LetMill$Tuple", name := "whole", desc := "(LLetMill$Machine;)I" } : Jvm.MethodName)) ∈ lw_all := lw_g (lw_at lw_m13 168 rfl) rfl
theorem q3259 : (Jvm.Cond.code ({ cls := "LetMill$Tuple", name := "whole", desc := "(LLetMill$Machine;)I" } : Jvm.MethodName) prog_45_method_3_code (2 : Nat) (Option.some Jvm.ClassFile.FieldType.int)) ∈ lw_all := lw_g (lw_at lw_m13 169 rfl) rfl
theorem q3260 : (Jvm.Cond.methodLink "LetMill$Tuple" (31 : Nat) ({ cls := "LetMill$Machine", name := "tuple", desc := "(I)I" } : Jvm.MethodName)) ∈ lw_all := lw_g (lw_at lw_m13 170 rfl) rfl
theorem q3284 : (Jvm.Cond.selects "LetMill$Tuple" ({ cls := "LetMill$Exp", name := "resume", desc := "(LLetMill$Machine;III)V" } : Jvm.MethodName) ({ cls := "LetMill$Parts", name := "resume", desc := "(LLetMill$Machine;III)V" } : Jvm.MethodName)) ∈ lw_all := lw_g (lw_at lw_m13 194 rfl) rfl
theorem q4562 : (Jvm.Cond.castable "LetMill$Tuple" "LetMill$Exp") ∈ lw_tbl := lw_at lw_m19 32 rfl
def RX42 : String := "LetMill$Sequence"
abbrev cX42_init : ByteArray := prog_40_method_1_code
def yX42_init : MethodName := ⟨RX42, "<init>", "(I[LLetMill$Exp;)V"⟩
abbrev cX42_infer : ByteArray := prog_40_method_2_code
def yX42_infer : MethodName := ⟨RX42, "infer", "(LLetMill$Typer;)I"⟩
abbrev cX42_isStill : ByteArray := prog_40_method_3_code
def yX42_isStill : MethodName := ⟨RX42, "isStill", "()Z"⟩
abbrev cX42_whole : ByteArray := prog_40_method_5_code
def yX42_whole : MethodName := ⟨RX42, "whole", "(LLetMill$Machine;)I"⟩
abbrev cX42_resume : ByteArray := prog_40_method_4_code
def yX42_resume : MethodName := ⟨RX42, "resume", "(LLetMill$Machine;III)V"⟩
theorem q263 : (Jvm.Cond.initialized "LetMill$Sequence") ∈ lw_all := lw_g (lw_at lw_m1 53 rfl) rfl
theorem q1695 : (Jvm.Cond.fieldLink "LetMill$Sequence" (7 : Nat) "LetMill$Sequence" "of" "[LLetMill$Exp;") ∈ lw_all := lw_g (lw_at lw_m7 45 rfl) rfl
theorem q1696 : (Jvm.Cond.sameField "LetMill$Sequence" "LetMill$Parts" "of" "[LLetMill$Exp;") ∈ lw_all := lw_g (lw_at lw_m7 46 rfl) rfl
theorem q1703 : (Jvm.Cond.instantiable "LetMill$Sequence" (3 : Nat)) ∈ lw_all := lw_g (lw_at lw_m7 53 rfl) rfl
theorem q1705 : (Jvm.Cond.instanceMethod ({ cls := "LetMill$Sequence", name := "<init>", desc := "(I[LLetMill$Exp;)V" } : Jvm.MethodName)) ∈ lw_all := lw_g (lw_at lw_m7 55 rfl) rfl
theorem q1706 : (Jvm.Cond.code ({ cls := "LetMill$Sequence", name := "<init>", desc := "(I[LLetMill$Exp;)V" } : Jvm.MethodName) prog_40_method_1_code (3 : Nat) (Option.none : Option Jvm.ClassFile.FieldType)) ∈ lw_all := lw_g (lw_at lw_m7 56 rfl) rfl
theorem q1707 : (Jvm.Cond.methodLink "LetMill$Sequence" (1 : Nat) ({ cls := "LetMill$Parts", name := "<init>", desc := "(I[LLetMill$Exp;)V" } : Jvm.MethodName)) ∈ lw_all := lw_g (lw_at lw_m7 57 rfl) rfl
theorem q1708 : (Jvm.Cond.laysFinal "LetMill$Sequence" "LetMill$Parts" "of" "[LLetMill$Exp;") ∈ lw_all := lw_g (lw_at lw_m7 58 rfl) rfl
theorem q1709 : (Jvm.Cond.laysFinal "LetMill$Sequence" "LetMill$Exp" "token" "I") ∈ lw_all := lw_g (lw_at lw_m7 59 rfl) rfl
theorem q1710 : (Jvm.Cond.lays "LetMill$Sequence" "LetMill$Exp" "id" "I") ∈ lw_all := lw_g (lw_at lw_m7 60 rfl) rfl
theorem q2302 : (Jvm.Cond.selects "LetMill$Sequence" ({ cls := "LetMill$Exp", name := "resolve", desc := "(LLetMill$Scope;)V" } : Jvm.MethodName) ({ cls := "LetMill$Parts", name := "resolve", desc := "(LLetMill$Scope;)V" } : Jvm.MethodName)) ∈ lw_all := lw_g (lw_at lw_m9 172 rfl) rfl
theorem q2646 : (Jvm.Cond.instanceMethod ({ cls := "LetMill$Sequence", name := "infer", desc := "(LLetMill$Typer;)I" } : Jvm.MethodName)) ∈ lw_all := lw_g (lw_at lw_m11 36 rfl) rfl
theorem q2647 : (Jvm.Cond.code ({ cls := "LetMill$Sequence", name := "infer", desc := "(LLetMill$Typer;)I" } : Jvm.MethodName) prog_40_method_2_code (4 : Nat) (Option.some Jvm.ClassFile.FieldType.int)) ∈ lw_all := lw_g (lw_at lw_m11 37 rfl) rfl
theorem q2648 : (Jvm.Cond.methodLink "LetMill$Sequence" (13 : Nat) ({ cls := "LetMill$Exp", name := "infer", desc := "(LLetMill$Typer;)I" } : Jvm.MethodName)) ∈ lw_all := lw_g (lw_at lw_m11 38 rfl) rfl
theorem q2699 : (Jvm.Cond.selects "LetMill$Sequence" ({ cls := "LetMill$Exp", name := "isCon", desc := "()Z" } : Jvm.MethodName) ({ cls := "LetMill$Exp", name := "isCon", desc := "()Z" } : Jvm.MethodName)) ∈ lw_all := lw_g (lw_at lw_m11 89 rfl) rfl
theorem q2720 : (Jvm.Cond.instanceMethod ({ cls := "LetMill$Sequence", name := "isStill", desc := "()Z" } : Jvm.MethodName)) ∈ lw_all := lw_g (lw_at lw_m11 110 rfl) rfl
theorem q2721 : (Jvm.Cond.code ({ cls := "LetMill$Sequence", name := "isStill", desc := "()Z" } : Jvm.MethodName) prog_40_method_3_code (1 : Nat) (Option.some Jvm.ClassFile.FieldType.boolean)) ∈ lw_all := lw_g (lw_at lw_m11 111 rfl) rfl
theorem q2735 : (Jvm.Cond.selects "LetMill$Sequence" ({ cls := "LetMill$Exp", name := "isStill", desc := "()Z" } : Jvm.MethodName) ({ cls := "LetMill$Sequence", name := "isStill", desc := "()Z" } : Jvm.MethodName)) ∈ lw_all := lw_g (lw_at lw_m11 125 rfl) rfl
theorem q2790 : (Jvm.Cond.selects "LetMill$Sequence" ({ cls := "LetMill$Exp", name := "infer", desc := "(LLetMill$Typer;)I" } : Jvm.MethodName) ({ cls := "LetMill$Sequence", name := "infer", desc := "(LLetMill$Typer;)I" } : Jvm.MethodName)) ∈ lw_all := lw_g (lw_at lw_m11 180 rfl) rfl
theorem q3026 : (Jvm.Cond.selects "LetMill$Sequence" ({ cls := "LetMill$Exp", name := "begin", desc := "(LLetMill$Machine;I)V" } : Jvm.MethodName) ({ cls := "LetMill$Parts", name := "begin", desc := "(LLetMill$Machine;I)V" } : Jvm.MethodName)) ∈ lw_all := lw_g (lw_at lw_m12 176 rfl) rfl
theorem q3254 : (Jvm.Cond.selects "LetMill$Sequence" ({ cls := "LetMill$Parts", name := "whole", desc := "(LLetMill$Machine;)I" } : Jvm.MethodName) ({ cls := "LetMill$Sequence", name := "whole", desc := "(LLetMill$Machine;)I" } : Jvm.MethodName)) ∈ lw_all := lw_g (lw_at lw_m13 164 rfl) rfl
theorem q3255 : (Jvm.Cond.instanceMethod ({ cls := "LetMill$Sequence", name := "whole", desc := "(LLetMill$Machine;)I" } : Jvm.MethodName)) ∈ lw_all := lw_g (lw_at lw_m13 165 rfl) rfl
theorem q3256 : (Jvm.Cond.code ({ cls := "LetMill$Sequence", name := "whole", desc := "(LLetMill$Machine;)I" } : Jvm.MethodName) prog_40_method_5_code (2 : Nat) (Option.some Jvm.ClassFile.FieldType.int)) ∈ lw_all := lw_g (lw_at lw_m13 166 rfl) rfl
theorem q3265 : (Jvm.Cond.selects "LetMill$Sequence" ({ cls := "LetMill$Exp", name := "resume", desc := "(LLetMill$Machine;III)V" } : Jvm.MethodName) ({ cls := "LetMill$Sequence", name := "resume", desc := "(LLetMill$Machine;III)V" } : Jvm.MethodName)) ∈ lw_all := lw_g (lw_at lw_m13 175 rfl) rfl
theorem q3266 : (Jvm.Cond.instanceMethod ({ cls := "LetMill$Sequence", name := "resume", desc := "(LLetMill$Machine;III)V" } : Jvm.MethodName)) ∈ lw_all := lw_g (lw_at lw_m13 176 rfl) rfl
theorem q3267 : (Jvm.Cond.code ({ cls := "LetMill$Sequence", name := "resume", desc := "(LLetMill$Machine;III)V" } : Jvm.MethodName) prog_40_method_4_code (5 : Nat) (Option.none : Option Jvm.ClassFile.FieldType)) ∈ lw_all := lw_g (lw_at lw_m13 177 rfl) rfl
theorem q3268 : (Jvm.Cond.methodLink "LetMill$Sequence" (19 : Nat) ({ cls := "LetMill$Machine", name := "frame", desc := "(LLetMill$Exp;II)V" } : Jvm.MethodName)) ∈ lw_all := lw_g (lw_at lw_m13 178 rfl) rfl
theorem q3269 : (Jvm.Cond.methodLink "LetMill$Sequence" (25 : Nat) ({ cls := "LetMill$Machine", name := "next", desc := "(LLetMill$Exp;I)V" } : Jvm.MethodName)) ∈ lw_all := lw_g (lw_at lw_m13 179 rfl) rfl
theorem q4560 : (Jvm.Cond.castable "LetMill$Sequence" "LetMill$Exp") ∈ lw_tbl := lw_at lw_m19 30 rfl
def RX43 : String := "LetMill$Listing"
abbrev cX43_init : ByteArray := prog_27_method_1_code
def yX43_init : MethodName := ⟨RX43, "<init>", "(I[LLetMill$Exp;)V"⟩
abbrev cX43_infer : ByteArray := prog_27_method_2_code
def yX43_infer : MethodName := ⟨RX43, "infer", "(LLetMill$Typer;)I"⟩
abbrev cX43_whole : ByteArray := prog_27_method_3_code
def yX43_whole : MethodName := ⟨RX43, "whole", "(LLetMill$Machine;)I"⟩
theorem q264 : (Jvm.Cond.initialized "LetMill$Listing") ∈ lw_all := lw_g (lw_at lw_m1 54 rfl) rfl
theorem q797 : (Jvm.Cond.fieldLink "LetMill$Listing" (13 : Nat) "LetMill$Typer" "types" "LLetMill$Types;") ∈ lw_all := lw_g (lw_at lw_m3 107 rfl) rfl
theorem q1531 : (Jvm.Cond.fieldLink "LetMill$Listing" (35 : Nat) "LetMill$Exp" "token" "I") ∈ lw_all := lw_g (lw_at lw_m6 121 rfl) rfl
theorem q1691 : (Jvm.Cond.fieldLink "LetMill$Listing" (7 : Nat) "LetMill$Listing" "of" "[LLetMill$Exp;") ∈ lw_all := lw_g (lw_at lw_m7 41 rfl) rfl
theorem q1692 : (Jvm.Cond.sameField "LetMill$Listing" "LetMill$Parts" "of" "[LLetMill$Exp;") ∈ lw_all := lw_g (lw_at lw_m7 42 rfl) rfl
theorem q1713 : (Jvm.Cond.instantiable "LetMill$Listing" (3 : Nat)) ∈ lw_all := lw_g (lw_at lw_m7 63 rfl) rfl
theorem q1715 : (Jvm.Cond.instanceMethod ({ cls := "LetMill$Listing", name := "<init>", desc := "(I[LLetMill$Exp;)V" } : Jvm.MethodName)) ∈ lw_all := lw_g (lw_at lw_m7 65 rfl) rfl
theorem q1716 : (Jvm.Cond.code ({ cls := "LetMill$Listing", name := "<init>", desc := "(I[LLetMill$Exp;)V" } : Jvm.MethodName) prog_27_method_1_code (3 : Nat) (Option.none : Option Jvm.ClassFile.FieldType)) ∈ lw_all := lw_g (lw_at lw_m7 66 rfl) rfl
theorem q1717 : (Jvm.Cond.methodLink "LetMill$Listing" (1 : Nat) ({ cls := "LetMill$Parts", name := "<init>", desc := "(I[LLetMill$Exp;)V" } : Jvm.MethodName)) ∈ lw_all := lw_g (lw_at lw_m7 67 rfl) rfl
theorem q1718 : (Jvm.Cond.laysFinal "LetMill$Listing" "LetMill$Parts" "of" "[LLetMill$Exp;") ∈ lw_all := lw_g (lw_at lw_m7 68 rfl) rfl
theorem q1719 : (Jvm.Cond.laysFinal "LetMill$Listing" "LetMill$Exp" "token" "I") ∈ lw_all := lw_g (lw_at lw_m7 69 rfl) rfl
theorem q1720 : (Jvm.Cond.lays "LetMill$Listing" "LetMill$Exp" "id" "I") ∈ lw_all := lw_g (lw_at lw_m7 70 rfl) rfl
theorem q2301 : (Jvm.Cond.selects "LetMill$Listing" ({ cls := "LetMill$Exp", name := "resolve", desc := "(LLetMill$Scope;)V" } : Jvm.MethodName) ({ cls := "LetMill$Parts", name := "resolve", desc := "(LLetMill$Scope;)V" } : Jvm.MethodName)) ∈ lw_all := lw_g (lw_at lw_m9 171 rfl) rfl
theorem q2641 : (Jvm.Cond.instanceMethod ({ cls := "LetMill$Listing", name := "infer", desc := "(LLetMill$Typer;)I" } : Jvm.MethodName)) ∈ lw_all := lw_g (lw_at lw_m11 31 rfl) rfl
theorem q2642 : (Jvm.Cond.code ({ cls := "LetMill$Listing", name := "infer", desc := "(LLetMill$Typer;)I" } : Jvm.MethodName) prog_27_method_2_code (5 : Nat) (Option.some Jvm.ClassFile.FieldType.int)) ∈ lw_all := lw_g (lw_at lw_m11 32 rfl) rfl
theorem q2643 : (Jvm.Cond.methodLink "LetMill$Listing" (21 : Nat) ({ cls := "LetMill$Types", name := "variable", desc := "()I" } : Jvm.MethodName)) ∈ lw_all := lw_g (lw_at lw_m11 33 rfl) rfl
theorem q2644 : (Jvm.Cond.methodLink "LetMill$Listing" (25 : Nat) ({ cls := "LetMill$Types", name := "built", desc := "(II)I" } : Jvm.MethodName)) ∈ lw_all := lw_g (lw_at lw_m11 34 rfl) rfl
theorem q2645 : (Jvm.Cond.methodLink "LetMill$Listing" (29 : Nat) ({ cls := "LetMill$Exp", name := "infer", desc := "(LLetMill$Typer;)I" } : Jvm.MethodName)) ∈ lw_all := lw_g (lw_at lw_m11 35 rfl) rfl
theorem q2677 : (Jvm.Cond.methodLink "LetMill$Listing" (39 : Nat) ({ cls := "LetMill$Typer", name := "same", desc := "(III)V" } : Jvm.MethodName)) ∈ lw_all := lw_g (lw_at lw_m11 67 rfl) rfl
theorem q2698 : (Jvm.Cond.selects "LetMill$Listing" ({ cls := "LetMill$Exp", name := "isCon", desc := "()Z" } : Jvm.MethodName) ({ cls := "LetMill$Exp", name := "isCon", desc := "()Z" } : Jvm.MethodName)) ∈ lw_all := lw_g (lw_at lw_m11 88 rfl) rfl
theorem q2734 : (Jvm.Cond.selects "LetMill$Listing" ({ cls := "LetMill$Exp", name := "isStill", desc := "()Z" } : Jvm.MethodName) ({ cls := "LetMill$Parts", name := "isStill", desc := "()Z" } : Jvm.MethodName)) ∈ lw_all := lw_g (lw_at lw_m11 124 rfl) rfl
theorem q2789 : (Jvm.Cond.selects "LetMill$Listing" ({ cls := "LetMill$Exp", name := "infer", desc := "(LLetMill$Typer;)I" } : Jvm.MethodName) ({ cls := "LetMill$Listing", name := "infer", desc := "(LLetMill$Typer;)I" } : Jvm.MethodName)) ∈ lw_all := lw_g (lw_at lw_m11 179 rfl) rfl
theorem q3019 : (Jvm.Cond.selects "LetMill$Listing" ({ cls := "LetMill$Exp", name := "begin", desc := "(LLetMill$Machine;I)V" } : Jvm.MethodName) ({ cls := "LetMill$Parts", name := "begin", desc := "(LLetMill$Machine;I)V" } : Jvm.MethodName)) ∈ lw_all := lw_g (lw_at lw_m12 169 rfl) rfl
theorem q3242 : (Jvm.Cond.selects "LetMill$Listing" ({ cls := "LetMill$Exp", name := "resume", desc := "(LLetMill$Machine;III)V" } : Jvm.MethodName) ({ cls := "LetMill$Parts", name := "resume", desc := "(LLetMill$Machine;III)V" } : Jvm.MethodName)) ∈ lw_all := lw_g (lw_at lw_m13 152 rfl) rfl
theorem q3249 : (Jvm.Cond.selects "LetMill$Listing" ({ cls := "LetMill$Parts", name := "whole", desc := "(LLetMill$Machine;)I" } : Jvm.MethodName) ({ cls := "LetMill$Listing", name := "whole", desc := "(LLetMill$Machine;)I" } : Jvm.MethodName)) ∈ lw_all := lw_g (lw_at lw_m13 159 rfl) rfl
theorem q3250 : (Jvm.Cond.instanceMethod ({ cls := "LetMill$Listing", name := "whole", desc := "(LLetMill$Machine;)I" } : Jvm.MethodName)) ∈ lw_all := lw_g (lw_at lw_m13 160 rfl) rfl
theorem q3251 : (Jvm.Cond.code ({ cls := "LetMill$Listing", name := "whole", desc := "(LLetMill$Machine;)I" } : Jvm.MethodName) prog_27_method_3_code (4 : Nat) (Option.some Jvm.ClassFile.FieldType.int)) ∈ lw_all := lw_g (lw_at lw_m13 161 rfl) rfl
theorem q3252 : (Jvm.Cond.methodLink "LetMill$Listing" (45 : Nat) ({ cls := "LetMill$Machine", name := "pop", desc := "()I" } : Jvm.MethodName)) ∈ lw_all := lw_g (lw_at lw_m13 162 rfl) rfl
theorem q3253 : (Jvm.Cond.methodLink "LetMill$Listing" (48 : Nat) ({ cls := "LetMill$Machine", name := "made", desc := "(III)I" } : Jvm.MethodName)) ∈ lw_all := lw_g (lw_at lw_m13 163 rfl) rfl
theorem q4559 : (Jvm.Cond.castable "LetMill$Listing" "LetMill$Exp") ∈ lw_tbl := lw_at lw_m19 29 rfl
def RX44 : String := "LetMill$Apply"
abbrev cX44_init : ByteArray := prog_3_method_1_code
def yX44_init : MethodName := ⟨RX44, "<init>", "(ILLetMill$Exp;[LLetMill$Exp;)V"⟩
abbrev cX44_resolve : ByteArray := prog_3_method_2_code
def yX44_resolve : MethodName := ⟨RX44, "resolve", "(LLetMill$Scope;)V"⟩
abbrev cX44_infer : ByteArray := prog_3_method_3_code
def yX44_infer : MethodName := ⟨RX44, "infer", "(LLetMill$Typer;)I"⟩
abbrev cX44_isStill : ByteArray := prog_3_method_4_code
def yX44_isStill : MethodName := ⟨RX44, "isStill", "()Z"⟩
abbrev cX44_begin : ByteArray := prog_3_method_5_code
def yX44_begin : MethodName := ⟨RX44, "begin", "(LLetMill$Machine;I)V"⟩
abbrev cX44_resume : ByteArray := prog_3_method_6_code
def yX44_resume : MethodName := ⟨RX44, "resume", "(LLetMill$Machine;III)V"⟩
theorem q265 : (Jvm.Cond.initialized "LetMill$Apply") ∈ lw_all := lw_g (lw_at lw_m1 55 rfl) rfl
theorem q812 : (Jvm.Cond.fieldLink "LetMill$Apply" (25 : Nat) "LetMill$Typer" "types" "LLetMill$Types;") ∈ lw_all := lw_g (lw_at lw_m3 122 rfl) rfl
theorem q1539 : (Jvm.Cond.fieldLink "LetMill$Apply" (41 : Nat) "LetMill$Exp" "token" "I") ∈ lw_all := lw_g (lw_at lw_m6 129 rfl) rfl
theorem q1746 : (Jvm.Cond.instantiable "LetMill$Apply" (4 : Nat)) ∈ lw_all := lw_g (lw_at lw_m7 96 rfl) rfl
theorem q1748 : (Jvm.Cond.instanceMethod ({ cls := "LetMill$Apply", name := "<init>", desc := "(ILLetMill$Exp;[LLetMill$Exp;)V" } : Jvm.MethodName)) ∈ lw_all := lw_g (lw_at lw_m7 98 rfl) rfl
theorem q1749 : (Jvm.Cond.code ({ cls := "LetMill$Apply", name := "<init>", desc := "(ILLetMill$Exp;[LLetMill$Exp;)V" } : Jvm.MethodName) prog_3_method_1_code (4 : Nat) (Option.none : Option Jvm.ClassFile.FieldType)) ∈ lw_all := lw_g (lw_at lw_m7 99 rfl) rfl
theorem q1750 : (Jvm.Cond.methodLink "LetMill$Apply" (1 : Nat) ({ cls := "LetMill$Exp", name := "<init>", desc := "(I)V" } : Jvm.MethodName)) ∈ lw_all := lw_g (lw_at lw_m7 100 rfl) rfl
theorem q1751 : (Jvm.Cond.fieldLink "LetMill$Apply" (7 : Nat) "LetMill$Apply" "f" "LLetMill$Exp;") ∈ lw_all := lw_g (lw_at lw_m7 101 rfl) rfl
theorem q1752 : (Jvm.Cond.fieldLink "LetMill$Apply" (13 : Nat) "LetMill$Apply" "xs" "[LLetMill$Exp;") ∈ lw_all := lw_g (lw_at lw_m7 102 rfl) rfl
theorem q1753 : (Jvm.Cond.laysFinal "LetMill$Apply" "LetMill$Apply" "f" "LLetMill$Exp;") ∈ lw_all := lw_g (lw_at lw_m7 103 rfl) rfl
theorem q1755 : (Jvm.Cond.laysFinal "LetMill$Apply" "LetMill$Apply" "xs" "[LLetMill$Exp;") ∈ lw_all := lw_g (lw_at lw_m7 105 rfl) rfl
theorem q1757 : (Jvm.Cond.laysFinal "LetMill$Apply" "LetMill$Exp" "token" "I") ∈ lw_all := lw_g (lw_at lw_m7 107 rfl) rfl
theorem q1758 : (Jvm.Cond.lays "LetMill$Apply" "LetMill$Exp" "id" "I") ∈ lw_all := lw_g (lw_at lw_m7 108 rfl) rfl
theorem q2252 : (Jvm.Cond.selects "LetMill$Apply" ({ cls := "LetMill$Exp", name := "resolve", desc := "(LLetMill$Scope;)V" } : Jvm.MethodName) ({ cls := "LetMill$Apply", name := "resolve", desc := "(LLetMill$Scope;)V" } : Jvm.MethodName)) ∈ lw_all := lw_g (lw_at lw_m9 122 rfl) rfl
theorem q2253 : (Jvm.Cond.instanceMethod ({ cls := "LetMill$Apply", name := "resolve", desc := "(LLetMill$Scope;)V" } : Jvm.MethodName)) ∈ lw_all := lw_g (lw_at lw_m9 123 rfl) rfl
theorem q2254 : (Jvm.Cond.code ({ cls := "LetMill$Apply", name := "resolve", desc := "(LLetMill$Scope;)V" } : Jvm.MethodName) prog_3_method_2_code (3 : Nat) (Option.none : Option Jvm.ClassFile.FieldType)) ∈ lw_all := lw_g (lw_at lw_m9 124 rfl) rfl
theorem q2255 : (Jvm.Cond.methodLink "LetMill$Apply" (17 : Nat) ({ cls := "LetMill$Exp", name := "resolve", desc := "(LLetMill$Scope;)V" } : Jvm.MethodName)) ∈ lw_all := lw_g (lw_at lw_m9 125 rfl) rfl
theorem q2513 : (Jvm.Cond.selects "LetMill$Apply" ({ cls := "LetMill$Exp", name := "infer", desc := "(LLetMill$Typer;)I" } : Jvm.MethodName) ({ cls := "LetMill$Apply", name := "infer", desc := "(LLetMill$Typer;)I" } : Jvm.MethodName)) ∈ lw_all := lw_g (lw_at lw_m10 143 rfl) rfl
theorem q2514 : (Jvm.Cond.instanceMethod ({ cls := "LetMill$Apply", name := "infer", desc := "(LLetMill$Typer;)I" } : Jvm.MethodName)) ∈ lw_all := lw_g (lw_at lw_m10 144 rfl) rfl
theorem q2515 : (Jvm.Cond.code ({ cls := "LetMill$Apply", name := "infer", desc := "(LLetMill$Typer;)I" } : Jvm.MethodName) prog_3_method_3_code (6 : Nat) (Option.some Jvm.ClassFile.FieldType.int)) ∈ lw_all := lw_g (lw_at lw_m10 145 rfl) rfl
theorem q2516 : (Jvm.Cond.methodLink "LetMill$Apply" (21 : Nat) ({ cls := "LetMill$Exp", name := "infer", desc := "(LLetMill$Typer;)I" } : Jvm.MethodName)) ∈ lw_all := lw_g (lw_at lw_m10 146 rfl) rfl
theorem q2683 : (Jvm.Cond.selects "LetMill$Apply" ({ cls := "LetMill$Exp", name := "isStill", desc := "()Z" } : Jvm.MethodName) ({ cls := "LetMill$Apply", name := "isStill", desc := "()Z" } : Jvm.MethodName)) ∈ lw_all := lw_g (lw_at lw_m11 73 rfl) rfl
theorem q2684 : (Jvm.Cond.instanceMethod ({ cls := "LetMill$Apply", name := "isStill", desc := "()Z" } : Jvm.MethodName)) ∈ lw_all := lw_g (lw_at lw_m11 74 rfl) rfl
theorem q2685 : (Jvm.Cond.code ({ cls := "LetMill$Apply", name := "isStill", desc := "()Z" } : Jvm.MethodName) prog_3_method_4_code (1 : Nat) (Option.some Jvm.ClassFile.FieldType.boolean)) ∈ lw_all := lw_g (lw_at lw_m11 75 rfl) rfl
theorem q2686 : (Jvm.Cond.methodLink "LetMill$Apply" (49 : Nat) ({ cls := "LetMill$Exp", name := "isCon", desc := "()Z" } : Jvm.MethodName)) ∈ lw_all := lw_g (lw_at lw_m11 76 rfl) rfl
theorem q2689 : (Jvm.Cond.selects "LetMill$Apply" ({ cls := "LetMill$Exp", name := "isCon", desc := "()Z" } : Jvm.MethodName) ({ cls := "LetMill$Exp", name := "isCon", desc := "()Z" } : Jvm.MethodName)) ∈ lw_all := lw_g (lw_at lw_m11 79 rfl) rfl
theorem q2707 : (Jvm.Cond.methodLink "LetMill$Apply" (53 : Nat) ({ cls := "LetMill$Exp", name := "isStill", desc := "()Z" } : Jvm.MethodName)) ∈ lw_all := lw_g (lw_at lw_m11 97 rfl) rfl
theorem q2778 : (Jvm.Cond.methodLink "LetMill$Apply" (31 : Nat) ({ cls := "LetMill$Types", name := "variable", desc := "()I" } : Jvm.MethodName)) ∈ lw_all := lw_g (lw_at lw_m11 168 rfl) rfl
theorem q2779 : (Jvm.Cond.methodLink "LetMill$Apply" (37 : Nat) ({ cls := "LetMill$Types", name := "fun", desc := "(II)I" } : Jvm.MethodName)) ∈ lw_all := lw_g (lw_at lw_m11 169 rfl) rfl
theorem q2780 : (Jvm.Cond.methodLink "LetMill$Apply" (45 : Nat) ({ cls := "LetMill$Typer", name := "same", desc := "(III)V" } : Jvm.MethodName)) ∈ lw_all := lw_g (lw_at lw_m11 170 rfl) rfl
theorem q2887 : (Jvm.Cond.selects "LetMill$Apply" ({ cls := "LetMill$Exp", name := "begin", desc := "(LLetMill$Machine;I)V" } : Jvm.MethodName) ({ cls := "LetMill$Apply", name := "begin", desc := "(LLetMill$Machine;I)V" } : Jvm.MethodName)) ∈ lw_all := lw_g (lw_at lw_m12 37 rfl) rfl
theorem q2888 : (Jvm.Cond.instanceMethod ({ cls := "LetMill$Apply", name := "begin", desc := "(LLetMill$Machine;I)V" } : Jvm.MethodName)) ∈ lw_all := lw_g (lw_at lw_m12 38 rfl) rfl
theorem q2889 : (Jvm.Cond.code ({ cls := "LetMill$Apply", name := "begin", desc := "(LLetMill$Machine;I)V" } : Jvm.MethodName) prog_3_method_5_code (4 : Nat) (Option.none : Option Jvm.ClassFile.FieldType)) ∈ lw_all := lw_g (lw_at lw_m12 39 rfl) rfl
theorem q2890 : (Jvm.Cond.methodLink "LetMill$Apply" (56 : Nat) ({ cls := "LetMill$Machine", name := "pay", desc := "(I)Z" } : Jvm.MethodName)) ∈ lw_all := lw_g (lw_at lw_m12 40 rfl) rfl
theorem q2898 : (Jvm.Cond.methodLink "LetMill$Apply" (62 : Nat) ({ cls := "LetMill$Machine", name := "frame", desc := "(LLetMill$Exp;II)V" } : Jvm.MethodName)) ∈ lw_all := lw_g (lw_at lw_m12 48 rfl) rfl
theorem q2906 : (Jvm.Cond.methodLink "LetMill$Apply" (66 : Nat) ({ cls := "LetMill$Machine", name := "next", desc := "(LLetMill$Exp;I)V" } : Jvm.MethodName)) ∈ lw_all := lw_g (lw_at lw_m12 56 rfl) rfl
theorem q3055 : (Jvm.Cond.selects "LetMill$Apply" ({ cls := "LetMill$Exp", name := "resume", desc := "(LLetMill$Machine;III)V" } : Jvm.MethodName) ({ cls := "LetMill$Apply", name := "resume", desc := "(LLetMill$Machine;III)V" } : Jvm.MethodName)) ∈ lw_all := lw_g (lw_at lw_m12 205 rfl) rfl
theorem q3056 : (Jvm.Cond.instanceMethod ({ cls := "LetMill$Apply", name := "resume", desc := "(LLetMill$Machine;III)V" } : Jvm.MethodName)) ∈ lw_all := lw_g (lw_at lw_m12 206 rfl) rfl
theorem q3057 : (Jvm.Cond.code ({ cls := "LetMill$Apply", name := "resume", desc := "(LLetMill$Machine;III)V" } : Jvm.MethodName) prog_3_method_6_code (7 : Nat) (Option.none : Option Jvm.ClassFile.FieldType)) ∈ lw_all := lw_g (lw_at lw_m12 207 rfl) rfl
theorem q3058 : (Jvm.Cond.methodLink "LetMill$Apply" (70 : Nat) ({ cls := "LetMill$Machine", name := "push", desc := "(I)V" } : Jvm.MethodName)) ∈ lw_all := lw_g (lw_at lw_m12 208 rfl) rfl
theorem q3062 : (Jvm.Cond.methodLink "LetMill$Apply" (73 : Nat) ({ cls := "LetMill$Machine", name := "pop", desc := "()I" } : Jvm.MethodName)) ∈ lw_all := lw_g (lw_at lw_m12 212 rfl) rfl
theorem q3066 : (Jvm.Cond.methodLink "LetMill$Apply" (76 : Nat) ({ cls := "LetMill$Machine", name := "call", desc := "(II)V" } : Jvm.MethodName)) ∈ lw_all := lw_g (lw_at lw_m12 216 rfl) rfl
theorem q4550 : (Jvm.Cond.castable "LetMill$Apply" "LetMill$Exp") ∈ lw_tbl := lw_at lw_m19 20 rfl
def RX45 : String := "LetMill$Sign"
abbrev cX45_init : ByteArray := prog_41_method_1_code
def yX45_init : MethodName := ⟨RX45, "<init>", "(IILLetMill$Exp;LLetMill$Exp;)V"⟩
abbrev cX45_resolve : ByteArray := prog_41_method_2_code
def yX45_resolve : MethodName := ⟨RX45, "resolve", "(LLetMill$Scope;)V"⟩
abbrev cX45_infer : ByteArray := prog_41_method_3_code
def yX45_infer : MethodName := ⟨RX45, "infer", "(LLetMill$Typer;)I"⟩
abbrev cX45_begin : ByteArray := prog_41_method_4_code
def yX45_begin : MethodName := ⟨RX45, "begin", "(LLetMill$Machine;I)V"⟩
abbrev cX45_resume : ByteArray := prog_41_method_5_code
def yX45_resume : MethodName := ⟨RX45, "resume", "(LLetMill$Machine;III)V"⟩
theorem q266 : (Jvm.Cond.initialized "LetMill$Sign") ∈ lw_all := lw_g (lw_at lw_m1 56 rfl) rfl
theorem q811 : (Jvm.Cond.fieldLink "LetMill$Sign" (28 : Nat) "LetMill$Typer" "types" "LLetMill$Types;") ∈ lw_all := lw_g (lw_at lw_m3 121 rfl) rfl
theorem q1540 : (Jvm.Cond.fieldLink "LetMill$Sign" (46 : Nat) "LetMill$Exp" "token" "I") ∈ lw_all := lw_g (lw_at lw_m6 130 rfl) rfl
theorem q1764 : (Jvm.Cond.instantiable "LetMill$Sign" (5 : Nat)) ∈ lw_all := lw_g (lw_at lw_m7 114 rfl) rfl
theorem q1766 : (Jvm.Cond.instanceMethod ({ cls := "LetMill$Sign", name := "<init>", desc := "(IILLetMill$Exp;LLetMill$Exp;)V" } : Jvm.MethodName)) ∈ lw_all := lw_g (lw_at lw_m7 116 rfl) rfl
theorem q1767 : (Jvm.Cond.code ({ cls := "LetMill$Sign", name := "<init>", desc := "(IILLetMill$Exp;LLetMill$Exp;)V" } : Jvm.MethodName) prog_41_method_1_code (5 : Nat) (Option.none : Option Jvm.ClassFile.FieldType)) ∈ lw_all := lw_g (lw_at lw_m7 117 rfl) rfl
theorem q1768 : (Jvm.Cond.methodLink "LetMill$Sign" (1 : Nat) ({ cls := "LetMill$Exp", name := "<init>", desc := "(I)V" } : Jvm.MethodName)) ∈ lw_all := lw_g (lw_at lw_m7 118 rfl) rfl
theorem q1769 : (Jvm.Cond.fieldLink "LetMill$Sign" (7 : Nat) "LetMill$Sign" "sign" "I") ∈ lw_all := lw_g (lw_at lw_m7 119 rfl) rfl
theorem q1770 : (Jvm.Cond.fieldLink "LetMill$Sign" (13 : Nat) "LetMill$Sign" "left" "LLetMill$Exp;") ∈ lw_all := lw_g (lw_at lw_m7 120 rfl) rfl
theorem q1771 : (Jvm.Cond.fieldLink "LetMill$Sign" (17 : Nat) "LetMill$Sign" "right" "LLetMill$Exp;") ∈ lw_all := lw_g (lw_at lw_m7 121 rfl) rfl
theorem q1772 : (Jvm.Cond.laysFinal "LetMill$Sign" "LetMill$Sign" "sign" "I") ∈ lw_all := lw_g (lw_at lw_m7 122 rfl) rfl
theorem q1774 : (Jvm.Cond.laysFinal "LetMill$Sign" "LetMill$Sign" "left" "LLetMill$Exp;") ∈ lw_all := lw_g (lw_at lw_m7 124 rfl) rfl
theorem q1776 : (Jvm.Cond.laysFinal "LetMill$Sign" "LetMill$Sign" "right" "LLetMill$Exp;") ∈ lw_all := lw_g (lw_at lw_m7 126 rfl) rfl
theorem q1778 : (Jvm.Cond.laysFinal "LetMill$Sign" "LetMill$Exp" "token" "I") ∈ lw_all := lw_g (lw_at lw_m7 128 rfl) rfl
theorem q1779 : (Jvm.Cond.lays "LetMill$Sign" "LetMill$Exp" "id" "I") ∈ lw_all := lw_g (lw_at lw_m7 129 rfl) rfl
theorem q2279 : (Jvm.Cond.instanceMethod ({ cls := "LetMill$Sign", name := "resolve", desc := "(LLetMill$Scope;)V" } : Jvm.MethodName)) ∈ lw_all := lw_g (lw_at lw_m9 149 rfl) rfl
theorem q2280 : (Jvm.Cond.code ({ cls := "LetMill$Sign", name := "resolve", desc := "(LLetMill$Scope;)V" } : Jvm.MethodName) prog_41_method_2_code (2 : Nat) (Option.none : Option Jvm.ClassFile.FieldType)) ∈ lw_all := lw_g (lw_at lw_m9 150 rfl) rfl
theorem q2281 : (Jvm.Cond.methodLink "LetMill$Sign" (20 : Nat) ({ cls := "LetMill$Exp", name := "resolve", desc := "(LLetMill$Scope;)V" } : Jvm.MethodName)) ∈ lw_all := lw_g (lw_at lw_m9 151 rfl) rfl
theorem q2303 : (Jvm.Cond.selects "LetMill$Sign" ({ cls := "LetMill$Exp", name := "resolve", desc := "(LLetMill$Scope;)V" } : Jvm.MethodName) ({ cls := "LetMill$Sign", name := "resolve", desc := "(LLetMill$Scope;)V" } : Jvm.MethodName)) ∈ lw_all := lw_g (lw_at lw_m9 173 rfl) rfl
theorem q2649 : (Jvm.Cond.instanceMethod ({ cls := "LetMill$Sign", name := "infer", desc := "(LLetMill$Typer;)I" } : Jvm.MethodName)) ∈ lw_all := lw_g (lw_at lw_m11 39 rfl) rfl
theorem q2650 : (Jvm.Cond.code ({ cls := "LetMill$Sign", name := "infer", desc := "(LLetMill$Typer;)I" } : Jvm.MethodName) prog_41_method_3_code (5 : Nat) (Option.some Jvm.ClassFile.FieldType.int)) ∈ lw_all := lw_g (lw_at lw_m11 40 rfl) rfl
theorem q2651 : (Jvm.Cond.methodLink "LetMill$Sign" (24 : Nat) ({ cls := "LetMill$Exp", name := "infer", desc := "(LLetMill$Typer;)I" } : Jvm.MethodName)) ∈ lw_all := lw_g (lw_at lw_m11 41 rfl) rfl
theorem q2674 : (Jvm.Cond.methodLink "LetMill$Sign" (38 : Nat) ({ cls := "LetMill$Types", name := "variable", desc := "()I" } : Jvm.MethodName)) ∈ lw_all := lw_g (lw_at lw_m11 64 rfl) rfl
theorem q2675 : (Jvm.Cond.methodLink "LetMill$Sign" (42 : Nat) ({ cls := "LetMill$Types", name := "built", desc := "(II)I" } : Jvm.MethodName)) ∈ lw_all := lw_g (lw_at lw_m11 65 rfl) rfl
theorem q2676 : (Jvm.Cond.methodLink "LetMill$Sign" (49 : Nat) ({ cls := "LetMill$Typer", name := "same", desc := "(III)V" } : Jvm.MethodName)) ∈ lw_all := lw_g (lw_at lw_m11 66 rfl) rfl
theorem q2700 : (Jvm.Cond.selects "LetMill$Sign" ({ cls := "LetMill$Exp", name := "isCon", desc := "()Z" } : Jvm.MethodName) ({ cls := "LetMill$Exp", name := "isCon", desc := "()Z" } : Jvm.MethodName)) ∈ lw_all := lw_g (lw_at lw_m11 90 rfl) rfl
theorem q2736 : (Jvm.Cond.selects "LetMill$Sign" ({ cls := "LetMill$Exp", name := "isStill", desc := "()Z" } : Jvm.MethodName) ({ cls := "LetMill$Exp", name := "isStill", desc := "()Z" } : Jvm.MethodName)) ∈ lw_all := lw_g (lw_at lw_m11 126 rfl) rfl
theorem q2791 : (Jvm.Cond.selects "LetMill$Sign" ({ cls := "LetMill$Exp", name := "infer", desc := "(LLetMill$Typer;)I" } : Jvm.MethodName) ({ cls := "LetMill$Sign", name := "infer", desc := "(LLetMill$Typer;)I" } : Jvm.MethodName)) ∈ lw_all := lw_g (lw_at lw_m11 181 rfl) rfl
theorem q3027 : (Jvm.Cond.selects "LetMill$Sign" ({ cls := "LetMill$Exp", name := "begin", desc := "(LLetMill$Machine;I)V" } : Jvm.MethodName) ({ cls := "LetMill$Sign", name := "begin", desc := "(LLetMill$Machine;I)V" } : Jvm.MethodName)) ∈ lw_all := lw_g (lw_at lw_m12 177 rfl) rfl
theorem q3028 : (Jvm.Cond.instanceMethod ({ cls := "LetMill$Sign", name := "begin", desc := "(LLetMill$Machine;I)V" } : Jvm.MethodName)) ∈ lw_all := lw_g (lw_at lw_m12 178 rfl) rfl
theorem q3029 : (Jvm.Cond.code ({ cls := "LetMill$Sign", name := "begin", desc := "(LLetMill$Machine;I)V" } : Jvm.MethodName) prog_41_method_4_code (3 : Nat) (Option.none : Option Jvm.ClassFile.FieldType)) ∈ lw_all := lw_g (lw_at lw_m12 179 rfl) rfl
theorem q3030 : (Jvm.Cond.methodLink "LetMill$Sign" (53 : Nat) ({ cls := "LetMill$Machine", name := "pay", desc := "(I)Z" } : Jvm.MethodName)) ∈ lw_all := lw_g (lw_at lw_m12 180 rfl) rfl
theorem q3031 : (Jvm.Cond.methodLink "LetMill$Sign" (59 : Nat) ({ cls := "LetMill$Machine", name := "frame", desc := "(LLetMill$Exp;II)V" } : Jvm.MethodName)) ∈ lw_all := lw_g (lw_at lw_m12 181 rfl) rfl
theorem q3032 : (Jvm.Cond.methodLink "LetMill$Sign" (63 : Nat) ({ cls := "LetMill$Machine", name := "next", desc := "(LLetMill$Exp;I)V" } : Jvm.MethodName)) ∈ lw_all := lw_g (lw_at lw_m12 182 rfl) rfl
theorem q3270 : (Jvm.Cond.selects "LetMill$Sign" ({ cls := "LetMill$Exp", name := "resume", desc := "(LLetMill$Machine;III)V" } : Jvm.MethodName) ({ cls := "LetMill$Sign", name := "resume", desc := "(LLetMill$Machine;III)V" } : Jvm.MethodName)) ∈ lw_all := lw_g (lw_at lw_m13 180 rfl) rfl
theorem q3271 : (Jvm.Cond.instanceMethod ({ cls := "LetMill$Sign", name := "resume", desc := "(LLetMill$Machine;III)V" } : Jvm.MethodName)) ∈ lw_all := lw_g (lw_at lw_m13 181 rfl) rfl
theorem q3272 : (Jvm.Cond.code ({ cls := "LetMill$Sign", name := "resume", desc := "(LLetMill$Machine;III)V" } : Jvm.MethodName) prog_41_method_5_code (6 : Nat) (Option.none : Option Jvm.ClassFile.FieldType)) ∈ lw_all := lw_g (lw_at lw_m13 182 rfl) rfl
theorem q3273 : (Jvm.Cond.methodLink "LetMill$Sign" (67 : Nat) ({ cls := "LetMill$Machine", name := "push", desc := "(I)V" } : Jvm.MethodName)) ∈ lw_all := lw_g (lw_at lw_m13 183 rfl) rfl
theorem q3274 : (Jvm.Cond.methodLink "LetMill$Sign" (70 : Nat) ({ cls := "LetMill$Machine", name := "pop", desc := "()I" } : Jvm.MethodName)) ∈ lw_all := lw_g (lw_at lw_m13 184 rfl) rfl
theorem q3275 : (Jvm.Cond.methodLink "LetMill$Sign" (73 : Nat) ({ cls := "LetMill$Machine", name := "made", desc := "(III)I" } : Jvm.MethodName)) ∈ lw_all := lw_g (lw_at lw_m13 185 rfl) rfl
theorem q3276 : (Jvm.Cond.methodLink "LetMill$Sign" (77 : Nat) ({ cls := "LetMill$Machine", name := "give", desc := "(I)V" } : Jvm.MethodName)) ∈ lw_all := lw_g (lw_at lw_m13 186 rfl) rfl
theorem q3277 : (Jvm.Cond.methodLink "LetMill$Sign" (80 : Nat) ({ cls := "LetMill$Machine", name := "append", desc := "(II)V" } : Jvm.MethodName)) ∈ lw_all := lw_g (lw_at lw_m13 187 rfl) rfl
theorem q4561 : (Jvm.Cond.castable "LetMill$Sign" "LetMill$Exp") ∈ lw_tbl := lw_at lw_m19 31 rfl
def RX46 : String := "LetMill$Signs"
abbrev cX46_init : ByteArray := prog_42_method_1_code
def yX46_init : MethodName := ⟨RX46, "<init>", "()V"⟩
abbrev cX46_add : ByteArray := prog_42_method_2_code
def yX46_add : MethodName := ⟨RX46, "add", "(I)V"⟩
abbrev cX46_get : ByteArray := prog_42_method_3_code
def yX46_get : MethodName := ⟨RX46, "get", "(I)I"⟩
theorem q267 : (Jvm.Cond.initialized "LetMill$Signs") ∈ lw_all := lw_g (lw_at lw_m1 57 rfl) rfl
theorem q1782 : (Jvm.Cond.instantiable "LetMill$Signs" (2 : Nat)) ∈ lw_all := lw_g (lw_at lw_m7 132 rfl) rfl
theorem q1784 : (Jvm.Cond.instanceMethod ({ cls := "LetMill$Signs", name := "<init>", desc := "()V" } : Jvm.MethodName)) ∈ lw_all := lw_g (lw_at lw_m7 134 rfl) rfl
theorem q1785 : (Jvm.Cond.code ({ cls := "LetMill$Signs", name := "<init>", desc := "()V" } : Jvm.MethodName) prog_42_method_1_code (1 : Nat) (Option.none : Option Jvm.ClassFile.FieldType)) ∈ lw_all := lw_g (lw_at lw_m7 135 rfl) rfl
theorem q1786 : (Jvm.Cond.methodLink "LetMill$Signs" (1 : Nat) ({ cls := "java/lang/Object", name := "<init>", desc := "()V" } : Jvm.MethodName)) ∈ lw_all := lw_g (lw_at lw_m7 136 rfl) rfl
theorem q1787 : (Jvm.Cond.fieldLink "LetMill$Signs" (7 : Nat) "LetMill$Signs" "of" "[I") ∈ lw_all := lw_g (lw_at lw_m7 137 rfl) rfl
theorem q1788 : (Jvm.Cond.fieldLink "LetMill$Signs" (13 : Nat) "LetMill$Signs" "many" "I") ∈ lw_all := lw_g (lw_at lw_m7 138 rfl) rfl
theorem q1789 : (Jvm.Cond.lays "LetMill$Signs" "LetMill$Signs" "of" "[I") ∈ lw_all := lw_g (lw_at lw_m7 139 rfl) rfl
theorem q1791 : (Jvm.Cond.lays "LetMill$Signs" "LetMill$Signs" "many" "I") ∈ lw_all := lw_g (lw_at lw_m7 141 rfl) rfl
theorem q1795 : (Jvm.Cond.instanceMethod ({ cls := "LetMill$Signs", name := "add", desc := "(I)V" } : Jvm.MethodName)) ∈ lw_all := lw_g (lw_at lw_m7 145 rfl) rfl
theorem q1796 : (Jvm.Cond.selects "LetMill$Signs" ({ cls := "LetMill$Signs", name := "add", desc := "(I)V" } : Jvm.MethodName) ({ cls := "LetMill$Signs", name := "add", desc := "(I)V" } : Jvm.MethodName)) ∈ lw_all := lw_g (lw_at lw_m7 146 rfl) rfl
theorem q1797 : (Jvm.Cond.code ({ cls := "LetMill$Signs", name := "add", desc := "(I)V" } : Jvm.MethodName) prog_42_method_2_code (4 : Nat) (Option.none : Option Jvm.ClassFile.FieldType)) ∈ lw_all := lw_g (lw_at lw_m7 147 rfl) rfl
theorem q2762 : (Jvm.Cond.instanceMethod ({ cls := "LetMill$Signs", name := "get", desc := "(I)I" } : Jvm.MethodName)) ∈ lw_all := lw_g (lw_at lw_m11 152 rfl) rfl
theorem q2763 : (Jvm.Cond.selects "LetMill$Signs" ({ cls := "LetMill$Signs", name := "get", desc := "(I)I" } : Jvm.MethodName) ({ cls := "LetMill$Signs", name := "get", desc := "(I)I" } : Jvm.MethodName)) ∈ lw_all := lw_g (lw_at lw_m11 153 rfl) rfl
theorem q2764 : (Jvm.Cond.code ({ cls := "LetMill$Signs", name := "get", desc := "(I)I" } : Jvm.MethodName) prog_42_method_3_code (2 : Nat) (Option.some Jvm.ClassFile.FieldType.int)) ∈ lw_all := lw_g (lw_at lw_m11 154 rfl) rfl
def RX47 : String := "LetMill$Chain"
abbrev cX47_init : ByteArray := prog_7_method_1_code
def yX47_init : MethodName := ⟨RX47, "<init>", "(ILLetMill$Exp;LLetMill$Signs;[LLetMill$Exp;)V"⟩
abbrev cX47_resolve : ByteArray := prog_7_method_2_code
def yX47_resolve : MethodName := ⟨RX47, "resolve", "(LLetMill$Scope;)V"⟩
abbrev cX47_infer : ByteArray := prog_7_method_3_code
def yX47_infer : MethodName := ⟨RX47, "infer", "(LLetMill$Typer;)I"⟩
abbrev cX47_one : ByteArray := prog_7_method_4_code
def yX47_one : MethodName := ⟨RX47, "one", "(LLetMill$Typer;IIII)I"⟩
abbrev cX47_isLogic : ByteArray := prog_7_method_5_code
def yX47_isLogic : MethodName := ⟨RX47, "isLogic", "(I)Z"⟩
abbrev cX47_begin : ByteArray := prog_7_method_6_code
def yX47_begin : MethodName := ⟨RX47, "begin", "(LLetMill$Machine;I)V"⟩
abbrev cX47_resume : ByteArray := prog_7_method_7_code
def yX47_resume : MethodName := ⟨RX47, "resume", "(LLetMill$Machine;III)V"⟩
theorem q268 : (Jvm.Cond.initialized "LetMill$Chain") ∈ lw_all := lw_g (lw_at lw_m1 58 rfl) rfl
theorem q496 : (Jvm.Cond.fieldLink "LetMill$Chain" (76 : Nat) "LetMill$Types" "whole" "I") ∈ lw_all := lw_g (lw_at lw_m2 46 rfl) rfl
theorem q501 : (Jvm.Cond.fieldLink "LetMill$Chain" (73 : Nat) "LetMill$Types" "truth" "I") ∈ lw_all := lw_g (lw_at lw_m2 51 rfl) rfl
theorem q506 : (Jvm.Cond.fieldLink "LetMill$Chain" (66 : Nat) "LetMill$Types" "unit" "I") ∈ lw_all := lw_g (lw_at lw_m2 56 rfl) rfl
theorem q819 : (Jvm.Cond.fieldLink "LetMill$Chain" (43 : Nat) "LetMill$Typer" "types" "LLetMill$Types;") ∈ lw_all := lw_g (lw_at lw_m3 129 rfl) rfl
theorem q1536 : (Jvm.Cond.fieldLink "LetMill$Chain" (35 : Nat) "LetMill$Exp" "token" "I") ∈ lw_all := lw_g (lw_at lw_m6 126 rfl) rfl
theorem q1541 : (Jvm.Cond.fieldLink "LetMill$Chain" (61 : Nat) "LetMill$Chain" "token" "I") ∈ lw_all := lw_g (lw_at lw_m6 131 rfl) rfl
theorem q1542 : (Jvm.Cond.sameField "LetMill$Chain" "LetMill$Exp" "token" "I") ∈ lw_all := lw_g (lw_at lw_m6 132 rfl) rfl
theorem q1799 : (Jvm.Cond.instantiable "LetMill$Chain" (5 : Nat)) ∈ lw_all := lw_g (lw_at lw_m7 149 rfl) rfl
theorem q1801 : (Jvm.Cond.instanceMethod ({ cls := "LetMill$Chain", name := "<init>", desc := "(ILLetMill$Exp;LLetMill$Signs;[LLetMill$Exp;)V" } : Jvm.MethodName)) ∈ lw_all := lw_g (lw_at lw_m7 151 rfl) rfl
theorem q1802 : (Jvm.Cond.code ({ cls := "LetMill$Chain", name := "<init>", desc := "(ILLetMill$Exp;LLetMill$Signs;[LLetMill$Exp;)V" } : Jvm.MethodName) prog_7_method_1_code (5 : Nat) (Option.none : Option Jvm.ClassFile.FieldType)) ∈ lw_all := lw_g (lw_at lw_m7 152 rfl) rfl
theorem q1803 : (Jvm.Cond.methodLink "LetMill$Chain" (1 : Nat) ({ cls := "LetMill$Exp", name := "<init>", desc := "(I)V" } : Jvm.MethodName)) ∈ lw_all := lw_g (lw_at lw_m7 153 rfl) rfl
theorem q1804 : (Jvm.Cond.fieldLink "LetMill$Chain" (7 : Nat) "LetMill$Chain" "first" "LLetMill$Exp;") ∈ lw_all := lw_g (lw_at lw_m7 154 rfl) rfl
theorem q1805 : (Jvm.Cond.fieldLink "LetMill$Chain" (13 : Nat) "LetMill$Chain" "signs" "LLetMill$Signs;") ∈ lw_all := lw_g (lw_at lw_m7 155 rfl) rfl
theorem q1806 : (Jvm.Cond.fieldLink "LetMill$Chain" (17 : Nat) "LetMill$Chain" "rights" "[LLetMill$Exp;") ∈ lw_all := lw_g (lw_at lw_m7 156 rfl) rfl
theorem q1807 : (Jvm.Cond.laysFinal "LetMill$Chain" "LetMill$Chain" "first" "LLetMill$Exp;") ∈ lw_all := lw_g (lw_at lw_m7 157 rfl) rfl
theorem q1809 : (Jvm.Cond.laysFinal "LetMill$Chain" "LetMill$Chain" "signs" "LLetMill$Signs;") ∈ lw_all := lw_g (lw_at lw_m7 159 rfl) rfl
theorem q1811 : (Jvm.Cond.laysFinal "LetMill$Chain" "LetMill$Chain" "rights" "[LLetMill$Exp;") ∈ lw_all := lw_g (lw_at lw_m7 161 rfl) rfl
theorem q1813 : (Jvm.Cond.laysFinal "LetMill$Chain" "LetMill$Exp" "token" "I") ∈ lw_all := lw_g (lw_at lw_m7 163 rfl) rfl
theorem q1814 : (Jvm.Cond.lays "LetMill$Chain" "LetMill$Exp" "id" "I") ∈ lw_all := lw_g (lw_at lw_m7 164 rfl) rfl
theorem q2261 : (Jvm.Cond.instanceMethod ({ cls := "LetMill$Chain", name := "resolve", desc := "(LLetMill$Scope;)V" } : Jvm.MethodName)) ∈ lw_all := lw_g (lw_at lw_m9 131 rfl) rfl
theorem q2262 : (Jvm.Cond.code ({ cls := "LetMill$Chain", name := "resolve", desc := "(LLetMill$Scope;)V" } : Jvm.MethodName) prog_7_method_2_code (3 : Nat) (Option.none : Option Jvm.ClassFile.FieldType)) ∈ lw_all := lw_g (lw_at lw_m9 132 rfl) rfl
theorem q2263 : (Jvm.Cond.methodLink "LetMill$Chain" (21 : Nat) ({ cls := "LetMill$Exp", name := "resolve", desc := "(LLetMill$Scope;)V" } : Jvm.MethodName)) ∈ lw_all := lw_g (lw_at lw_m9 133 rfl) rfl
theorem q2295 : (Jvm.Cond.selects "LetMill$Chain" ({ cls := "LetMill$Exp", name := "resolve", desc := "(LLetMill$Scope;)V" } : Jvm.MethodName) ({ cls := "LetMill$Chain", name := "resolve", desc := "(LLetMill$Scope;)V" } : Jvm.MethodName)) ∈ lw_all := lw_g (lw_at lw_m9 165 rfl) rfl
theorem q2525 : (Jvm.Cond.instanceMethod ({ cls := "LetMill$Chain", name := "infer", desc := "(LLetMill$Typer;)I" } : Jvm.MethodName)) ∈ lw_all := lw_g (lw_at lw_m10 155 rfl) rfl
theorem q2526 : (Jvm.Cond.code ({ cls := "LetMill$Chain", name := "infer", desc := "(LLetMill$Typer;)I" } : Jvm.MethodName) prog_7_method_3_code (4 : Nat) (Option.some Jvm.ClassFile.FieldType.int)) ∈ lw_all := lw_g (lw_at lw_m10 156 rfl) rfl
theorem q2527 : (Jvm.Cond.methodLink "LetMill$Chain" (25 : Nat) ({ cls := "LetMill$Exp", name := "infer", desc := "(LLetMill$Typer;)I" } : Jvm.MethodName)) ∈ lw_all := lw_g (lw_at lw_m10 157 rfl) rfl
theorem q2692 : (Jvm.Cond.selects "LetMill$Chain" ({ cls := "LetMill$Exp", name := "isCon", desc := "()Z" } : Jvm.MethodName) ({ cls := "LetMill$Exp", name := "isCon", desc := "()Z" } : Jvm.MethodName)) ∈ lw_all := lw_g (lw_at lw_m11 82 rfl) rfl
theorem q2728 : (Jvm.Cond.selects "LetMill$Chain" ({ cls := "LetMill$Exp", name := "isStill", desc := "()Z" } : Jvm.MethodName) ({ cls := "LetMill$Exp", name := "isStill", desc := "()Z" } : Jvm.MethodName)) ∈ lw_all := lw_g (lw_at lw_m11 118 rfl) rfl
theorem q2761 : (Jvm.Cond.methodLink "LetMill$Chain" (29 : Nat) ({ cls := "LetMill$Signs", name := "get", desc := "(I)I" } : Jvm.MethodName)) ∈ lw_all := lw_g (lw_at lw_m11 151 rfl) rfl
theorem q2765 : (Jvm.Cond.methodLink "LetMill$Chain" (39 : Nat) ({ cls := "LetMill$Chain", name := "one", desc := "(LLetMill$Typer;IIII)I" } : Jvm.MethodName)) ∈ lw_all := lw_g (lw_at lw_m11 155 rfl) rfl
theorem q2767 : (Jvm.Cond.instanceMethod ({ cls := "LetMill$Chain", name := "one", desc := "(LLetMill$Typer;IIII)I" } : Jvm.MethodName)) ∈ lw_all := lw_g (lw_at lw_m11 157 rfl) rfl
theorem q2768 : (Jvm.Cond.code ({ cls := "LetMill$Chain", name := "one", desc := "(LLetMill$Typer;IIII)I" } : Jvm.MethodName) prog_7_method_4_code (8 : Nat) (Option.some Jvm.ClassFile.FieldType.int)) ∈ lw_all := lw_g (lw_at lw_m11 158 rfl) rfl
theorem q2769 : (Jvm.Cond.methodLink "LetMill$Chain" (51 : Nat) ({ cls := "LetMill$Types", name := "variable", desc := "()I" } : Jvm.MethodName)) ∈ lw_all := lw_g (lw_at lw_m11 159 rfl) rfl
theorem q2770 : (Jvm.Cond.methodLink "LetMill$Chain" (57 : Nat) ({ cls := "LetMill$Types", name := "built", desc := "(II)I" } : Jvm.MethodName)) ∈ lw_all := lw_g (lw_at lw_m11 160 rfl) rfl
theorem q2771 : (Jvm.Cond.methodLink "LetMill$Chain" (62 : Nat) ({ cls := "LetMill$Typer", name := "same", desc := "(III)V" } : Jvm.MethodName)) ∈ lw_all := lw_g (lw_at lw_m11 161 rfl) rfl
theorem q2772 : (Jvm.Cond.methodLink "LetMill$Chain" (69 : Nat) ({ cls := "LetMill$Chain", name := "isLogic", desc := "(I)Z" } : Jvm.MethodName)) ∈ lw_all := lw_g (lw_at lw_m11 162 rfl) rfl
theorem q2773 : (Jvm.Cond.static ({ cls := "LetMill$Chain", name := "isLogic", desc := "(I)Z" } : Jvm.MethodName)) ∈ lw_all := lw_g (lw_at lw_m11 163 rfl) rfl
theorem q2774 : (Jvm.Cond.code ({ cls := "LetMill$Chain", name := "isLogic", desc := "(I)Z" } : Jvm.MethodName) prog_7_method_5_code (1 : Nat) (Option.some Jvm.ClassFile.FieldType.boolean)) ∈ lw_all := lw_g (lw_at lw_m11 164 rfl) rfl
theorem q2783 : (Jvm.Cond.selects "LetMill$Chain" ({ cls := "LetMill$Exp", name := "infer", desc := "(LLetMill$Typer;)I" } : Jvm.MethodName) ({ cls := "LetMill$Chain", name := "infer", desc := "(LLetMill$Typer;)I" } : Jvm.MethodName)) ∈ lw_all := lw_g (lw_at lw_m11 173 rfl) rfl
theorem q2922 : (Jvm.Cond.selects "LetMill$Chain" ({ cls := "LetMill$Exp", name := "begin", desc := "(LLetMill$Machine;I)V" } : Jvm.MethodName) ({ cls := "LetMill$Chain", name := "begin", desc := "(LLetMill$Machine;I)V" } : Jvm.MethodName)) ∈ lw_all := lw_g (lw_at lw_m12 72 rfl) rfl
theorem q2923 : (Jvm.Cond.instanceMethod ({ cls := "LetMill$Chain", name := "begin", desc := "(LLetMill$Machine;I)V" } : Jvm.MethodName)) ∈ lw_all := lw_g (lw_at lw_m12 73 rfl) rfl
theorem q2924 : (Jvm.Cond.code ({ cls := "LetMill$Chain", name := "begin", desc := "(LLetMill$Machine;I)V" } : Jvm.MethodName) prog_7_method_6_code (4 : Nat) (Option.none : Option Jvm.ClassFile.FieldType)) ∈ lw_all := lw_g (lw_at lw_m12 74 rfl) rfl
theorem q2925 : (Jvm.Cond.methodLink "LetMill$Chain" (79 : Nat) ({ cls := "LetMill$Machine", name := "pay", desc := "(I)Z" } : Jvm.MethodName)) ∈ lw_all := lw_g (lw_at lw_m12 75 rfl) rfl
theorem q2926 : (Jvm.Cond.methodLink "LetMill$Chain" (84 : Nat) ({ cls := "LetMill$Machine", name := "frame", desc := "(LLetMill$Exp;II)V" } : Jvm.MethodName)) ∈ lw_all := lw_g (lw_at lw_m12 76 rfl) rfl
theorem q2927 : (Jvm.Cond.methodLink "LetMill$Chain" (88 : Nat) ({ cls := "LetMill$Machine", name := "next", desc := "(LLetMill$Exp;I)V" } : Jvm.MethodName)) ∈ lw_all := lw_g (lw_at lw_m12 77 rfl) rfl
theorem q3205 : (Jvm.Cond.selects "LetMill$Chain" ({ cls := "LetMill$Exp", name := "resume", desc := "(LLetMill$Machine;III)V" } : Jvm.MethodName) ({ cls := "LetMill$Chain", name := "resume", desc := "(LLetMill$Machine;III)V" } : Jvm.MethodName)) ∈ lw_all := lw_g (lw_at lw_m13 115 rfl) rfl
theorem q3206 : (Jvm.Cond.instanceMethod ({ cls := "LetMill$Chain", name := "resume", desc := "(LLetMill$Machine;III)V" } : Jvm.MethodName)) ∈ lw_all := lw_g (lw_at lw_m13 116 rfl) rfl
theorem q3207 : (Jvm.Cond.code ({ cls := "LetMill$Chain", name := "resume", desc := "(LLetMill$Machine;III)V" } : Jvm.MethodName) prog_7_method_7_code (8 : Nat) (Option.none : Option Jvm.ClassFile.FieldType)) ∈ lw_all := lw_g (lw_at lw_m13 117 rfl) rfl
theorem q3208 : (Jvm.Cond.methodLink "LetMill$Chain" (92 : Nat) ({ cls := "LetMill$Machine", name := "pop", desc := "()I" } : Jvm.MethodName)) ∈ lw_all := lw_g (lw_at lw_m13 118 rfl) rfl
theorem q3209 : (Jvm.Cond.methodLink "LetMill$Chain" (95 : Nat) ({ cls := "LetMill$Machine", name := "set", desc := "(II)I" } : Jvm.MethodName)) ∈ lw_all := lw_g (lw_at lw_m13 119 rfl) rfl
theorem q3213 : (Jvm.Cond.methodLink "LetMill$Chain" (98 : Nat) ({ cls := "LetMill$Machine", name := "whole", desc := "(I)I" } : Jvm.MethodName)) ∈ lw_all := lw_g (lw_at lw_m13 123 rfl) rfl
theorem q3214 : (Jvm.Cond.methodLink "LetMill$Chain" (100 : Nat) ({ cls := "LetMill$Machine", name := "reckoned", desc := "(III)I" } : Jvm.MethodName)) ∈ lw_all := lw_g (lw_at lw_m13 124 rfl) rfl
theorem q3224 : (Jvm.Cond.methodLink "LetMill$Chain" (104 : Nat) ({ cls := "LetMill$Machine", name := "isOver", desc := "()Z" } : Jvm.MethodName)) ∈ lw_all := lw_g (lw_at lw_m13 134 rfl) rfl
theorem q3225 : (Jvm.Cond.methodLink "LetMill$Chain" (108 : Nat) ({ cls := "LetMill$Machine", name := "isTrue", desc := "(I)Z" } : Jvm.MethodName)) ∈ lw_all := lw_g (lw_at lw_m13 135 rfl) rfl
theorem q3226 : (Jvm.Cond.methodLink "LetMill$Chain" (111 : Nat) ({ cls := "LetMill$Machine", name := "give", desc := "(I)V" } : Jvm.MethodName)) ∈ lw_all := lw_g (lw_at lw_m13 136 rfl) rfl
theorem q3227 : (Jvm.Cond.methodLink "LetMill$Chain" (114 : Nat) ({ cls := "LetMill$Machine", name := "push", desc := "(I)V" } : Jvm.MethodName)) ∈ lw_all := lw_g (lw_at lw_m13 137 rfl) rfl
theorem q4553 : (Jvm.Cond.castable "LetMill$Chain" "LetMill$Exp") ∈ lw_tbl := lw_at lw_m19 23 rfl
def RX48 : String := "LetMill$Fun"
abbrev cX48_init : ByteArray := prog_19_method_1_code
def yX48_init : MethodName := ⟨RX48, "<init>", "(I)V"⟩
theorem q269 : (Jvm.Cond.initialized "LetMill$Fun") ∈ lw_all := lw_g (lw_at lw_m1 59 rfl) rfl
theorem q1846 : (Jvm.Cond.instantiable "LetMill$Fun" (4 : Nat)) ∈ lw_all := lw_g (lw_at lw_m7 196 rfl) rfl
theorem q1848 : (Jvm.Cond.instanceMethod ({ cls := "LetMill$Fun", name := "<init>", desc := "(I)V" } : Jvm.MethodName)) ∈ lw_all := lw_g (lw_at lw_m7 198 rfl) rfl
theorem q1849 : (Jvm.Cond.code ({ cls := "LetMill$Fun", name := "<init>", desc := "(I)V" } : Jvm.MethodName) prog_19_method_1_code (2 : Nat) (Option.none : Option Jvm.ClassFile.FieldType)) ∈ lw_all := lw_g (lw_at lw_m7 199 rfl) rfl
theorem q1850 : (Jvm.Cond.methodLink "LetMill$Fun" (1 : Nat) ({ cls := "java/lang/Object", name := "<init>", desc := "()V" } : Jvm.MethodName)) ∈ lw_all := lw_g (lw_at lw_m7 200 rfl) rfl
theorem q1851 : (Jvm.Cond.classLink "LetMill$Fun" (7 : Nat) "LetMill$Row") ∈ lw_all := lw_g (lw_at lw_m7 201 rfl) rfl
theorem q1852 : (Jvm.Cond.methodLinkNest "LetMill$Fun" (9 : Nat) ({ cls := "LetMill$Row", name := "<init>", desc := "()V" } : Jvm.MethodName) "LetMill") ∈ lw_tbl := lw_at lw_m7 202 rfl
theorem q1853 : (Jvm.Cond.fieldLink "LetMill$Fun" (16 : Nat) "LetMill$Fun" "token" "I") ∈ lw_all := lw_g (lw_at lw_m7 203 rfl) rfl
theorem q1855 : (Jvm.Cond.fieldLink "LetMill$Fun" (10 : Nat) "LetMill$Fun" "clauses" "LLetMill$Row;") ∈ lw_all := lw_g (lw_at lw_m7 205 rfl) rfl
theorem q1860 : (Jvm.Cond.laysFinal "LetMill$Fun" "LetMill$Fun" "token" "I") ∈ lw_all := lw_g (lw_at lw_m7 210 rfl) rfl
theorem q1862 : (Jvm.Cond.laysFinal "LetMill$Fun" "LetMill$Fun" "clauses" "LLetMill$Row;") ∈ lw_all := lw_g (lw_at lw_m7 212 rfl) rfl
theorem q1864 : (Jvm.Cond.lays "LetMill$Fun" "LetMill$Fun" "binding" "LLetMill$Binding;") ∈ lw_all := lw_g (lw_at lw_m7 214 rfl) rfl
theorem q1866 : (Jvm.Cond.lays "LetMill$Fun" "LetMill$Fun" "code" "I") ∈ lw_all := lw_g (lw_at lw_m7 216 rfl) rfl
theorem q4575 : (Jvm.Cond.castable "LetMill$Fun" "LetMill$Fun") ∈ lw_tbl := lw_at lw_m19 45 rfl
def RX49 : String := "LetMill$Funs"
abbrev cX49_init : ByteArray := prog_20_method_1_code
def yX49_init : MethodName := ⟨RX49, "<init>", "(ILLetMill$Row;)V"⟩
abbrev cX49_resolve : ByteArray := prog_20_method_2_code
def yX49_resolve : MethodName := ⟨RX49, "resolve", "(LLetMill$Scope;)V"⟩
abbrev cX49_infer : ByteArray := prog_20_method_3_code
def yX49_infer : MethodName := ⟨RX49, "infer", "(LLetMill$Typer;)V"⟩
abbrev cX49_begin : ByteArray := prog_20_method_4_code
def yX49_begin : MethodName := ⟨RX49, "begin", "(LLetMill$Machine;I)I"⟩
theorem q270 : (Jvm.Cond.initialized "LetMill$Funs") ∈ lw_all := lw_g (lw_at lw_m1 60 rfl) rfl
theorem q570 : (Jvm.Cond.fieldLink "LetMill$Funs" (19 : Nat) "LetMill$Row" "many" "I") ∈ lw_all := lw_g (lw_at lw_m2 120 rfl) rfl
theorem q688 : (Jvm.Cond.fieldLink "LetMill$Funs" (13 : Nat) "LetMill$Scope" "many" "I") ∈ lw_all := lw_g (lw_at lw_m2 238 rfl) rfl
theorem q813 : (Jvm.Cond.fieldLink "LetMill$Funs" (67 : Nat) "LetMill$Typer" "types" "LLetMill$Types;") ∈ lw_all := lw_g (lw_at lw_m3 123 rfl) rfl
theorem q824 : (Jvm.Cond.fieldLink "LetMill$Funs" (101 : Nat) "LetMill$Typer" "k" "LLetMill$Tokens;") ∈ lw_all := lw_g (lw_at lw_m3 134 rfl) rfl
theorem q830 : (Jvm.Cond.fieldLink "LetMill$Funs" (97 : Nat) "LetMill$Typer" "matches" "LLetMill$Matches;") ∈ lw_all := lw_g (lw_at lw_m3 140 rfl) rfl
theorem q833 : (Jvm.Cond.fieldLink "LetMill$Funs" (64 : Nat) "LetMill$Typer" "many" "I") ∈ lw_all := lw_g (lw_at lw_m3 143 rfl) rfl
theorem q924 : (Jvm.Cond.fieldLink "LetMill$Funs" (77 : Nat) "LetMill$Binding" "type" "I") ∈ lw_all := lw_g (lw_at lw_m3 234 rfl) rfl
theorem q1492 : (Jvm.Cond.fieldLink "LetMill$Funs" (46 : Nat) "LetMill$Clause" "token" "I") ∈ lw_all := lw_g (lw_at lw_m6 82 rfl) rfl
theorem q1495 : (Jvm.Cond.fieldLink "LetMill$Funs" (57 : Nat) "LetMill$Clause" "pats" "[LLetMill$Pat;") ∈ lw_all := lw_g (lw_at lw_m6 85 rfl) rfl
theorem q1827 : (Jvm.Cond.fieldLink "LetMill$Funs" (111 : Nat) "LetMill$Funs" "token" "I") ∈ lw_all := lw_g (lw_at lw_m7 177 rfl) rfl
theorem q1828 : (Jvm.Cond.sameField "LetMill$Funs" "LetMill$Dec" "token" "I") ∈ lw_all := lw_g (lw_at lw_m7 178 rfl) rfl
theorem q1854 : (Jvm.Cond.fieldLink "LetMill$Funs" (26 : Nat) "LetMill$Fun" "token" "I") ∈ lw_all := lw_g (lw_at lw_m7 204 rfl) rfl
theorem q1856 : (Jvm.Cond.fieldLink "LetMill$Funs" (39 : Nat) "LetMill$Fun" "clauses" "LLetMill$Row;") ∈ lw_all := lw_g (lw_at lw_m7 206 rfl) rfl
theorem q1858 : (Jvm.Cond.fieldLink "LetMill$Funs" (35 : Nat) "LetMill$Fun" "binding" "LLetMill$Binding;") ∈ lw_all := lw_g (lw_at lw_m7 208 rfl) rfl
theorem q1859 : (Jvm.Cond.fieldLink "LetMill$Funs" (125 : Nat) "LetMill$Fun" "code" "I") ∈ lw_all := lw_g (lw_at lw_m7 209 rfl) rfl
theorem q1870 : (Jvm.Cond.instantiable "LetMill$Funs" (2 : Nat)) ∈ lw_all := lw_g (lw_at lw_m7 220 rfl) rfl
theorem q1872 : (Jvm.Cond.instanceMethod ({ cls := "LetMill$Funs", name := "<init>", desc := "(ILLetMill$Row;)V" } : Jvm.MethodName)) ∈ lw_all := lw_g (lw_at lw_m7 222 rfl) rfl
theorem q1873 : (Jvm.Cond.code ({ cls := "LetMill$Funs", name := "<init>", desc := "(ILLetMill$Row;)V" } : Jvm.MethodName) prog_20_method_1_code (3 : Nat) (Option.none : Option Jvm.ClassFile.FieldType)) ∈ lw_all := lw_g (lw_at lw_m7 223 rfl) rfl
theorem q1874 : (Jvm.Cond.methodLink "LetMill$Funs" (1 : Nat) ({ cls := "LetMill$Dec", name := "<init>", desc := "(I)V" } : Jvm.MethodName)) ∈ lw_all := lw_g (lw_at lw_m7 224 rfl) rfl
theorem q1875 : (Jvm.Cond.fieldLink "LetMill$Funs" (7 : Nat) "LetMill$Funs" "funs" "LLetMill$Row;") ∈ lw_all := lw_g (lw_at lw_m7 225 rfl) rfl
theorem q1876 : (Jvm.Cond.laysFinal "LetMill$Funs" "LetMill$Funs" "funs" "LLetMill$Row;") ∈ lw_all := lw_g (lw_at lw_m7 226 rfl) rfl
theorem q1878 : (Jvm.Cond.laysFinal "LetMill$Funs" "LetMill$Dec" "token" "I") ∈ lw_all := lw_g (lw_at lw_m7 228 rfl) rfl
theorem q2184 : (Jvm.Cond.selects "LetMill$Funs" ({ cls := "LetMill$Dec", name := "resolve", desc := "(LLetMill$Scope;)V" } : Jvm.MethodName) ({ cls := "LetMill$Funs", name := "resolve", desc := "(LLetMill$Scope;)V" } : Jvm.MethodName)) ∈ lw_all := lw_g (lw_at lw_m9 54 rfl) rfl
theorem q2185 : (Jvm.Cond.instanceMethod ({ cls := "LetMill$Funs", name := "resolve", desc := "(LLetMill$Scope;)V" } : Jvm.MethodName)) ∈ lw_all := lw_g (lw_at lw_m9 55 rfl) rfl
theorem q2186 : (Jvm.Cond.code ({ cls := "LetMill$Funs", name := "resolve", desc := "(LLetMill$Scope;)V" } : Jvm.MethodName) prog_20_method_2_code (7 : Nat) (Option.none : Option Jvm.ClassFile.FieldType)) ∈ lw_all := lw_g (lw_at lw_m9 56 rfl) rfl
theorem q2187 : (Jvm.Cond.methodLink "LetMill$Funs" (22 : Nat) ({ cls := "LetMill$Row", name := "fun", desc := "(I)LLetMill$Fun;" } : Jvm.MethodName)) ∈ lw_all := lw_g (lw_at lw_m9 57 rfl) rfl
theorem q2192 : (Jvm.Cond.methodLink "LetMill$Funs" (31 : Nat) ({ cls := "LetMill$Scope", name := "bind", desc := "(II)LLetMill$Binding;" } : Jvm.MethodName)) ∈ lw_all := lw_g (lw_at lw_m9 62 rfl) rfl
theorem q2196 : (Jvm.Cond.methodLink "LetMill$Funs" (42 : Nat) ({ cls := "LetMill$Row", name := "clause", desc := "(I)LLetMill$Clause;" } : Jvm.MethodName)) ∈ lw_all := lw_g (lw_at lw_m9 66 rfl) rfl
theorem q2201 : (Jvm.Cond.methodLink "LetMill$Funs" (49 : Nat) ({ cls := "LetMill$Scope", name := "isTwice", desc := "(II)Z" } : Jvm.MethodName)) ∈ lw_all := lw_g (lw_at lw_m9 71 rfl) rfl
theorem q2202 : (Jvm.Cond.methodLink "LetMill$Funs" (53 : Nat) ({ cls := "LetMill$Scope", name := "found", desc := "(II)V" } : Jvm.MethodName)) ∈ lw_all := lw_g (lw_at lw_m9 72 rfl) rfl
theorem q2203 : (Jvm.Cond.methodLink "LetMill$Funs" (61 : Nat) ({ cls := "LetMill$Scope", name := "clause", desc := "(LLetMill$Clause;)V" } : Jvm.MethodName)) ∈ lw_all := lw_g (lw_at lw_m9 73 rfl) rfl
theorem q2417 : (Jvm.Cond.selects "LetMill$Funs" ({ cls := "LetMill$Dec", name := "infer", desc := "(LLetMill$Typer;)V" } : Jvm.MethodName) ({ cls := "LetMill$Funs", name := "infer", desc := "(LLetMill$Typer;)V" } : Jvm.MethodName)) ∈ lw_all := lw_g (lw_at lw_m10 47 rfl) rfl
theorem q2418 : (Jvm.Cond.instanceMethod ({ cls := "LetMill$Funs", name := "infer", desc := "(LLetMill$Typer;)V" } : Jvm.MethodName)) ∈ lw_all := lw_g (lw_at lw_m10 48 rfl) rfl
theorem q2419 : (Jvm.Cond.code ({ cls := "LetMill$Funs", name := "infer", desc := "(LLetMill$Typer;)V" } : Jvm.MethodName) prog_20_method_3_code (9 : Nat) (Option.none : Option Jvm.ClassFile.FieldType)) ∈ lw_all := lw_g (lw_at lw_m10 49 rfl) rfl
theorem q2420 : (Jvm.Cond.methodLink "LetMill$Funs" (71 : Nat) ({ cls := "LetMill$Types", name := "variable", desc := "()I" } : Jvm.MethodName)) ∈ lw_all := lw_g (lw_at lw_m10 50 rfl) rfl
theorem q2421 : (Jvm.Cond.methodLink "LetMill$Funs" (82 : Nat) ({ cls := "LetMill$Typer", name := "push", desc := "(LLetMill$Binding;)V" } : Jvm.MethodName)) ∈ lw_all := lw_g (lw_at lw_m10 51 rfl) rfl
theorem q2425 : (Jvm.Cond.methodLink "LetMill$Funs" (86 : Nat) ({ cls := "LetMill$Typer", name := "match", desc := "(LLetMill$Row;[I)I" } : Jvm.MethodName)) ∈ lw_all := lw_g (lw_at lw_m10 55 rfl) rfl
theorem q2795 : (Jvm.Cond.methodLink "LetMill$Funs" (90 : Nat) ({ cls := "LetMill$Types", name := "fun", desc := "(II)I" } : Jvm.MethodName)) ∈ lw_all := lw_g (lw_at lw_m11 185 rfl) rfl
theorem q2796 : (Jvm.Cond.methodLink "LetMill$Funs" (93 : Nat) ({ cls := "LetMill$Typer", name := "same", desc := "(III)V" } : Jvm.MethodName)) ∈ lw_all := lw_g (lw_at lw_m11 186 rfl) rfl
theorem q2797 : (Jvm.Cond.methodLink "LetMill$Funs" (105 : Nat) ({ cls := "LetMill$Matches", name := "check", desc := "(LLetMill$Row;LLetMill$Tokens;I)V" } : Jvm.MethodName)) ∈ lw_all := lw_g (lw_at lw_m11 187 rfl) rfl
theorem q2798 : (Jvm.Cond.methodLink "LetMill$Funs" (112 : Nat) ({ cls := "LetMill$Typer", name := "declared", desc := "(IIZ)V" } : Jvm.MethodName)) ∈ lw_all := lw_g (lw_at lw_m11 188 rfl) rfl
theorem q2980 : (Jvm.Cond.selects "LetMill$Funs" ({ cls := "LetMill$Dec", name := "exp", desc := "()LLetMill$Exp;" } : Jvm.MethodName) ({ cls := "LetMill$Dec", name := "exp", desc := "()LLetMill$Exp;" } : Jvm.MethodName)) ∈ lw_all := lw_g (lw_at lw_m12 130 rfl) rfl
theorem q2993 : (Jvm.Cond.selects "LetMill$Funs" ({ cls := "LetMill$Dec", name := "begin", desc := "(LLetMill$Machine;I)I" } : Jvm.MethodName) ({ cls := "LetMill$Funs", name := "begin", desc := "(LLetMill$Machine;I)I" } : Jvm.MethodName)) ∈ lw_all := lw_g (lw_at lw_m12 143 rfl) rfl
theorem q2994 : (Jvm.Cond.instanceMethod ({ cls := "LetMill$Funs", name := "begin", desc := "(LLetMill$Machine;I)I" } : Jvm.MethodName)) ∈ lw_all := lw_g (lw_at lw_m12 144 rfl) rfl
theorem q2995 : (Jvm.Cond.code ({ cls := "LetMill$Funs", name := "begin", desc := "(LLetMill$Machine;I)I" } : Jvm.MethodName) prog_20_method_4_code (7 : Nat) (Option.some Jvm.ClassFile.FieldType.int)) ∈ lw_all := lw_g (lw_at lw_m12 145 rfl) rfl
theorem q2996 : (Jvm.Cond.methodLink "LetMill$Funs" (116 : Nat) ({ cls := "LetMill$Machine", name := "bound", desc := "(II)I" } : Jvm.MethodName)) ∈ lw_all := lw_g (lw_at lw_m12 146 rfl) rfl
theorem q3005 : (Jvm.Cond.methodLink "LetMill$Funs" (121 : Nat) ({ cls := "LetMill$Machine", name := "isOver", desc := "()Z" } : Jvm.MethodName)) ∈ lw_all := lw_g (lw_at lw_m12 155 rfl) rfl
theorem q3006 : (Jvm.Cond.methodLink "LetMill$Funs" (128 : Nat) ({ cls := "LetMill$Machine", name := "code", desc := "(LLetMill$Row;)I" } : Jvm.MethodName)) ∈ lw_all := lw_g (lw_at lw_m12 156 rfl) rfl
theorem q3007 : (Jvm.Cond.methodLink "LetMill$Funs" (131 : Nat) ({ cls := "LetMill$Machine", name := "closure", desc := "(IIII)I" } : Jvm.MethodName)) ∈ lw_all := lw_g (lw_at lw_m12 157 rfl) rfl
theorem q3008 : (Jvm.Cond.methodLink "LetMill$Funs" (135 : Nat) ({ cls := "LetMill$Machine", name := "rebound", desc := "(II)I" } : Jvm.MethodName)) ∈ lw_all := lw_g (lw_at lw_m12 158 rfl) rfl
theorem q4570 : (Jvm.Cond.castable "LetMill$Funs" "LetMill$Dec") ∈ lw_tbl := lw_at lw_m19 40 rfl
def RX50 : String := "LetMill$Data"
abbrev cX50_init : ByteArray := prog_13_method_1_code
def yX50_init : MethodName := ⟨RX50, "<init>", "(I[II)V"⟩
theorem q271 : (Jvm.Cond.initialized "LetMill$Data") ∈ lw_all := lw_g (lw_at lw_m1 61 rfl) rfl
theorem q1885 : (Jvm.Cond.instantiable "LetMill$Data" (5 : Nat)) ∈ lw_all := lw_g (lw_at lw_m7 235 rfl) rfl
theorem q1887 : (Jvm.Cond.instanceMethod ({ cls := "LetMill$Data", name := "<init>", desc := "(I[II)V" } : Jvm.MethodName)) ∈ lw_all := lw_g (lw_at lw_m7 237 rfl) rfl
theorem q1888 : (Jvm.Cond.code ({ cls := "LetMill$Data", name := "<init>", desc := "(I[II)V" } : Jvm.MethodName) prog_13_method_1_code (4 : Nat) (Option.none : Option Jvm.ClassFile.FieldType)) ∈ lw_all := lw_g (lw_at lw_m7 238 rfl) rfl
theorem q1889 : (Jvm.Cond.methodLink "LetMill$Data" (1 : Nat) ({ cls := "java/lang/Object", name := "<init>", desc := "()V" } : Jvm.MethodName)) ∈ lw_all := lw_g (lw_at lw_m7 239 rfl) rfl
theorem q1890 : (Jvm.Cond.classLink "LetMill$Data" (7 : Nat) "LetMill$Row") ∈ lw_all := lw_g (lw_at lw_m8 0 rfl) rfl
theorem q1891 : (Jvm.Cond.methodLinkNest "LetMill$Data" (9 : Nat) ({ cls := "LetMill$Row", name := "<init>", desc := "()V" } : Jvm.MethodName) "LetMill") ∈ lw_tbl := lw_at lw_m8 1 rfl
theorem q1892 : (Jvm.Cond.fieldLink "LetMill$Data" (16 : Nat) "LetMill$Data" "token" "I") ∈ lw_all := lw_g (lw_at lw_m8 2 rfl) rfl
theorem q1894 : (Jvm.Cond.fieldLink "LetMill$Data" (20 : Nat) "LetMill$Data" "variables" "[I") ∈ lw_all := lw_g (lw_at lw_m8 4 rfl) rfl
theorem q1897 : (Jvm.Cond.fieldLink "LetMill$Data" (24 : Nat) "LetMill$Data" "many" "I") ∈ lw_all := lw_g (lw_at lw_m8 7 rfl) rfl
theorem q1900 : (Jvm.Cond.fieldLink "LetMill$Data" (10 : Nat) "LetMill$Data" "cons" "LLetMill$Row;") ∈ lw_all := lw_g (lw_at lw_m8 10 rfl) rfl
theorem q1904 : (Jvm.Cond.laysFinal "LetMill$Data" "LetMill$Data" "token" "I") ∈ lw_all := lw_g (lw_at lw_m8 14 rfl) rfl
theorem q1906 : (Jvm.Cond.laysFinal "LetMill$Data" "LetMill$Data" "variables" "[I") ∈ lw_all := lw_g (lw_at lw_m8 16 rfl) rfl
theorem q1908 : (Jvm.Cond.lays "LetMill$Data" "LetMill$Data" "many" "I") ∈ lw_all := lw_g (lw_at lw_m8 18 rfl) rfl
theorem q1910 : (Jvm.Cond.laysFinal "LetMill$Data" "LetMill$Data" "cons" "LLetMill$Row;") ∈ lw_all := lw_g (lw_at lw_m8 20 rfl) rfl
theorem q1912 : (Jvm.Cond.lays "LetMill$Data" "LetMill$Data" "name" "LLetMill$TypeName;") ∈ lw_all := lw_g (lw_at lw_m8 22 rfl) rfl
theorem q4572 : (Jvm.Cond.castable "LetMill$Data" "LetMill$Data") ∈ lw_tbl := lw_at lw_m19 42 rfl
def RX51 : String := "LetMill$Ty"
abbrev cX51_init : ByteArray := prog_47_method_1_code
def yX51_init : MethodName := ⟨RX51, "<init>", "(I)V"⟩
theorem q272 : (Jvm.Cond.initialized "LetMill$Ty") ∈ lw_all := lw_g (lw_at lw_m1 62 rfl) rfl
theorem q1938 : (Jvm.Cond.instanceMethod ({ cls := "LetMill$Ty", name := "<init>", desc := "(I)V" } : Jvm.MethodName)) ∈ lw_all := lw_g (lw_at lw_m8 48 rfl) rfl
theorem q1939 : (Jvm.Cond.code ({ cls := "LetMill$Ty", name := "<init>", desc := "(I)V" } : Jvm.MethodName) prog_47_method_1_code (2 : Nat) (Option.none : Option Jvm.ClassFile.FieldType)) ∈ lw_all := lw_g (lw_at lw_m8 49 rfl) rfl
theorem q1940 : (Jvm.Cond.methodLink "LetMill$Ty" (1 : Nat) ({ cls := "java/lang/Object", name := "<init>", desc := "()V" } : Jvm.MethodName)) ∈ lw_all := lw_g (lw_at lw_m8 50 rfl) rfl
theorem q1943 : (Jvm.Cond.fieldLink "LetMill$Ty" (7 : Nat) "LetMill$Ty" "token" "I") ∈ lw_all := lw_g (lw_at lw_m8 53 rfl) rfl
theorem q2093 : (Jvm.Cond.declares ({ cls := "LetMill$Ty", name := "resolve", desc := "(LLetMill$Scope;LLetMill$Data;)V" } : Jvm.MethodName)) ∈ lw_tbl := lw_at lw_m8 203 rfl
theorem q2094 : (Jvm.Cond.sameMethod "LetMill$Ty" "LetMill$Ty" "resolve" "(LLetMill$Scope;LLetMill$Data;)V") ∈ lw_all := lw_g (lw_at lw_m8 204 rfl) rfl
theorem q2353 : (Jvm.Cond.declares ({ cls := "LetMill$Ty", name := "make", desc := "(LLetMill$Typer;)I" } : Jvm.MethodName)) ∈ lw_tbl := lw_at lw_m9 223 rfl
theorem q2354 : (Jvm.Cond.sameMethod "LetMill$Ty" "LetMill$Ty" "make" "(LLetMill$Typer;)I") ∈ lw_all := lw_g (lw_at lw_m9 224 rfl) rfl
def RX52 : String := "LetMill$TyName"
abbrev cX52_init : ByteArray := prog_49_method_1_code
def yX52_init : MethodName := ⟨RX52, "<init>", "(ILLetMill$Row;)V"⟩
abbrev cX52_resolve : ByteArray := prog_49_method_2_code
def yX52_resolve : MethodName := ⟨RX52, "resolve", "(LLetMill$Scope;LLetMill$Data;)V"⟩
abbrev cX52_make : ByteArray := prog_49_method_3_code
def yX52_make : MethodName := ⟨RX52, "make", "(LLetMill$Typer;)I"⟩
theorem q273 : (Jvm.Cond.initialized "LetMill$TyName") ∈ lw_all := lw_g (lw_at lw_m1 63 rfl) rfl
theorem q444 : (Jvm.Cond.fieldLink "LetMill$TyName" (27 : Nat) "LetMill$TypeName" "arguments" "I") ∈ lw_all := lw_g (lw_at lw_m1 234 rfl) rfl
theorem q449 : (Jvm.Cond.fieldLink "LetMill$TyName" (59 : Nat) "LetMill$TypeName" "id" "I") ∈ lw_all := lw_g (lw_at lw_m1 239 rfl) rfl
theorem q573 : (Jvm.Cond.fieldLink "LetMill$TyName" (32 : Nat) "LetMill$Row" "many" "I") ∈ lw_all := lw_g (lw_at lw_m2 123 rfl) rfl
theorem q818 : (Jvm.Cond.fieldLink "LetMill$TyName" (53 : Nat) "LetMill$Typer" "types" "LLetMill$Types;") ∈ lw_all := lw_g (lw_at lw_m3 128 rfl) rfl
theorem q1933 : (Jvm.Cond.instantiable "LetMill$TyName" (3 : Nat)) ∈ lw_all := lw_g (lw_at lw_m8 43 rfl) rfl
theorem q1935 : (Jvm.Cond.instanceMethod ({ cls := "LetMill$TyName", name := "<init>", desc := "(ILLetMill$Row;)V" } : Jvm.MethodName)) ∈ lw_all := lw_g (lw_at lw_m8 45 rfl) rfl
theorem q1936 : (Jvm.Cond.code ({ cls := "LetMill$TyName", name := "<init>", desc := "(ILLetMill$Row;)V" } : Jvm.MethodName) prog_49_method_1_code (3 : Nat) (Option.none : Option Jvm.ClassFile.FieldType)) ∈ lw_all := lw_g (lw_at lw_m8 46 rfl) rfl
theorem q1937 : (Jvm.Cond.methodLink "LetMill$TyName" (1 : Nat) ({ cls := "LetMill$Ty", name := "<init>", desc := "(I)V" } : Jvm.MethodName)) ∈ lw_all := lw_g (lw_at lw_m8 47 rfl) rfl
theorem q1941 : (Jvm.Cond.fieldLink "LetMill$TyName" (7 : Nat) "LetMill$TyName" "of" "LLetMill$Row;") ∈ lw_all := lw_g (lw_at lw_m8 51 rfl) rfl
theorem q1942 : (Jvm.Cond.fieldLink "LetMill$TyName" (23 : Nat) "LetMill$TyName" "name" "LLetMill$TypeName;") ∈ lw_all := lw_g (lw_at lw_m8 52 rfl) rfl
theorem q1944 : (Jvm.Cond.fieldLink "LetMill$TyName" (13 : Nat) "LetMill$TyName" "token" "I") ∈ lw_all := lw_g (lw_at lw_m8 54 rfl) rfl
theorem q1945 : (Jvm.Cond.sameField "LetMill$TyName" "LetMill$Ty" "token" "I") ∈ lw_all := lw_g (lw_at lw_m8 55 rfl) rfl
theorem q1948 : (Jvm.Cond.laysFinal "LetMill$TyName" "LetMill$TyName" "of" "LLetMill$Row;") ∈ lw_all := lw_g (lw_at lw_m8 58 rfl) rfl
theorem q1950 : (Jvm.Cond.lays "LetMill$TyName" "LetMill$TyName" "name" "LLetMill$TypeName;") ∈ lw_all := lw_g (lw_at lw_m8 60 rfl) rfl
theorem q1952 : (Jvm.Cond.laysFinal "LetMill$TyName" "LetMill$Ty" "token" "I") ∈ lw_all := lw_g (lw_at lw_m8 62 rfl) rfl
theorem q2099 : (Jvm.Cond.instanceMethod ({ cls := "LetMill$TyName", name := "resolve", desc := "(LLetMill$Scope;LLetMill$Data;)V" } : Jvm.MethodName)) ∈ lw_all := lw_g (lw_at lw_m8 209 rfl) rfl
theorem q2100 : (Jvm.Cond.code ({ cls := "LetMill$TyName", name := "resolve", desc := "(LLetMill$Scope;LLetMill$Data;)V" } : Jvm.MethodName) prog_49_method_2_code (4 : Nat) (Option.none : Option Jvm.ClassFile.FieldType)) ∈ lw_all := lw_g (lw_at lw_m8 210 rfl) rfl
theorem q2101 : (Jvm.Cond.methodLink "LetMill$TyName" (17 : Nat) ({ cls := "LetMill$Scope", name := "typeName", desc := "(I)LLetMill$TypeName;" } : Jvm.MethodName)) ∈ lw_all := lw_g (lw_at lw_m8 211 rfl) rfl
theorem q2111 : (Jvm.Cond.methodLink "LetMill$TyName" (37 : Nat) ({ cls := "LetMill$Scope", name := "found", desc := "(II)V" } : Jvm.MethodName)) ∈ lw_all := lw_g (lw_at lw_m8 221 rfl) rfl
theorem q2112 : (Jvm.Cond.methodLink "LetMill$TyName" (41 : Nat) ({ cls := "LetMill$Row", name := "ty", desc := "(I)LLetMill$Ty;" } : Jvm.MethodName)) ∈ lw_all := lw_g (lw_at lw_m8 222 rfl) rfl
theorem q2113 : (Jvm.Cond.methodLink "LetMill$TyName" (45 : Nat) ({ cls := "LetMill$Ty", name := "resolve", desc := "(LLetMill$Scope;LLetMill$Data;)V" } : Jvm.MethodName)) ∈ lw_all := lw_g (lw_at lw_m8 223 rfl) rfl
theorem q2122 : (Jvm.Cond.selects "LetMill$TyName" ({ cls := "LetMill$Ty", name := "resolve", desc := "(LLetMill$Scope;LLetMill$Data;)V" } : Jvm.MethodName) ({ cls := "LetMill$TyName", name := "resolve", desc := "(LLetMill$Scope;LLetMill$Data;)V" } : Jvm.MethodName)) ∈ lw_all := lw_g (lw_at lw_m8 232 rfl) rfl
theorem q2359 : (Jvm.Cond.instanceMethod ({ cls := "LetMill$TyName", name := "make", desc := "(LLetMill$Typer;)I" } : Jvm.MethodName)) ∈ lw_all := lw_g (lw_at lw_m9 229 rfl) rfl
theorem q2360 : (Jvm.Cond.code ({ cls := "LetMill$TyName", name := "make", desc := "(LLetMill$Typer;)I" } : Jvm.MethodName) prog_49_method_3_code (4 : Nat) (Option.some Jvm.ClassFile.FieldType.int)) ∈ lw_all := lw_g (lw_at lw_m9 230 rfl) rfl
theorem q2361 : (Jvm.Cond.methodLink "LetMill$TyName" (49 : Nat) ({ cls := "LetMill$Ty", name := "make", desc := "(LLetMill$Typer;)I" } : Jvm.MethodName)) ∈ lw_all := lw_g (lw_at lw_m9 231 rfl) rfl
theorem q2372 : (Jvm.Cond.methodLink "LetMill$TyName" (62 : Nat) ({ cls := "LetMill$Types", name := "built", desc := "(I[III)I" } : Jvm.MethodName)) ∈ lw_all := lw_g (lw_at lw_m10 2 rfl) rfl
theorem q2381 : (Jvm.Cond.selects "LetMill$TyName" ({ cls := "LetMill$Ty", name := "make", desc := "(LLetMill$Typer;)I" } : Jvm.MethodName) ({ cls := "LetMill$TyName", name := "make", desc := "(LLetMill$Typer;)I" } : Jvm.MethodName)) ∈ lw_all := lw_g (lw_at lw_m10 11 rfl) rfl
theorem q4566 : (Jvm.Cond.castable "LetMill$TyName" "LetMill$Ty") ∈ lw_tbl := lw_at lw_m19 36 rfl
def RX53 : String := "LetMill$TyVariable"
abbrev cX53_init : ByteArray := prog_51_method_1_code
def yX53_init : MethodName := ⟨RX53, "<init>", "(I)V"⟩
abbrev cX53_resolve : ByteArray := prog_51_method_2_code
def yX53_resolve : MethodName := ⟨RX53, "resolve", "(LLetMill$Scope;LLetMill$Data;)V"⟩
abbrev cX53_make : ByteArray := prog_51_method_3_code
def yX53_make : MethodName := ⟨RX53, "make", "(LLetMill$Typer;)I"⟩
theorem q274 : (Jvm.Cond.initialized "LetMill$TyVariable") ∈ lw_all := lw_g (lw_at lw_m1 64 rfl) rfl
theorem q1895 : (Jvm.Cond.fieldLink "LetMill$TyVariable" (21 : Nat) "LetMill$Data" "variables" "[I") ∈ lw_all := lw_g (lw_at lw_m8 5 rfl) rfl
theorem q1898 : (Jvm.Cond.fieldLink "LetMill$TyVariable" (13 : Nat) "LetMill$Data" "many" "I") ∈ lw_all := lw_g (lw_at lw_m8 8 rfl) rfl
theorem q1946 : (Jvm.Cond.fieldLink "LetMill$TyVariable" (18 : Nat) "LetMill$TyVariable" "token" "I") ∈ lw_all := lw_g (lw_at lw_m8 56 rfl) rfl
theorem q1947 : (Jvm.Cond.sameField "LetMill$TyVariable" "LetMill$Ty" "token" "I") ∈ lw_all := lw_g (lw_at lw_m8 57 rfl) rfl
theorem q1956 : (Jvm.Cond.instantiable "LetMill$TyVariable" (2 : Nat)) ∈ lw_all := lw_g (lw_at lw_m8 66 rfl) rfl
theorem q1958 : (Jvm.Cond.instanceMethod ({ cls := "LetMill$TyVariable", name := "<init>", desc := "(I)V" } : Jvm.MethodName)) ∈ lw_all := lw_g (lw_at lw_m8 68 rfl) rfl
theorem q1959 : (Jvm.Cond.code ({ cls := "LetMill$TyVariable", name := "<init>", desc := "(I)V" } : Jvm.MethodName) prog_51_method_1_code (2 : Nat) (Option.none : Option Jvm.ClassFile.FieldType)) ∈ lw_all := lw_g (lw_at lw_m8 69 rfl) rfl
theorem q1960 : (Jvm.Cond.methodLink "LetMill$TyVariable" (1 : Nat) ({ cls := "LetMill$Ty", name := "<init>", desc := "(I)V" } : Jvm.MethodName)) ∈ lw_all := lw_g (lw_at lw_m8 70 rfl) rfl
theorem q1961 : (Jvm.Cond.fieldLink "LetMill$TyVariable" (7 : Nat) "LetMill$TyVariable" "number" "I") ∈ lw_all := lw_g (lw_at lw_m8 71 rfl) rfl
theorem q1962 : (Jvm.Cond.lays "LetMill$TyVariable" "LetMill$TyVariable" "number" "I") ∈ lw_all := lw_g (lw_at lw_m8 72 rfl) rfl
theorem q1964 : (Jvm.Cond.laysFinal "LetMill$TyVariable" "LetMill$Ty" "token" "I") ∈ lw_all := lw_g (lw_at lw_m8 74 rfl) rfl
theorem q2118 : (Jvm.Cond.instanceMethod ({ cls := "LetMill$TyVariable", name := "resolve", desc := "(LLetMill$Scope;LLetMill$Data;)V" } : Jvm.MethodName)) ∈ lw_all := lw_g (lw_at lw_m8 228 rfl) rfl
theorem q2119 : (Jvm.Cond.code ({ cls := "LetMill$TyVariable", name := "resolve", desc := "(LLetMill$Scope;LLetMill$Data;)V" } : Jvm.MethodName) prog_51_method_2_code (3 : Nat) (Option.none : Option Jvm.ClassFile.FieldType)) ∈ lw_all := lw_g (lw_at lw_m8 229 rfl) rfl
theorem q2120 : (Jvm.Cond.methodLink "LetMill$TyVariable" (25 : Nat) ({ cls := "LetMill$Scope", name := "isTwice", desc := "(II)Z" } : Jvm.MethodName)) ∈ lw_all := lw_g (lw_at lw_m8 230 rfl) rfl
theorem q2121 : (Jvm.Cond.methodLink "LetMill$TyVariable" (31 : Nat) ({ cls := "LetMill$Scope", name := "found", desc := "(II)V" } : Jvm.MethodName)) ∈ lw_all := lw_g (lw_at lw_m8 231 rfl) rfl
theorem q2124 : (Jvm.Cond.selects "LetMill$TyVariable" ({ cls := "LetMill$Ty", name := "resolve", desc := "(LLetMill$Scope;LLetMill$Data;)V" } : Jvm.MethodName) ({ cls := "LetMill$TyVariable", name := "resolve", desc := "(LLetMill$Scope;LLetMill$Data;)V" } : Jvm.MethodName)) ∈ lw_all := lw_g (lw_at lw_m8 234 rfl) rfl
theorem q2365 : (Jvm.Cond.instanceMethod ({ cls := "LetMill$TyVariable", name := "make", desc := "(LLetMill$Typer;)I" } : Jvm.MethodName)) ∈ lw_all := lw_g (lw_at lw_m9 235 rfl) rfl
theorem q2366 : (Jvm.Cond.code ({ cls := "LetMill$TyVariable", name := "make", desc := "(LLetMill$Typer;)I" } : Jvm.MethodName) prog_51_method_3_code (2 : Nat) (Option.some Jvm.ClassFile.FieldType.int)) ∈ lw_all := lw_g (lw_at lw_m9 236 rfl) rfl
theorem q2367 : (Jvm.Cond.methodLink "LetMill$TyVariable" (35 : Nat) ({ cls := "LetMill$Typer", name := "variable", desc := "(I)I" } : Jvm.MethodName)) ∈ lw_all := lw_g (lw_at lw_m9 237 rfl) rfl
theorem q2383 : (Jvm.Cond.selects "LetMill$TyVariable" ({ cls := "LetMill$Ty", name := "make", desc := "(LLetMill$Typer;)I" } : Jvm.MethodName) ({ cls := "LetMill$TyVariable", name := "make", desc := "(LLetMill$Typer;)I" } : Jvm.MethodName)) ∈ lw_all := lw_g (lw_at lw_m10 13 rfl) rfl
theorem q4568 : (Jvm.Cond.castable "LetMill$TyVariable" "LetMill$Ty") ∈ lw_tbl := lw_at lw_m19 38 rfl
def RX54 : String := "LetMill$TyProduct"
abbrev cX54_init : ByteArray := prog_50_method_1_code
def yX54_init : MethodName := ⟨RX54, "<init>", "(ILLetMill$Row;)V"⟩
abbrev cX54_resolve : ByteArray := prog_50_method_2_code
def yX54_resolve : MethodName := ⟨RX54, "resolve", "(LLetMill$Scope;LLetMill$Data;)V"⟩
abbrev cX54_make : ByteArray := prog_50_method_3_code
def yX54_make : MethodName := ⟨RX54, "make", "(LLetMill$Typer;)I"⟩
theorem q275 : (Jvm.Cond.initialized "LetMill$TyProduct") ∈ lw_all := lw_g (lw_at lw_m1 65 rfl) rfl
theorem q568 : (Jvm.Cond.fieldLink "LetMill$TyProduct" (13 : Nat) "LetMill$Row" "many" "I") ∈ lw_all := lw_g (lw_at lw_m2 118 rfl) rfl
theorem q817 : (Jvm.Cond.fieldLink "LetMill$TyProduct" (31 : Nat) "LetMill$Typer" "types" "LLetMill$Types;") ∈ lw_all := lw_g (lw_at lw_m3 127 rfl) rfl
theorem q1967 : (Jvm.Cond.instantiable "LetMill$TyProduct" (2 : Nat)) ∈ lw_all := lw_g (lw_at lw_m8 77 rfl) rfl
theorem q1969 : (Jvm.Cond.instanceMethod ({ cls := "LetMill$TyProduct", name := "<init>", desc := "(ILLetMill$Row;)V" } : Jvm.MethodName)) ∈ lw_all := lw_g (lw_at lw_m8 79 rfl) rfl
theorem q1970 : (Jvm.Cond.code ({ cls := "LetMill$TyProduct", name := "<init>", desc := "(ILLetMill$Row;)V" } : Jvm.MethodName) prog_50_method_1_code (3 : Nat) (Option.none : Option Jvm.ClassFile.FieldType)) ∈ lw_all := lw_g (lw_at lw_m8 80 rfl) rfl
theorem q1971 : (Jvm.Cond.methodLink "LetMill$TyProduct" (1 : Nat) ({ cls := "LetMill$Ty", name := "<init>", desc := "(I)V" } : Jvm.MethodName)) ∈ lw_all := lw_g (lw_at lw_m8 81 rfl) rfl
theorem q1972 : (Jvm.Cond.fieldLink "LetMill$TyProduct" (7 : Nat) "LetMill$TyProduct" "of" "LLetMill$Row;") ∈ lw_all := lw_g (lw_at lw_m8 82 rfl) rfl
theorem q1973 : (Jvm.Cond.laysFinal "LetMill$TyProduct" "LetMill$TyProduct" "of" "LLetMill$Row;") ∈ lw_all := lw_g (lw_at lw_m8 83 rfl) rfl
theorem q1975 : (Jvm.Cond.laysFinal "LetMill$TyProduct" "LetMill$Ty" "token" "I") ∈ lw_all := lw_g (lw_at lw_m8 85 rfl) rfl
theorem q2114 : (Jvm.Cond.instanceMethod ({ cls := "LetMill$TyProduct", name := "resolve", desc := "(LLetMill$Scope;LLetMill$Data;)V" } : Jvm.MethodName)) ∈ lw_all := lw_g (lw_at lw_m8 224 rfl) rfl
theorem q2115 : (Jvm.Cond.code ({ cls := "LetMill$TyProduct", name := "resolve", desc := "(LLetMill$Scope;LLetMill$Data;)V" } : Jvm.MethodName) prog_50_method_2_code (4 : Nat) (Option.none : Option Jvm.ClassFile.FieldType)) ∈ lw_all := lw_g (lw_at lw_m8 225 rfl) rfl
theorem q2116 : (Jvm.Cond.methodLink "LetMill$TyProduct" (19 : Nat) ({ cls := "LetMill$Row", name := "ty", desc := "(I)LLetMill$Ty;" } : Jvm.MethodName)) ∈ lw_all := lw_g (lw_at lw_m8 226 rfl) rfl
theorem q2117 : (Jvm.Cond.methodLink "LetMill$TyProduct" (23 : Nat) ({ cls := "LetMill$Ty", name := "resolve", desc := "(LLetMill$Scope;LLetMill$Data;)V" } : Jvm.MethodName)) ∈ lw_all := lw_g (lw_at lw_m8 227 rfl) rfl
theorem q2123 : (Jvm.Cond.selects "LetMill$TyProduct" ({ cls := "LetMill$Ty", name := "resolve", desc := "(LLetMill$Scope;LLetMill$Data;)V" } : Jvm.MethodName) ({ cls := "LetMill$TyProduct", name := "resolve", desc := "(LLetMill$Scope;LLetMill$Data;)V" } : Jvm.MethodName)) ∈ lw_all := lw_g (lw_at lw_m8 233 rfl) rfl
theorem q2362 : (Jvm.Cond.instanceMethod ({ cls := "LetMill$TyProduct", name := "make", desc := "(LLetMill$Typer;)I" } : Jvm.MethodName)) ∈ lw_all := lw_g (lw_at lw_m9 232 rfl) rfl
theorem q2363 : (Jvm.Cond.code ({ cls := "LetMill$TyProduct", name := "make", desc := "(LLetMill$Typer;)I" } : Jvm.MethodName) prog_50_method_3_code (4 : Nat) (Option.some Jvm.ClassFile.FieldType.int)) ∈ lw_all := lw_g (lw_at lw_m9 233 rfl) rfl
theorem q2364 : (Jvm.Cond.methodLink "LetMill$TyProduct" (27 : Nat) ({ cls := "LetMill$Ty", name := "make", desc := "(LLetMill$Typer;)I" } : Jvm.MethodName)) ∈ lw_all := lw_g (lw_at lw_m9 234 rfl) rfl
theorem q2371 : (Jvm.Cond.methodLink "LetMill$TyProduct" (37 : Nat) ({ cls := "LetMill$Types", name := "built", desc := "(I[III)I" } : Jvm.MethodName)) ∈ lw_all := lw_g (lw_at lw_m10 1 rfl) rfl
theorem q2382 : (Jvm.Cond.selects "LetMill$TyProduct" ({ cls := "LetMill$Ty", name := "make", desc := "(LLetMill$Typer;)I" } : Jvm.MethodName) ({ cls := "LetMill$TyProduct", name := "make", desc := "(LLetMill$Typer;)I" } : Jvm.MethodName)) ∈ lw_all := lw_g (lw_at lw_m10 12 rfl) rfl
theorem q4567 : (Jvm.Cond.castable "LetMill$TyProduct" "LetMill$Ty") ∈ lw_tbl := lw_at lw_m19 37 rfl
def RX55 : String := "LetMill$TyFun"
abbrev cX55_init : ByteArray := prog_48_method_1_code
def yX55_init : MethodName := ⟨RX55, "<init>", "(ILLetMill$Ty;LLetMill$Ty;)V"⟩
abbrev cX55_resolve : ByteArray := prog_48_method_2_code
def yX55_resolve : MethodName := ⟨RX55, "resolve", "(LLetMill$Scope;LLetMill$Data;)V"⟩
abbrev cX55_make : ByteArray := prog_48_method_3_code
def yX55_make : MethodName := ⟨RX55, "make", "(LLetMill$Typer;)I"⟩
theorem q276 : (Jvm.Cond.initialized "LetMill$TyFun") ∈ lw_all := lw_g (lw_at lw_m1 66 rfl) rfl
theorem q808 : (Jvm.Cond.fieldLink "LetMill$TyFun" (24 : Nat) "LetMill$Typer" "types" "LLetMill$Types;") ∈ lw_all := lw_g (lw_at lw_m3 118 rfl) rfl
theorem q1978 : (Jvm.Cond.instantiable "LetMill$TyFun" (3 : Nat)) ∈ lw_all := lw_g (lw_at lw_m8 88 rfl) rfl
theorem q1980 : (Jvm.Cond.instanceMethod ({ cls := "LetMill$TyFun", name := "<init>", desc := "(ILLetMill$Ty;LLetMill$Ty;)V" } : Jvm.MethodName)) ∈ lw_all := lw_g (lw_at lw_m8 90 rfl) rfl
theorem q1981 : (Jvm.Cond.code ({ cls := "LetMill$TyFun", name := "<init>", desc := "(ILLetMill$Ty;LLetMill$Ty;)V" } : Jvm.MethodName) prog_48_method_1_code (4 : Nat) (Option.none : Option Jvm.ClassFile.FieldType)) ∈ lw_all := lw_g (lw_at lw_m8 91 rfl) rfl
theorem q1982 : (Jvm.Cond.methodLink "LetMill$TyFun" (1 : Nat) ({ cls := "LetMill$Ty", name := "<init>", desc := "(I)V" } : Jvm.MethodName)) ∈ lw_all := lw_g (lw_at lw_m8 92 rfl) rfl
theorem q1983 : (Jvm.Cond.fieldLink "LetMill$TyFun" (7 : Nat) "LetMill$TyFun" "from" "LLetMill$Ty;") ∈ lw_all := lw_g (lw_at lw_m8 93 rfl) rfl
theorem q1984 : (Jvm.Cond.fieldLink "LetMill$TyFun" (13 : Nat) "LetMill$TyFun" "to" "LLetMill$Ty;") ∈ lw_all := lw_g (lw_at lw_m8 94 rfl) rfl
theorem q1985 : (Jvm.Cond.laysFinal "LetMill$TyFun" "LetMill$TyFun" "from" "LLetMill$Ty;") ∈ lw_all := lw_g (lw_at lw_m8 95 rfl) rfl
theorem q1987 : (Jvm.Cond.laysFinal "LetMill$TyFun" "LetMill$TyFun" "to" "LLetMill$Ty;") ∈ lw_all := lw_g (lw_at lw_m8 97 rfl) rfl
theorem q1989 : (Jvm.Cond.laysFinal "LetMill$TyFun" "LetMill$Ty" "token" "I") ∈ lw_all := lw_g (lw_at lw_m8 99 rfl) rfl
theorem q2095 : (Jvm.Cond.selects "LetMill$TyFun" ({ cls := "LetMill$Ty", name := "resolve", desc := "(LLetMill$Scope;LLetMill$Data;)V" } : Jvm.MethodName) ({ cls := "LetMill$TyFun", name := "resolve", desc := "(LLetMill$Scope;LLetMill$Data;)V" } : Jvm.MethodName)) ∈ lw_all := lw_g (lw_at lw_m8 205 rfl) rfl
theorem q2096 : (Jvm.Cond.instanceMethod ({ cls := "LetMill$TyFun", name := "resolve", desc := "(LLetMill$Scope;LLetMill$Data;)V" } : Jvm.MethodName)) ∈ lw_all := lw_g (lw_at lw_m8 206 rfl) rfl
theorem q2097 : (Jvm.Cond.code ({ cls := "LetMill$TyFun", name := "resolve", desc := "(LLetMill$Scope;LLetMill$Data;)V" } : Jvm.MethodName) prog_48_method_2_code (3 : Nat) (Option.none : Option Jvm.ClassFile.FieldType)) ∈ lw_all := lw_g (lw_at lw_m8 207 rfl) rfl
theorem q2098 : (Jvm.Cond.methodLink "LetMill$TyFun" (16 : Nat) ({ cls := "LetMill$Ty", name := "resolve", desc := "(LLetMill$Scope;LLetMill$Data;)V" } : Jvm.MethodName)) ∈ lw_all := lw_g (lw_at lw_m8 208 rfl) rfl
theorem q2355 : (Jvm.Cond.selects "LetMill$TyFun" ({ cls := "LetMill$Ty", name := "make", desc := "(LLetMill$Typer;)I" } : Jvm.MethodName) ({ cls := "LetMill$TyFun", name := "make", desc := "(LLetMill$Typer;)I" } : Jvm.MethodName)) ∈ lw_all := lw_g (lw_at lw_m9 225 rfl) rfl
theorem q2356 : (Jvm.Cond.instanceMethod ({ cls := "LetMill$TyFun", name := "make", desc := "(LLetMill$Typer;)I" } : Jvm.MethodName)) ∈ lw_all := lw_g (lw_at lw_m9 226 rfl) rfl
theorem q2357 : (Jvm.Cond.code ({ cls := "LetMill$TyFun", name := "make", desc := "(LLetMill$Typer;)I" } : Jvm.MethodName) prog_48_method_3_code (3 : Nat) (Option.some Jvm.ClassFile.FieldType.int)) ∈ lw_all := lw_g (lw_at lw_m9 227 rfl) rfl
theorem q2358 : (Jvm.Cond.methodLink "LetMill$TyFun" (20 : Nat) ({ cls := "LetMill$Ty", name := "make", desc := "(LLetMill$Typer;)I" } : Jvm.MethodName)) ∈ lw_all := lw_g (lw_at lw_m9 228 rfl) rfl
theorem q2373 : (Jvm.Cond.methodLink "LetMill$TyFun" (30 : Nat) ({ cls := "LetMill$Types", name := "fun", desc := "(II)I" } : Jvm.MethodName)) ∈ lw_all := lw_g (lw_at lw_m10 3 rfl) rfl
theorem q4565 : (Jvm.Cond.castable "LetMill$TyFun" "LetMill$Ty") ∈ lw_tbl := lw_at lw_m19 35 rfl
def RX56 : String := "LetMill$ConDec"
abbrev cX56_init : ByteArray := prog_10_method_1_code
def yX56_init : MethodName := ⟨RX56, "<init>", "(ILLetMill$Ty;)V"⟩
theorem q277 : (Jvm.Cond.initialized "LetMill$ConDec") ∈ lw_all := lw_g (lw_at lw_m1 67 rfl) rfl
theorem q1992 : (Jvm.Cond.instantiable "LetMill$ConDec" (3 : Nat)) ∈ lw_all := lw_g (lw_at lw_m8 102 rfl) rfl
theorem q1994 : (Jvm.Cond.instanceMethod ({ cls := "LetMill$ConDec", name := "<init>", desc := "(ILLetMill$Ty;)V" } : Jvm.MethodName)) ∈ lw_all := lw_g (lw_at lw_m8 104 rfl) rfl
theorem q1995 : (Jvm.Cond.code ({ cls := "LetMill$ConDec", name := "<init>", desc := "(ILLetMill$Ty;)V" } : Jvm.MethodName) prog_10_method_1_code (3 : Nat) (Option.none : Option Jvm.ClassFile.FieldType)) ∈ lw_all := lw_g (lw_at lw_m8 105 rfl) rfl
theorem q1996 : (Jvm.Cond.methodLink "LetMill$ConDec" (1 : Nat) ({ cls := "java/lang/Object", name := "<init>", desc := "()V" } : Jvm.MethodName)) ∈ lw_all := lw_g (lw_at lw_m8 106 rfl) rfl
theorem q1997 : (Jvm.Cond.fieldLink "LetMill$ConDec" (7 : Nat) "LetMill$ConDec" "token" "I") ∈ lw_all := lw_g (lw_at lw_m8 107 rfl) rfl
theorem q1999 : (Jvm.Cond.fieldLink "LetMill$ConDec" (13 : Nat) "LetMill$ConDec" "has" "LLetMill$Ty;") ∈ lw_all := lw_g (lw_at lw_m8 109 rfl) rfl
theorem q2002 : (Jvm.Cond.laysFinal "LetMill$ConDec" "LetMill$ConDec" "token" "I") ∈ lw_all := lw_g (lw_at lw_m8 112 rfl) rfl
theorem q2004 : (Jvm.Cond.laysFinal "LetMill$ConDec" "LetMill$ConDec" "has" "LLetMill$Ty;") ∈ lw_all := lw_g (lw_at lw_m8 114 rfl) rfl
theorem q2006 : (Jvm.Cond.lays "LetMill$ConDec" "LetMill$ConDec" "con" "LLetMill$Con;") ∈ lw_all := lw_g (lw_at lw_m8 116 rfl) rfl
theorem q4573 : (Jvm.Cond.castable "LetMill$ConDec" "LetMill$ConDec") ∈ lw_tbl := lw_at lw_m19 43 rfl
def RX57 : String := "LetMill$Datas"
abbrev cX57_init : ByteArray := prog_14_method_1_code
def yX57_init : MethodName := ⟨RX57, "<init>", "(ILLetMill$Row;)V"⟩
abbrev cX57_resolve : ByteArray := prog_14_method_2_code
def yX57_resolve : MethodName := ⟨RX57, "resolve", "(LLetMill$Scope;)V"⟩
abbrev cX57_isThere : ByteArray := prog_14_method_3_code
def yX57_isThere : MethodName := ⟨RX57, "isThere", "(LLetMill$Scope;III)Z"⟩
abbrev cX57_infer : ByteArray := prog_14_method_4_code
def yX57_infer : MethodName := ⟨RX57, "infer", "(LLetMill$Typer;)V"⟩
abbrev cX57_begin : ByteArray := prog_14_method_5_code
def yX57_begin : MethodName := ⟨RX57, "begin", "(LLetMill$Machine;I)I"⟩
theorem q278 : (Jvm.Cond.initialized "LetMill$Datas") ∈ lw_all := lw_g (lw_at lw_m1 68 rfl) rfl
theorem q328 : (Jvm.Cond.fieldLink "LetMill$Datas" (121 : Nat) "LetMill$Tokens" "from" "[I") ∈ lw_all := lw_g (lw_at lw_m1 118 rfl) rfl
theorem q450 : (Jvm.Cond.fieldLink "LetMill$Datas" (136 : Nat) "LetMill$TypeName" "id" "I") ∈ lw_all := lw_g (lw_at lw_m2 0 rfl) rfl
theorem q451 : (Jvm.Cond.fieldLink "LetMill$Datas" (87 : Nat) "LetMill$TypeName" "cons" "I") ∈ lw_all := lw_g (lw_at lw_m2 1 rfl) rfl
theorem q567 : (Jvm.Cond.fieldLink "LetMill$Datas" (13 : Nat) "LetMill$Row" "many" "I") ∈ lw_all := lw_g (lw_at lw_m2 117 rfl) rfl
theorem q820 : (Jvm.Cond.fieldLink "LetMill$Datas" (132 : Nat) "LetMill$Typer" "types" "LLetMill$Types;") ∈ lw_all := lw_g (lw_at lw_m3 130 rfl) rfl
theorem q825 : (Jvm.Cond.fieldLink "LetMill$Datas" (115 : Nat) "LetMill$Typer" "k" "LLetMill$Tokens;") ∈ lw_all := lw_g (lw_at lw_m3 135 rfl) rfl
theorem q1829 : (Jvm.Cond.fieldLink "LetMill$Datas" (126 : Nat) "LetMill$Datas" "token" "I") ∈ lw_all := lw_g (lw_at lw_m7 179 rfl) rfl
theorem q1830 : (Jvm.Cond.sameField "LetMill$Datas" "LetMill$Dec" "token" "I") ∈ lw_all := lw_g (lw_at lw_m7 180 rfl) rfl
theorem q1893 : (Jvm.Cond.fieldLink "LetMill$Datas" (23 : Nat) "LetMill$Data" "token" "I") ∈ lw_all := lw_g (lw_at lw_m8 3 rfl) rfl
theorem q1896 : (Jvm.Cond.fieldLink "LetMill$Datas" (39 : Nat) "LetMill$Data" "variables" "[I") ∈ lw_all := lw_g (lw_at lw_m8 6 rfl) rfl
theorem q1899 : (Jvm.Cond.fieldLink "LetMill$Datas" (38 : Nat) "LetMill$Data" "many" "I") ∈ lw_all := lw_g (lw_at lw_m8 9 rfl) rfl
theorem q1901 : (Jvm.Cond.fieldLink "LetMill$Datas" (63 : Nat) "LetMill$Data" "cons" "LLetMill$Row;") ∈ lw_all := lw_g (lw_at lw_m8 11 rfl) rfl
theorem q1903 : (Jvm.Cond.fieldLink "LetMill$Datas" (47 : Nat) "LetMill$Data" "name" "LLetMill$TypeName;") ∈ lw_all := lw_g (lw_at lw_m8 13 rfl) rfl
theorem q1998 : (Jvm.Cond.fieldLink "LetMill$Datas" (70 : Nat) "LetMill$ConDec" "token" "I") ∈ lw_all := lw_g (lw_at lw_m8 108 rfl) rfl
theorem q2000 : (Jvm.Cond.fieldLink "LetMill$Datas" (77 : Nat) "LetMill$ConDec" "has" "LLetMill$Ty;") ∈ lw_all := lw_g (lw_at lw_m8 110 rfl) rfl
theorem q2001 : (Jvm.Cond.fieldLink "LetMill$Datas" (100 : Nat) "LetMill$ConDec" "con" "LLetMill$Con;") ∈ lw_all := lw_g (lw_at lw_m8 111 rfl) rfl
theorem q2010 : (Jvm.Cond.instantiable "LetMill$Datas" (3 : Nat)) ∈ lw_all := lw_g (lw_at lw_m8 120 rfl) rfl
theorem q2012 : (Jvm.Cond.instanceMethod ({ cls := "LetMill$Datas", name := "<init>", desc := "(ILLetMill$Row;)V" } : Jvm.MethodName)) ∈ lw_all := lw_g (lw_at lw_m8 122 rfl) rfl
theorem q2013 : (Jvm.Cond.code ({ cls := "LetMill$Datas", name := "<init>", desc := "(ILLetMill$Row;)V" } : Jvm.MethodName) prog_14_method_1_code (3 : Nat) (Option.none : Option Jvm.ClassFile.FieldType)) ∈ lw_all := lw_g (lw_at lw_m8 123 rfl) rfl
theorem q2014 : (Jvm.Cond.methodLink "LetMill$Datas" (1 : Nat) ({ cls := "LetMill$Dec", name := "<init>", desc := "(I)V" } : Jvm.MethodName)) ∈ lw_all := lw_g (lw_at lw_m8 124 rfl) rfl
theorem q2015 : (Jvm.Cond.fieldLink "LetMill$Datas" (7 : Nat) "LetMill$Datas" "datas" "LLetMill$Row;") ∈ lw_all := lw_g (lw_at lw_m8 125 rfl) rfl
theorem q2016 : (Jvm.Cond.fieldLink "LetMill$Datas" (51 : Nat) "LetMill$Datas" "isTooMuch" "Z") ∈ lw_all := lw_g (lw_at lw_m8 126 rfl) rfl
theorem q2017 : (Jvm.Cond.laysFinal "LetMill$Datas" "LetMill$Datas" "datas" "LLetMill$Row;") ∈ lw_all := lw_g (lw_at lw_m8 127 rfl) rfl
theorem q2019 : (Jvm.Cond.lays "LetMill$Datas" "LetMill$Datas" "isTooMuch" "Z") ∈ lw_all := lw_g (lw_at lw_m8 129 rfl) rfl
theorem q2021 : (Jvm.Cond.laysFinal "LetMill$Datas" "LetMill$Dec" "token" "I") ∈ lw_all := lw_g (lw_at lw_m8 131 rfl) rfl
theorem q2044 : (Jvm.Cond.selects "LetMill$Datas" ({ cls := "LetMill$Dec", name := "resolve", desc := "(LLetMill$Scope;)V" } : Jvm.MethodName) ({ cls := "LetMill$Datas", name := "resolve", desc := "(LLetMill$Scope;)V" } : Jvm.MethodName)) ∈ lw_all := lw_g (lw_at lw_m8 154 rfl) rfl
theorem q2045 : (Jvm.Cond.instanceMethod ({ cls := "LetMill$Datas", name := "resolve", desc := "(LLetMill$Scope;)V" } : Jvm.MethodName)) ∈ lw_all := lw_g (lw_at lw_m8 155 rfl) rfl
theorem q2046 : (Jvm.Cond.code ({ cls := "LetMill$Datas", name := "resolve", desc := "(LLetMill$Scope;)V" } : Jvm.MethodName) prog_14_method_2_code (6 : Nat) (Option.none : Option Jvm.ClassFile.FieldType)) ∈ lw_all := lw_g (lw_at lw_m8 156 rfl) rfl
theorem q2047 : (Jvm.Cond.methodLink "LetMill$Datas" (19 : Nat) ({ cls := "LetMill$Row", name := "data", desc := "(I)LLetMill$Data;" } : Jvm.MethodName)) ∈ lw_all := lw_g (lw_at lw_m8 157 rfl) rfl
theorem q2052 : (Jvm.Cond.methodLink "LetMill$Datas" (28 : Nat) ({ cls := "LetMill$Scope", name := "isTwice", desc := "(II)Z" } : Jvm.MethodName)) ∈ lw_all := lw_g (lw_at lw_m8 162 rfl) rfl
theorem q2060 : (Jvm.Cond.methodLink "LetMill$Datas" (34 : Nat) ({ cls := "LetMill$Scope", name := "found", desc := "(II)V" } : Jvm.MethodName)) ∈ lw_all := lw_g (lw_at lw_m8 170 rfl) rfl
theorem q2064 : (Jvm.Cond.methodLink "LetMill$Datas" (43 : Nat) ({ cls := "LetMill$Scope", name := "declare", desc := "(II)LLetMill$TypeName;" } : Jvm.MethodName)) ∈ lw_all := lw_g (lw_at lw_m8 174 rfl) rfl
theorem q2075 : (Jvm.Cond.methodLink "LetMill$Datas" (55 : Nat) ({ cls := "LetMill$Scope", name := "isFull", desc := "()Z" } : Jvm.MethodName)) ∈ lw_all := lw_g (lw_at lw_m8 185 rfl) rfl
theorem q2079 : (Jvm.Cond.methodLink "LetMill$Datas" (59 : Nat) ({ cls := "LetMill$Scope", name := "addName", desc := "(LLetMill$TypeName;)V" } : Jvm.MethodName)) ∈ lw_all := lw_g (lw_at lw_m8 189 rfl) rfl
theorem q2083 : (Jvm.Cond.methodLink "LetMill$Datas" (66 : Nat) ({ cls := "LetMill$Row", name := "con", desc := "(I)LLetMill$ConDec;" } : Jvm.MethodName)) ∈ lw_all := lw_g (lw_at lw_m8 193 rfl) rfl
theorem q2088 : (Jvm.Cond.methodLink "LetMill$Datas" (73 : Nat) ({ cls := "LetMill$Datas", name := "isThere", desc := "(LLetMill$Scope;III)Z" } : Jvm.MethodName)) ∈ lw_all := lw_g (lw_at lw_m8 198 rfl) rfl
theorem q2090 : (Jvm.Cond.instanceMethod ({ cls := "LetMill$Datas", name := "isThere", desc := "(LLetMill$Scope;III)Z" } : Jvm.MethodName)) ∈ lw_all := lw_g (lw_at lw_m8 200 rfl) rfl
theorem q2091 : (Jvm.Cond.code ({ cls := "LetMill$Datas", name := "isThere", desc := "(LLetMill$Scope;III)Z" } : Jvm.MethodName) prog_14_method_3_code (9 : Nat) (Option.some Jvm.ClassFile.FieldType.boolean)) ∈ lw_all := lw_g (lw_at lw_m8 201 rfl) rfl
theorem q2092 : (Jvm.Cond.methodLink "LetMill$Datas" (81 : Nat) ({ cls := "LetMill$Ty", name := "resolve", desc := "(LLetMill$Scope;LLetMill$Data;)V" } : Jvm.MethodName)) ∈ lw_all := lw_g (lw_at lw_m8 202 rfl) rfl
theorem q2125 : (Jvm.Cond.classLink "LetMill$Datas" (91 : Nat) "LetMill$Con") ∈ lw_all := lw_g (lw_at lw_m8 235 rfl) rfl
theorem q2127 : (Jvm.Cond.methodLink "LetMill$Datas" (93 : Nat) ({ cls := "LetMill$Scope", name := "part", desc := "(II)J" } : Jvm.MethodName)) ∈ lw_all := lw_g (lw_at lw_m8 237 rfl) rfl
theorem q2131 : (Jvm.Cond.methodLink "LetMill$Datas" (97 : Nat) ({ cls := "LetMill$Con", name := "<init>", desc := "(JJLLetMill$TypeName;I)V" } : Jvm.MethodName)) ∈ lw_all := lw_g (lw_at lw_m9 1 rfl) rfl
theorem q2148 : (Jvm.Cond.fieldLink "LetMill$Datas" (103 : Nat) "LetMill$Con" "isWith" "Z") ∈ lw_all := lw_g (lw_at lw_m9 18 rfl) rfl
theorem q2153 : (Jvm.Cond.fieldLink "LetMill$Datas" (166 : Nat) "LetMill$Con" "has" "[I") ∈ lw_all := lw_g (lw_at lw_m9 23 rfl) rfl
theorem q2156 : (Jvm.Cond.fieldLink "LetMill$Datas" (160 : Nat) "LetMill$Con" "gives" "[I") ∈ lw_all := lw_g (lw_at lw_m9 26 rfl) rfl
theorem q2176 : (Jvm.Cond.methodLink "LetMill$Datas" (106 : Nat) ({ cls := "LetMill$Scope", name := "number", desc := "(LLetMill$Con;)V" } : Jvm.MethodName)) ∈ lw_all := lw_g (lw_at lw_m9 46 rfl) rfl
theorem q2180 : (Jvm.Cond.methodLink "LetMill$Datas" (110 : Nat) ({ cls := "LetMill$Scope", name := "addCon", desc := "(LLetMill$Con;)V" } : Jvm.MethodName)) ∈ lw_all := lw_g (lw_at lw_m9 50 rfl) rfl
theorem q2331 : (Jvm.Cond.selects "LetMill$Datas" ({ cls := "LetMill$Dec", name := "infer", desc := "(LLetMill$Typer;)V" } : Jvm.MethodName) ({ cls := "LetMill$Datas", name := "infer", desc := "(LLetMill$Typer;)V" } : Jvm.MethodName)) ∈ lw_all := lw_g (lw_at lw_m9 201 rfl) rfl
theorem q2332 : (Jvm.Cond.instanceMethod ({ cls := "LetMill$Datas", name := "infer", desc := "(LLetMill$Typer;)V" } : Jvm.MethodName)) ∈ lw_all := lw_g (lw_at lw_m9 202 rfl) rfl
theorem q2333 : (Jvm.Cond.code ({ cls := "LetMill$Datas", name := "infer", desc := "(LLetMill$Typer;)V" } : Jvm.MethodName) prog_14_method_4_code (8 : Nat) (Option.none : Option Jvm.ClassFile.FieldType)) ∈ lw_all := lw_g (lw_at lw_m9 203 rfl) rfl
theorem q2334 : (Jvm.Cond.classLink "LetMill$Datas" (113 : Nat) "LetMill$Fault") ∈ lw_all := lw_g (lw_at lw_m9 204 rfl) rfl
theorem q2335 : (Jvm.Cond.methodLink "LetMill$Datas" (127 : Nat) ({ cls := "LetMill$Fault", name := "<init>", desc := "(II)V" } : Jvm.MethodName)) ∈ lw_all := lw_g (lw_at lw_m9 205 rfl) rfl
theorem q2336 : (Jvm.Cond.methodLink "LetMill$Datas" (129 : Nat) ({ cls := "LetMill$Typer", name := "fresh", desc := "(I)V" } : Jvm.MethodName)) ∈ lw_all := lw_g (lw_at lw_m9 206 rfl) rfl
theorem q2344 : (Jvm.Cond.methodLink "LetMill$Datas" (139 : Nat) ({ cls := "LetMill$Typer", name := "variables", desc := "()[I" } : Jvm.MethodName)) ∈ lw_all := lw_g (lw_at lw_m9 214 rfl) rfl
theorem q2348 : (Jvm.Cond.methodLink "LetMill$Datas" (142 : Nat) ({ cls := "LetMill$Types", name := "built", desc := "(I[III)I" } : Jvm.MethodName)) ∈ lw_all := lw_g (lw_at lw_m9 218 rfl) rfl
theorem q2352 : (Jvm.Cond.methodLink "LetMill$Datas" (148 : Nat) ({ cls := "LetMill$Ty", name := "make", desc := "(LLetMill$Typer;)I" } : Jvm.MethodName)) ∈ lw_all := lw_g (lw_at lw_m9 222 rfl) rfl
theorem q2384 : (Jvm.Cond.methodLink "LetMill$Datas" (152 : Nat) ({ cls := "LetMill$Types", name := "size", desc := "(II)I" } : Jvm.MethodName)) ∈ lw_all := lw_g (lw_at lw_m10 14 rfl) rfl
theorem q2401 : (Jvm.Cond.methodLink "LetMill$Datas" (156 : Nat) ({ cls := "LetMill$Types", name := "write", desc := "(I)[I" } : Jvm.MethodName)) ∈ lw_all := lw_g (lw_at lw_m10 31 rfl) rfl
theorem q2413 : (Jvm.Cond.methodLink "LetMill$Datas" (163 : Nat) ({ cls := "LetMill$Types", name := "writeOn", desc := "(I)[I" } : Jvm.MethodName)) ∈ lw_all := lw_g (lw_at lw_m10 43 rfl) rfl
theorem q2979 : (Jvm.Cond.selects "LetMill$Datas" ({ cls := "LetMill$Dec", name := "exp", desc := "()LLetMill$Exp;" } : Jvm.MethodName) ({ cls := "LetMill$Dec", name := "exp", desc := "()LLetMill$Exp;" } : Jvm.MethodName)) ∈ lw_all := lw_g (lw_at lw_m12 129 rfl) rfl
theorem q2990 : (Jvm.Cond.selects "LetMill$Datas" ({ cls := "LetMill$Dec", name := "begin", desc := "(LLetMill$Machine;I)I" } : Jvm.MethodName) ({ cls := "LetMill$Datas", name := "begin", desc := "(LLetMill$Machine;I)I" } : Jvm.MethodName)) ∈ lw_all := lw_g (lw_at lw_m12 140 rfl) rfl
theorem q2991 : (Jvm.Cond.instanceMethod ({ cls := "LetMill$Datas", name := "begin", desc := "(LLetMill$Machine;I)I" } : Jvm.MethodName)) ∈ lw_all := lw_g (lw_at lw_m12 141 rfl) rfl
theorem q2992 : (Jvm.Cond.code ({ cls := "LetMill$Datas", name := "begin", desc := "(LLetMill$Machine;I)I" } : Jvm.MethodName) prog_14_method_5_code (3 : Nat) (Option.some Jvm.ClassFile.FieldType.int)) ∈ lw_all := lw_g (lw_at lw_m12 142 rfl) rfl
theorem q4569 : (Jvm.Cond.castable "LetMill$Datas" "LetMill$Dec") ∈ lw_tbl := lw_at lw_m19 39 rfl
def RX58 : String := "LetMill$Con"
abbrev cX58_init : ByteArray := prog_9_method_1_code
def yX58_init : MethodName := ⟨RX58, "<init>", "(JJLLetMill$TypeName;I)V"⟩
theorem q279 : (Jvm.Cond.initialized "LetMill$Con") ∈ lw_all := lw_g (lw_at lw_m1 69 rfl) rfl
theorem q2126 : (Jvm.Cond.instantiable "LetMill$Con" (9 : Nat)) ∈ lw_all := lw_g (lw_at lw_m8 236 rfl) rfl
theorem q2132 : (Jvm.Cond.instanceMethod ({ cls := "LetMill$Con", name := "<init>", desc := "(JJLLetMill$TypeName;I)V" } : Jvm.MethodName)) ∈ lw_all := lw_g (lw_at lw_m9 2 rfl) rfl
theorem q2133 : (Jvm.Cond.code ({ cls := "LetMill$Con", name := "<init>", desc := "(JJLLetMill$TypeName;I)V" } : Jvm.MethodName) prog_9_method_1_code (7 : Nat) (Option.none : Option Jvm.ClassFile.FieldType)) ∈ lw_all := lw_g (lw_at lw_m9 3 rfl) rfl
theorem q2134 : (Jvm.Cond.methodLink "LetMill$Con" (1 : Nat) ({ cls := "java/lang/Object", name := "<init>", desc := "()V" } : Jvm.MethodName)) ∈ lw_all := lw_g (lw_at lw_m9 4 rfl) rfl
theorem q2135 : (Jvm.Cond.fieldLink "LetMill$Con" (7 : Nat) "LetMill$Con" "name" "J") ∈ lw_all := lw_g (lw_at lw_m9 5 rfl) rfl
theorem q2138 : (Jvm.Cond.fieldLink "LetMill$Con" (13 : Nat) "LetMill$Con" "more" "J") ∈ lw_all := lw_g (lw_at lw_m9 8 rfl) rfl
theorem q2141 : (Jvm.Cond.fieldLink "LetMill$Con" (16 : Nat) "LetMill$Con" "type" "LLetMill$TypeName;") ∈ lw_all := lw_g (lw_at lw_m9 11 rfl) rfl
theorem q2143 : (Jvm.Cond.fieldLink "LetMill$Con" (20 : Nat) "LetMill$Con" "number" "I") ∈ lw_all := lw_g (lw_at lw_m9 13 rfl) rfl
theorem q2157 : (Jvm.Cond.laysFinal "LetMill$Con" "LetMill$Con" "name" "J") ∈ lw_all := lw_g (lw_at lw_m9 27 rfl) rfl
theorem q2159 : (Jvm.Cond.laysFinal "LetMill$Con" "LetMill$Con" "more" "J") ∈ lw_all := lw_g (lw_at lw_m9 29 rfl) rfl
theorem q2161 : (Jvm.Cond.laysFinal "LetMill$Con" "LetMill$Con" "type" "LLetMill$TypeName;") ∈ lw_all := lw_g (lw_at lw_m9 31 rfl) rfl
theorem q2163 : (Jvm.Cond.laysFinal "LetMill$Con" "LetMill$Con" "number" "I") ∈ lw_all := lw_g (lw_at lw_m9 33 rfl) rfl
theorem q2165 : (Jvm.Cond.lays "LetMill$Con" "LetMill$Con" "id" "I") ∈ lw_all := lw_g (lw_at lw_m9 35 rfl) rfl
theorem q2167 : (Jvm.Cond.lays "LetMill$Con" "LetMill$Con" "isWith" "Z") ∈ lw_all := lw_g (lw_at lw_m9 37 rfl) rfl
theorem q2169 : (Jvm.Cond.lays "LetMill$Con" "LetMill$Con" "has" "[I") ∈ lw_all := lw_g (lw_at lw_m9 39 rfl) rfl
theorem q2171 : (Jvm.Cond.lays "LetMill$Con" "LetMill$Con" "gives" "[I") ∈ lw_all := lw_g (lw_at lw_m9 41 rfl) rfl
theorem q2173 : (Jvm.Cond.lays "LetMill$Con" "LetMill$Con" "next" "LLetMill$Con;") ∈ lw_all := lw_g (lw_at lw_m9 43 rfl) rfl
theorem q4577 : (Jvm.Cond.castable "LetMill$Con" "LetMill$Con") ∈ lw_tbl := lw_at lw_m19 47 rfl
def RJ11 : String := "java/lang/IllegalStateException"
abbrev cJ11_init : ByteArray := prog_64_method_1_code
def yJ11_init : MethodName := ⟨RJ11, "<init>", "()V"⟩
theorem q280 : (Jvm.Cond.initialized "java/lang/IllegalStateException") ∈ lw_all := lw_g (lw_at lw_m1 70 rfl) rfl
theorem q1082 : (Jvm.Cond.selects "java/lang/IllegalStateException" ({ cls := "java/lang/Throwable", name := "fillInStackTrace", desc := "()Ljava/lang/Throwable;" } : Jvm.MethodName) ({ cls := "java/lang/Throwable", name := "fillInStackTrace", desc := "()Ljava/lang/Throwable;" } : Jvm.MethodName)) ∈ lw_all := lw_g (lw_at lw_m4 152 rfl) rfl
theorem q2854 : (Jvm.Cond.instantiable "java/lang/IllegalStateException" (6 : Nat)) ∈ lw_all := lw_g (lw_at lw_m12 4 rfl) rfl
theorem q2855 : (Jvm.Cond.castable "java/lang/IllegalStateException" "java/lang/IllegalStateException") ∈ lw_tbl := lw_at lw_m12 5 rfl
theorem q2856 : (Jvm.Cond.selects "java/lang/IllegalStateException" ({ cls := "java/lang/Throwable", name := "fillInStackTrace", desc := "(I)Ljava/lang/Throwable;" } : Jvm.MethodName) ({ cls := "java/lang/Throwable", name := "fillInStackTrace", desc := "(I)Ljava/lang/Throwable;" } : Jvm.MethodName)) ∈ lw_all := lw_g (lw_at lw_m12 6 rfl) rfl
theorem q2857 : (Jvm.Cond.lays "java/lang/IllegalStateException" "java/lang/Throwable" "cause" "Ljava/lang/Throwable;") ∈ lw_all := lw_g (lw_at lw_m12 7 rfl) rfl
theorem q2858 : (Jvm.Cond.lays "java/lang/IllegalStateException" "java/lang/Throwable" "stackTrace" "[Ljava/lang/StackTraceElement;") ∈ lw_all := lw_g (lw_at lw_m12 8 rfl) rfl
theorem q2859 : (Jvm.Cond.lays "java/lang/IllegalStateException" "java/lang/Throwable" "suppressedExceptions" "Ljava/util/List;") ∈ lw_all := lw_g (lw_at lw_m12 9 rfl) rfl
theorem q2860 : (Jvm.Cond.lays "java/lang/IllegalStateException" "java/lang/Throwable" "detailMessage" "Ljava/lang/String;") ∈ lw_all := lw_g (lw_at lw_m12 10 rfl) rfl
theorem q2861 : (Jvm.Cond.lays "java/lang/IllegalStateException" "java/lang/Throwable" "backtrace" "Ljava/lang/Object;") ∈ lw_all := lw_g (lw_at lw_m12 11 rfl) rfl
theorem q2863 : (Jvm.Cond.instanceMethod ({ cls := "java/lang/IllegalStateException", name := "<init>", desc := "()V" } : Jvm.MethodName)) ∈ lw_all := lw_g (lw_at lw_m12 13 rfl) rfl
theorem q2864 : (Jvm.Cond.code ({ cls := "java/lang/IllegalStateException", name := "<init>", desc := "()V" } : Jvm.MethodName) prog_64_method_1_code (1 : Nat) (Option.none : Option Jvm.ClassFile.FieldType)) ∈ lw_all := lw_g (lw_at lw_m12 14 rfl) rfl
theorem q2865 : (Jvm.Cond.methodLink "java/lang/IllegalStateException" (1 : Nat) ({ cls := "java/lang/RuntimeException", name := "<init>", desc := "()V" } : Jvm.MethodName)) ∈ lw_all := lw_g (lw_at lw_m12 15 rfl) rfl
theorem q2866 : (Jvm.Cond.lays "java/lang/IllegalStateException" "java/lang/Throwable" "depth" "I") ∈ lw_all := lw_g (lw_at lw_m12 16 rfl) rfl
def RJ12 : String := "java/util/NoSuchElementException"
abbrev cJ12_init : ByteArray := prog_72_method_1_code
def yJ12_init : MethodName := ⟨RJ12, "<init>", "()V"⟩
theorem q281 : (Jvm.Cond.initialized "java/util/NoSuchElementException") ∈ lw_all := lw_g (lw_at lw_m1 71 rfl) rfl
theorem q1083 : (Jvm.Cond.selects "java/util/NoSuchElementException" ({ cls := "java/lang/Throwable", name := "fillInStackTrace", desc := "()Ljava/lang/Throwable;" } : Jvm.MethodName) ({ cls := "java/lang/Throwable", name := "fillInStackTrace", desc := "()Ljava/lang/Throwable;" } : Jvm.MethodName)) ∈ lw_all := lw_g (lw_at lw_m4 153 rfl) rfl
theorem q3317 : (Jvm.Cond.instantiable "java/util/NoSuchElementException" (6 : Nat)) ∈ lw_all := lw_g (lw_at lw_m13 227 rfl) rfl
theorem q3318 : (Jvm.Cond.castable "java/util/NoSuchElementException" "java/util/NoSuchElementException") ∈ lw_tbl := lw_at lw_m13 228 rfl
theorem q3319 : (Jvm.Cond.selects "java/util/NoSuchElementException" ({ cls := "java/lang/Throwable", name := "fillInStackTrace", desc := "(I)Ljava/lang/Throwable;" } : Jvm.MethodName) ({ cls := "java/lang/Throwable", name := "fillInStackTrace", desc := "(I)Ljava/lang/Throwable;" } : Jvm.MethodName)) ∈ lw_all := lw_g (lw_at lw_m13 229 rfl) rfl
theorem q3320 : (Jvm.Cond.lays "java/util/NoSuchElementException" "java/lang/Throwable" "cause" "Ljava/lang/Throwable;") ∈ lw_all := lw_g (lw_at lw_m13 230 rfl) rfl
theorem q3321 : (Jvm.Cond.lays "java/util/NoSuchElementException" "java/lang/Throwable" "stackTrace" "[Ljava/lang/StackTraceElement;") ∈ lw_all := lw_g (lw_at lw_m13 231 rfl) rfl
theorem q3322 : (Jvm.Cond.lays "java/util/NoSuchElementException" "java/lang/Throwable" "suppressedExceptions" "Ljava/util/List;") ∈ lw_all := lw_g (lw_at lw_m13 232 rfl) rfl
theorem q3323 : (Jvm.Cond.lays "java/util/NoSuchElementException" "java/lang/Throwable" "detailMessage" "Ljava/lang/String;") ∈ lw_all := lw_g (lw_at lw_m13 233 rfl) rfl
theorem q3324 : (Jvm.Cond.lays "java/util/NoSuchElementException" "java/lang/Throwable" "backtrace" "Ljava/lang/Object;") ∈ lw_all := lw_g (lw_at lw_m13 234 rfl) rfl
theorem q3326 : (Jvm.Cond.instanceMethod ({ cls := "java/util/NoSuchElementException", name := "<init>", desc := "()V" } : Jvm.MethodName)) ∈ lw_all := lw_g (lw_at lw_m13 236 rfl) rfl
theorem q3327 : (Jvm.Cond.code ({ cls := "java/util/NoSuchElementException", name := "<init>", desc := "()V" } : Jvm.MethodName) prog_72_method_1_code (1 : Nat) (Option.none : Option Jvm.ClassFile.FieldType)) ∈ lw_all := lw_g (lw_at lw_m13 237 rfl) rfl
theorem q3328 : (Jvm.Cond.methodLink "java/util/NoSuchElementException" (1 : Nat) ({ cls := "java/lang/RuntimeException", name := "<init>", desc := "()V" } : Jvm.MethodName)) ∈ lw_all := lw_g (lw_at lw_m13 238 rfl) rfl
theorem q3329 : (Jvm.Cond.lays "java/util/NoSuchElementException" "java/lang/Throwable" "depth" "I") ∈ lw_all := lw_g (lw_at lw_m13 239 rfl) rfl
def RJ13 : String := "java/lang/Object"
abbrev cJ13_init : ByteArray := object_method_1_code
def yJ13_init : MethodName := ⟨RJ13, "<init>", "()V"⟩
theorem q288 : (Jvm.Cond.instanceMethod ({ cls := "java/lang/Object", name := "<init>", desc := "()V" } : Jvm.MethodName)) ∈ lw_all := lw_g (lw_at lw_m1 78 rfl) rfl
theorem q289 : (Jvm.Cond.code ({ cls := "java/lang/Object", name := "<init>", desc := "()V" } : Jvm.MethodName) object_method_1_code (1 : Nat) (Option.none : Option Jvm.ClassFile.FieldType)) ∈ lw_all := lw_g (lw_at lw_m1 79 rfl) rfl
theorem q297 : (Jvm.Cond.arrayOver (Jvm.ClassFile.FieldType.object "java/lang/String")) ∈ lw_tbl := lw_at lw_m1 87 rfl
theorem q359 : (Jvm.Cond.arrayClass Jvm.ClassFile.FieldType.byte) ∈ lw_all := lw_g (lw_at lw_m1 149 rfl) rfl
theorem q360 : (Jvm.Cond.arrayClass Jvm.ClassFile.FieldType.int) ∈ lw_all := lw_g (lw_at lw_m1 150 rfl) rfl
theorem q361 : (Jvm.Cond.arrayClass Jvm.ClassFile.FieldType.long) ∈ lw_all := lw_g (lw_at lw_m1 151 rfl) rfl
theorem q371 : (Jvm.Cond.arrayOver (Jvm.ClassFile.FieldType.object "LetMill$TypeName")) ∈ lw_tbl := lw_at lw_m1 161 rfl
theorem q564 : (Jvm.Cond.arrayOver (Jvm.ClassFile.FieldType.object "LetMill$Spot")) ∈ lw_tbl := lw_at lw_m2 114 rfl
theorem q681 : (Jvm.Cond.arrayOver (Jvm.ClassFile.FieldType.object "LetMill$Binding")) ∈ lw_tbl := lw_at lw_m2 231 rfl
theorem q1408 : (Jvm.Cond.arrayOver (Jvm.ClassFile.FieldType.object "LetMill$Pat")) ∈ lw_tbl := lw_at lw_m5 238 rfl
theorem q1682 : (Jvm.Cond.arrayOver (Jvm.ClassFile.FieldType.object "LetMill$Exp")) ∈ lw_tbl := lw_at lw_m7 32 rfl
theorem q4531 : (Jvm.Cond.arrayClass Jvm.ClassFile.FieldType.boolean) ∈ lw_all := lw_g (lw_at lw_m19 1 rfl) rfl
