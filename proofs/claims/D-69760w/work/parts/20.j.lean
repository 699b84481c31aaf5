set_option maxRecDepth 100000
def kJ0_length : List (Nat × Instr × Nat) := [(0, .aload_n 0, 1), (1, .getfield 9, 3), (4, .arraylength, 1), (5, .aload_n 0, 1), (6, .invokevirtual 335, 3), (9, .ishr, 1), (10, .ireturn, 1)]
theorem kJ0_length_ok : dk_chk (cJ0_length).data.toList 0 kJ0_length = true := by decide +kernel
def mJ0_length : Mu := (yJ0_length, cJ0_length, 1, (Option.some Jvm.ClassFile.FieldType.int), [], 0)
theorem dJ0_length (j : Nat) {p n : Nat} {i : Instr} (hj : kJ0_length[j]? = some (p, i, n)) (hs : dk_sw i = false) : decode (mC mJ0_length) p = .ok (i, n) := dk_get kJ0_length 0 kJ0_length_ok j p i n hj hs
theorem wJ0_length : mW mJ0_length ∈ lw_all := q383
theorem lJ0_length : ((parseMethodDescriptor (mY mJ0_length).desc).map fun q => q.parameters.length) = some 0 := by decide +kernel
def kJ0_coder : List (Nat × Instr × Nat) := [(0, .getstatic 38, 3), (3, .ifCond .eq 10, 3), (6, .aload_n 0, 1), (7, .getfield 15, 3), (10, .goto 4, 3), (13, .iconst 1, 1), (14, .ireturn, 1)]
theorem kJ0_coder_ok : dk_chk (cJ0_coder).data.toList 0 kJ0_coder = true := by decide +kernel
def mJ0_coder : Mu := (yJ0_coder, cJ0_coder, 1, (Option.some Jvm.ClassFile.FieldType.byte), [], 0)
theorem dJ0_coder (j : Nat) {p n : Nat} {i : Instr} (hj : kJ0_coder[j]? = some (p, i, n)) (hs : dk_sw i = false) : decode (mC mJ0_coder) p = .ok (i, n) := dk_get kJ0_coder 0 kJ0_coder_ok j p i n hj hs
theorem wJ0_coder : mW mJ0_coder ∈ lw_all := q387
theorem lJ0_coder : ((parseMethodDescriptor (mY mJ0_coder).desc).map fun q => q.parameters.length) = some 0 := by decide +kernel
def kJ0_charAt : List (Nat × Instr × Nat) := [(0, .aload_n 0, 1), (1, .invokevirtual 492, 3), (4, .ifCond .eq 12, 3), (7, .aload_n 0, 1), (8, .getfield 9, 3), (11, .iload_n 1, 1), (12, .invokestatic 495, 3), (15, .ireturn, 1), (16, .aload_n 0, 1), (17, .getfield 9, 3), (20, .iload_n 1, 1), (21, .invokestatic 498, 3), (24, .ireturn, 1)]
theorem kJ0_charAt_ok : dk_chk (cJ0_charAt).data.toList 0 kJ0_charAt = true := by decide +kernel
def mJ0_charAt : Mu := (yJ0_charAt, cJ0_charAt, 2, (Option.some Jvm.ClassFile.FieldType.char), [], 0)
theorem dJ0_charAt (j : Nat) {p n : Nat} {i : Instr} (hj : kJ0_charAt[j]? = some (p, i, n)) (hs : dk_sw i = false) : decode (mC mJ0_charAt) p = .ok (i, n) := dk_get kJ0_charAt 0 kJ0_charAt_ok j p i n hj hs
theorem wJ0_charAt : mW mJ0_charAt ∈ lw_all := q393
theorem lJ0_charAt : ((parseMethodDescriptor (mY mJ0_charAt).desc).map fun q => q.parameters.length) = some 1 := by decide +kernel
def kJ0_isLatin1 : List (Nat × Instr × Nat) := [(0, .getstatic 38, 3), (3, .ifCond .eq 14, 3), (6, .aload_n 0, 1), (7, .getfield 15, 3), (10, .ifCond .ne 7, 3), (13, .iconst 1, 1), (14, .goto 4, 3), (17, .iconst 0, 1), (18, .ireturn, 1)]
theorem kJ0_isLatin1_ok : dk_chk (cJ0_isLatin1).data.toList 0 kJ0_isLatin1 = true := by decide +kernel
def mJ0_isLatin1 : Mu := (yJ0_isLatin1, cJ0_isLatin1, 1, (Option.some Jvm.ClassFile.FieldType.boolean), [], 0)
theorem dJ0_isLatin1 (j : Nat) {p n : Nat} {i : Instr} (hj : kJ0_isLatin1[j]? = some (p, i, n)) (hs : dk_sw i = false) : decode (mC mJ0_isLatin1) p = .ok (i, n) := dk_get kJ0_isLatin1 0 kJ0_isLatin1_ok j p i n hj hs
theorem wJ0_isLatin1 : mW mJ0_isLatin1 ∈ lw_all := q397
theorem lJ0_isLatin1 : ((parseMethodDescriptor (mY mJ0_isLatin1).desc).map fun q => q.parameters.length) = some 0 := by decide +kernel
def kJ0_checkIndex : List (Nat × Instr × Nat) := [(0, .iload_n 0, 1), (1, .iload_n 1, 1), (2, .getstatic 1053, 3), (5, .invokestatic 1059, 3), (8, .pop, 1), (9, .return_, 1)]
theorem kJ0_checkIndex_ok : dk_chk (cJ0_checkIndex).data.toList 0 kJ0_checkIndex = true := by decide +kernel
def mJ0_checkIndex : Mu := (yJ0_checkIndex, cJ0_checkIndex, 2, (Option.none : Option Jvm.ClassFile.FieldType), [], 0)
theorem dJ0_checkIndex (j : Nat) {p n : Nat} {i : Instr} (hj : kJ0_checkIndex[j]? = some (p, i, n)) (hs : dk_sw i = false) : decode (mC mJ0_checkIndex) p = .ok (i, n) := dk_get kJ0_checkIndex 0 kJ0_checkIndex_ok j p i n hj hs
theorem wJ0_checkIndex : mW mJ0_checkIndex ∈ lw_all := q403
theorem lJ0_checkIndex : ((parseMethodDescriptor (mY mJ0_checkIndex).desc).map fun q => q.parameters.length) = some 2 := by decide +kernel
def kJ0_indexOf : List (Nat × Instr × Nat) := [(0, .aload_n 0, 1), (1, .iload_n 1, 1), (2, .iconst 0, 1), (3, .invokevirtual 633, 3), (6, .ireturn, 1)]
theorem kJ0_indexOf_ok : dk_chk (cJ0_indexOf).data.toList 0 kJ0_indexOf = true := by decide +kernel
def mJ0_indexOf : Mu := (yJ0_indexOf, cJ0_indexOf, 2, (Option.some Jvm.ClassFile.FieldType.int), [], 0)
theorem dJ0_indexOf (j : Nat) {p n : Nat} {i : Instr} (hj : kJ0_indexOf[j]? = some (p, i, n)) (hs : dk_sw i = false) : decode (mC mJ0_indexOf) p = .ok (i, n) := dk_get kJ0_indexOf 0 kJ0_indexOf_ok j p i n hj hs
theorem wJ0_indexOf : mW mJ0_indexOf ∈ lw_all := q1205
theorem lJ0_indexOf : ((parseMethodDescriptor (mY mJ0_indexOf).desc).map fun q => q.parameters.length) = some 1 := by decide +kernel
def kJ0_indexOf_2 : List (Nat × Instr × Nat) := [(0, .aload_n 0, 1), (1, .invokevirtual 492, 3), (4, .ifCond .eq 19, 3), (7, .aload_n 0, 1), (8, .getfield 9, 3), (11, .iload_n 1, 1), (12, .iload_n 2, 1), (13, .aload_n 0, 1), (14, .invokevirtual 505, 3), (17, .invokestatic 637, 3), (20, .goto 16, 3), (23, .aload_n 0, 1), (24, .getfield 9, 3), (27, .iload_n 1, 1), (28, .iload_n 2, 1), (29, .aload_n 0, 1), (30, .invokevirtual 505, 3), (33, .invokestatic 640, 3), (36, .ireturn, 1)]
theorem kJ0_indexOf_2_ok : dk_chk (cJ0_indexOf_2).data.toList 0 kJ0_indexOf_2 = true := by decide +kernel
def mJ0_indexOf_2 : Mu := (yJ0_indexOf_2, cJ0_indexOf_2, 3, (Option.some Jvm.ClassFile.FieldType.int), [], 0)
theorem dJ0_indexOf_2 (j : Nat) {p n : Nat} {i : Instr} (hj : kJ0_indexOf_2[j]? = some (p, i, n)) (hs : dk_sw i = false) : decode (mC mJ0_indexOf_2) p = .ok (i, n) := dk_get kJ0_indexOf_2 0 kJ0_indexOf_2_ok j p i n hj hs
theorem wJ0_indexOf_2 : mW mJ0_indexOf_2 ∈ lw_all := q1209
theorem lJ0_indexOf_2 : ((parseMethodDescriptor (mY mJ0_indexOf_2).desc).map fun q => q.parameters.length) = some 2 := by decide +kernel
def kJ1_charAt : List (Nat × Instr × Nat) := [(0, .iload_n 1, 1), (1, .aload_n 0, 1), (2, .arraylength, 1), (3, .invokestatic 9, 3), (6, .aload_n 0, 1), (7, .iload_n 1, 1), (8, .baload, 1), (9, .sipush 255, 3), (12, .iand, 1), (13, .i2c, 1), (14, .ireturn, 1)]
theorem kJ1_charAt_ok : dk_chk (cJ1_charAt).data.toList 0 kJ1_charAt = true := by decide +kernel
def mJ1_charAt : Mu := (yJ1_charAt, cJ1_charAt, 2, (Option.some Jvm.ClassFile.FieldType.char), [], 0)
theorem dJ1_charAt (j : Nat) {p n : Nat} {i : Instr} (hj : kJ1_charAt[j]? = some (p, i, n)) (hs : dk_sw i = false) : decode (mC mJ1_charAt) p = .ok (i, n) := dk_get kJ1_charAt 0 kJ1_charAt_ok j p i n hj hs
theorem wJ1_charAt : mW mJ1_charAt ∈ lw_all := q400
theorem lJ1_charAt : ((parseMethodDescriptor (mY mJ1_charAt).desc).map fun q => q.parameters.length) = some 2 := by decide +kernel
def kJ1_indexOf : List (Nat × Instr × Nat) := [(0, .iload_n 1, 1), (1, .invokestatic 88, 3), (4, .ifCond .ne 5, 3), (7, .iconst (-1), 1), (8, .ireturn, 1), (9, .iload_n 2, 1), (10, .iconst 0, 1), (11, .invokestatic 92, 3), (14, .istore_n 2, 1), (15, .iload_n 3, 1), (16, .aload_n 0, 1), (17, .arraylength, 1), (18, .invokestatic 38, 3), (21, .istore_n 3, 1), (22, .iload_n 2, 1), (23, .iload_n 3, 1), (24, .if_icmp .lt 5, 3), (27, .iconst (-1), 1), (28, .ireturn, 1), (29, .aload_n 0, 1), (30, .iload_n 1, 1), (31, .iload_n 2, 1), (32, .iload_n 3, 1), (33, .invokestatic 95, 3), (36, .ireturn, 1)]
theorem kJ1_indexOf_ok : dk_chk (cJ1_indexOf).data.toList 0 kJ1_indexOf = true := by decide +kernel
def mJ1_indexOf : Mu := (yJ1_indexOf, cJ1_indexOf, 4, (Option.some Jvm.ClassFile.FieldType.int), [], 0)
theorem dJ1_indexOf (j : Nat) {p n : Nat} {i : Instr} (hj : kJ1_indexOf[j]? = some (p, i, n)) (hs : dk_sw i = false) : decode (mC mJ1_indexOf) p = .ok (i, n) := dk_get kJ1_indexOf 0 kJ1_indexOf_ok j p i n hj hs
theorem wJ1_indexOf : mW mJ1_indexOf ∈ lw_all := q1213
theorem lJ1_indexOf : ((parseMethodDescriptor (mY mJ1_indexOf).desc).map fun q => q.parameters.length) = some 4 := by decide +kernel
def kJ1_canEncode : List (Nat × Instr × Nat) := [(0, .iload_n 0, 1), (1, .ifCond .lt 14, 3), (4, .iload_n 0, 1), (5, .sipush 255, 3), (8, .if_icmp .gt 7, 3), (11, .iconst 1, 1), (12, .goto 4, 3), (15, .iconst 0, 1), (16, .ireturn, 1)]
theorem kJ1_canEncode_ok : dk_chk (cJ1_canEncode).data.toList 0 kJ1_canEncode = true := by decide +kernel
def mJ1_canEncode : Mu := (yJ1_canEncode, cJ1_canEncode, 1, (Option.some Jvm.ClassFile.FieldType.boolean), [], 0)
theorem dJ1_canEncode (j : Nat) {p n : Nat} {i : Instr} (hj : kJ1_canEncode[j]? = some (p, i, n)) (hs : dk_sw i = false) : decode (mC mJ1_canEncode) p = .ok (i, n) := dk_get kJ1_canEncode 0 kJ1_canEncode_ok j p i n hj hs
theorem wJ1_canEncode : mW mJ1_canEncode ∈ lw_all := q1216
theorem lJ1_canEncode : ((parseMethodDescriptor (mY mJ1_canEncode).desc).map fun q => q.parameters.length) = some 1 := by decide +kernel
def kJ1_indexOfChar : List (Nat × Instr × Nat) := [(0, .iload_n 1, 1), (1, .i2b, 1), (2, .istore 4, 2), (4, .iload_n 2, 1), (5, .istore 5, 2), (7, .iload 5, 2), (9, .iload_n 3, 1), (10, .if_icmp .ge 21, 3), (13, .aload_n 0, 1), (14, .iload 5, 2), (16, .baload, 1), (17, .iload 4, 2), (19, .if_icmp .ne 6, 3), (22, .iload 5, 2), (24, .ireturn, 1), (25, .iinc 5 1, 3), (28, .goto (-21), 3), (31, .iconst (-1), 1), (32, .ireturn, 1)]
theorem kJ1_indexOfChar_ok : dk_chk (cJ1_indexOfChar).data.toList 0 kJ1_indexOfChar = true := by decide +kernel
def mJ1_indexOfChar : Mu := (yJ1_indexOfChar, cJ1_indexOfChar, 6, (Option.some Jvm.ClassFile.FieldType.int), [], 0)
theorem dJ1_indexOfChar (j : Nat) {p n : Nat} {i : Instr} (hj : kJ1_indexOfChar[j]? = some (p, i, n)) (hs : dk_sw i = false) : decode (mC mJ1_indexOfChar) p = .ok (i, n) := dk_get kJ1_indexOfChar 0 kJ1_indexOfChar_ok j p i n hj hs
theorem wJ1_indexOfChar : mW mJ1_indexOfChar ∈ lw_all := q1225
theorem lJ1_indexOfChar : ((parseMethodDescriptor (mY mJ1_indexOfChar).desc).map fun q => q.parameters.length) = some 4 := by decide +kernel
def kJ2_checkIndex : List (Nat × Instr × Nat) := [(0, .iload_n 0, 1), (1, .ifCond .lt 8, 3), (4, .iload_n 0, 1), (5, .iload_n 1, 1), (6, .if_icmp .lt 10, 3), (9, .aload_n 2, 1), (10, .iload_n 0, 1), (11, .iload_n 1, 1), (12, .invokestatic 95, 3), (15, .athrow, 1), (16, .iload_n 0, 1), (17, .ireturn, 1)]
theorem kJ2_checkIndex_ok : dk_chk (cJ2_checkIndex).data.toList 0 kJ2_checkIndex = true := by decide +kernel
def mJ2_checkIndex : Mu := (yJ2_checkIndex, cJ2_checkIndex, 3, (Option.some Jvm.ClassFile.FieldType.int), [], 0)
theorem dJ2_checkIndex (j : Nat) {p n : Nat} {i : Instr} (hj : kJ2_checkIndex[j]? = some (p, i, n)) (hs : dk_sw i = false) : decode (mC mJ2_checkIndex) p = .ok (i, n) := dk_get kJ2_checkIndex 0 kJ2_checkIndex_ok j p i n hj hs
theorem wJ2_checkIndex : mW mJ2_checkIndex ∈ lw_all := q408
theorem lJ2_checkIndex : ((parseMethodDescriptor (mY mJ2_checkIndex).desc).map fun q => q.parameters.length) = some 3 := by decide +kernel
def kJ5_init : List (Nat × Instr × Nat) := [(0, .aload_n 0, 1), (1, .invokespecial 1, 3), (4, .return_, 1)]
theorem kJ5_init_ok : dk_chk (cJ5_init).data.toList 0 kJ5_init = true := by decide +kernel
def mJ5_init : Mu := (yJ5_init, cJ5_init, 1, (Option.none : Option Jvm.ClassFile.FieldType), [], 0)
theorem dJ5_init (j : Nat) {p n : Nat} {i : Instr} (hj : kJ5_init[j]? = some (p, i, n)) (hs : dk_sw i = false) : decode (mC mJ5_init) p = .ok (i, n) := dk_get kJ5_init 0 kJ5_init_ok j p i n hj hs
theorem wJ5_init : mW mJ5_init ∈ lw_all := q1098
theorem lJ5_init : ((parseMethodDescriptor (mY mJ5_init).desc).map fun q => q.parameters.length) = some 0 := by decide +kernel
def kJ6_init : List (Nat × Instr × Nat) := [(0, .aload_n 0, 1), (1, .invokespecial 1, 3), (4, .return_, 1)]
theorem kJ6_init_ok : dk_chk (cJ6_init).data.toList 0 kJ6_init = true := by decide +kernel
def mJ6_init : Mu := (yJ6_init, cJ6_init, 1, (Option.none : Option Jvm.ClassFile.FieldType), [], 0)
theorem dJ6_init (j : Nat) {p n : Nat} {i : Instr} (hj : kJ6_init[j]? = some (p, i, n)) (hs : dk_sw i = false) : decode (mC mJ6_init) p = .ok (i, n) := dk_get kJ6_init 0 kJ6_init_ok j p i n hj hs
theorem wJ6_init : mW mJ6_init ∈ lw_all := q1095
theorem lJ6_init : ((parseMethodDescriptor (mY mJ6_init).desc).map fun q => q.parameters.length) = some 0 := by decide +kernel
def kJ7_init : List (Nat × Instr × Nat) := [(0, .aload_n 0, 1), (1, .invokespecial 1, 3), (4, .return_, 1)]
theorem kJ7_init_ok : dk_chk (cJ7_init).data.toList 0 kJ7_init = true := by decide +kernel
def mJ7_init : Mu := (yJ7_init, cJ7_init, 1, (Option.none : Option Jvm.ClassFile.FieldType), [], 0)
theorem dJ7_init (j : Nat) {p n : Nat} {i : Instr} (hj : kJ7_init[j]? = some (p, i, n)) (hs : dk_sw i = false) : decode (mC mJ7_init) p = .ok (i, n) := dk_get kJ7_init 0 kJ7_init_ok j p i n hj hs
theorem wJ7_init : mW mJ7_init ∈ lw_all := q1092
theorem lJ7_init : ((parseMethodDescriptor (mY mJ7_init).desc).map fun q => q.parameters.length) = some 0 := by decide +kernel
def kJ8_init : List (Nat × Instr × Nat) := [(0, .aload_n 0, 1), (1, .invokespecial 1, 3), (4, .return_, 1)]
theorem kJ8_init_ok : dk_chk (cJ8_init).data.toList 0 kJ8_init = true := by decide +kernel
def mJ8_init : Mu := (yJ8_init, cJ8_init, 1, (Option.none : Option Jvm.ClassFile.FieldType), [], 0)
theorem dJ8_init (j : Nat) {p n : Nat} {i : Instr} (hj : kJ8_init[j]? = some (p, i, n)) (hs : dk_sw i = false) : decode (mC mJ8_init) p = .ok (i, n) := dk_get kJ8_init 0 kJ8_init_ok j p i n hj hs
theorem wJ8_init : mW mJ8_init ∈ lw_all := q1138
theorem lJ8_init : ((parseMethodDescriptor (mY mJ8_init).desc).map fun q => q.parameters.length) = some 0 := by decide +kernel
def kJ11_init : List (Nat × Instr × Nat) := [(0, .aload_n 0, 1), (1, .invokespecial 1, 3), (4, .return_, 1)]
theorem kJ11_init_ok : dk_chk (cJ11_init).data.toList 0 kJ11_init = true := by decide +kernel
def mJ11_init : Mu := (yJ11_init, cJ11_init, 1, (Option.none : Option Jvm.ClassFile.FieldType), [], 0)
theorem dJ11_init (j : Nat) {p n : Nat} {i : Instr} (hj : kJ11_init[j]? = some (p, i, n)) (hs : dk_sw i = false) : decode (mC mJ11_init) p = .ok (i, n) := dk_get kJ11_init 0 kJ11_init_ok j p i n hj hs
theorem wJ11_init : mW mJ11_init ∈ lw_all := q2864
theorem lJ11_init : ((parseMethodDescriptor (mY mJ11_init).desc).map fun q => q.parameters.length) = some 0 := by decide +kernel
def kJ12_init : List (Nat × Instr × Nat) := [(0, .aload_n 0, 1), (1, .invokespecial 1, 3), (4, .return_, 1)]
theorem kJ12_init_ok : dk_chk (cJ12_init).data.toList 0 kJ12_init = true := by decide +kernel
def mJ12_init : Mu := (yJ12_init, cJ12_init, 1, (Option.none : Option Jvm.ClassFile.FieldType), [], 0)
theorem dJ12_init (j : Nat) {p n : Nat} {i : Instr} (hj : kJ12_init[j]? = some (p, i, n)) (hs : dk_sw i = false) : decode (mC mJ12_init) p = .ok (i, n) := dk_get kJ12_init 0 kJ12_init_ok j p i n hj hs
theorem wJ12_init : mW mJ12_init ∈ lw_all := q3327
theorem lJ12_init : ((parseMethodDescriptor (mY mJ12_init).desc).map fun q => q.parameters.length) = some 0 := by decide +kernel
def kJ9_min : List (Nat × Instr × Nat) := [(0, .lload_n 0, 1), (1, .lload_n 2, 1), (2, .lcmp, 1), (3, .ifCond .gt 7, 3), (6, .lload_n 0, 1), (7, .goto 4, 3), (10, .lload_n 2, 1), (11, .lreturn, 1)]
theorem kJ9_min_ok : dk_chk (cJ9_min).data.toList 0 kJ9_min = true := by decide +kernel
def mJ9_min : Mu := (yJ9_min, cJ9_min, 4, (Option.some Jvm.ClassFile.FieldType.long), [], 0)
theorem dJ9_min (j : Nat) {p n : Nat} {i : Instr} (hj : kJ9_min[j]? = some (p, i, n)) (hs : dk_sw i = false) : decode (mC mJ9_min) p = .ok (i, n) := dk_get kJ9_min 0 kJ9_min_ok j p i n hj hs
theorem wJ9_min : mW mJ9_min ∈ lw_all := q1195
theorem lJ9_min : ((parseMethodDescriptor (mY mJ9_min).desc).map fun q => q.parameters.length) = some 2 := by decide +kernel
def kJ9_max : List (Nat × Instr × Nat) := [(0, .iload_n 0, 1), (1, .iload_n 1, 1), (2, .if_icmp .lt 7, 3), (5, .iload_n 0, 1), (6, .goto 4, 3), (9, .iload_n 1, 1), (10, .ireturn, 1)]
theorem kJ9_max_ok : dk_chk (cJ9_max).data.toList 0 kJ9_max = true := by decide +kernel
def mJ9_max : Mu := (yJ9_max, cJ9_max, 2, (Option.some Jvm.ClassFile.FieldType.int), [], 0)
theorem dJ9_max (j : Nat) {p n : Nat} {i : Instr} (hj : kJ9_max[j]? = some (p, i, n)) (hs : dk_sw i = false) : decode (mC mJ9_max) p = .ok (i, n) := dk_get kJ9_max 0 kJ9_max_ok j p i n hj hs
theorem wJ9_max : mW mJ9_max ∈ lw_all := q1219
theorem lJ9_max : ((parseMethodDescriptor (mY mJ9_max).desc).map fun q => q.parameters.length) = some 2 := by decide +kernel
def kJ9_min_2 : List (Nat × Instr × Nat) := [(0, .iload_n 0, 1), (1, .iload_n 1, 1), (2, .if_icmp .gt 7, 3), (5, .iload_n 0, 1), (6, .goto 4, 3), (9, .iload_n 1, 1), (10, .ireturn, 1)]
theorem kJ9_min_2_ok : dk_chk (cJ9_min_2).data.toList 0 kJ9_min_2 = true := by decide +kernel
def mJ9_min_2 : Mu := (yJ9_min_2, cJ9_min_2, 2, (Option.some Jvm.ClassFile.FieldType.int), [], 0)
theorem dJ9_min_2 (j : Nat) {p n : Nat} {i : Instr} (hj : kJ9_min_2[j]? = some (p, i, n)) (hs : dk_sw i = false) : decode (mC mJ9_min_2) p = .ok (i, n) := dk_get kJ9_min_2 0 kJ9_min_2_ok j p i n hj hs
theorem wJ9_min_2 : mW mJ9_min_2 ∈ lw_all := q1222
theorem lJ9_min_2 : ((parseMethodDescriptor (mY mJ9_min_2).desc).map fun q => q.parameters.length) = some 2 := by decide +kernel
def kJ9_floorDiv : List (Nat × Instr × Nat) := [(0, .iload_n 0, 1), (1, .iload_n 1, 1), (2, .idiv, 1), (3, .istore_n 2, 1), (4, .iload_n 0, 1), (5, .iload_n 1, 1), (6, .ixor, 1), (7, .ifCond .ge 14, 3), (10, .iload_n 2, 1), (11, .iload_n 1, 1), (12, .imul, 1), (13, .iload_n 0, 1), (14, .if_icmp .eq 7, 3), (17, .iload_n 2, 1), (18, .iconst 1, 1), (19, .isub, 1), (20, .ireturn, 1), (21, .iload_n 2, 1), (22, .ireturn, 1)]
theorem kJ9_floorDiv_ok : dk_chk (cJ9_floorDiv).data.toList 0 kJ9_floorDiv = true := by decide +kernel
def mJ9_floorDiv : Mu := (yJ9_floorDiv, cJ9_floorDiv, 3, (Option.some Jvm.ClassFile.FieldType.int), [], 0)
theorem dJ9_floorDiv (j : Nat) {p n : Nat} {i : Instr} (hj : kJ9_floorDiv[j]? = some (p, i, n)) (hs : dk_sw i = false) : decode (mC mJ9_floorDiv) p = .ok (i, n) := dk_get kJ9_floorDiv 0 kJ9_floorDiv_ok j p i n hj hs
theorem wJ9_floorDiv : mW mJ9_floorDiv ∈ lw_all := q3220
theorem lJ9_floorDiv : ((parseMethodDescriptor (mY mJ9_floorDiv).desc).map fun q => q.parameters.length) = some 2 := by decide +kernel
def kJ9_floorMod : List (Nat × Instr × Nat) := [(0, .iload_n 0, 1), (1, .iload_n 1, 1), (2, .irem, 1), (3, .istore_n 2, 1), (4, .iload_n 0, 1), (5, .iload_n 1, 1), (6, .ixor, 1), (7, .ifCond .ge 11, 3), (10, .iload_n 2, 1), (11, .ifCond .eq 7, 3), (14, .iload_n 2, 1), (15, .iload_n 1, 1), (16, .iadd, 1), (17, .ireturn, 1), (18, .iload_n 2, 1), (19, .ireturn, 1)]
theorem kJ9_floorMod_ok : dk_chk (cJ9_floorMod).data.toList 0 kJ9_floorMod = true := by decide +kernel
def mJ9_floorMod : Mu := (yJ9_floorMod, cJ9_floorMod, 3, (Option.some Jvm.ClassFile.FieldType.int), [], 0)
theorem dJ9_floorMod (j : Nat) {p n : Nat} {i : Instr} (hj : kJ9_floorMod[j]? = some (p, i, n)) (hs : dk_sw i = false) : decode (mC mJ9_floorMod) p = .ok (i, n) := dk_get kJ9_floorMod 0 kJ9_floorMod_ok j p i n hj hs
theorem wJ9_floorMod : mW mJ9_floorMod ∈ lw_all := q3223
theorem lJ9_floorMod : ((parseMethodDescriptor (mY mJ9_floorMod).desc).map fun q => q.parameters.length) = some 2 := by decide +kernel
def kJ9_abs : List (Nat × Instr × Nat) := [(0, .lload_n 0, 1), (1, .lconst 0, 1), (2, .lcmp, 1), (3, .ifCond .ge 8, 3), (6, .lload_n 0, 1), (7, .lneg, 1), (8, .goto 4, 3), (11, .lload_n 0, 1), (12, .lreturn, 1)]
theorem kJ9_abs_ok : dk_chk (cJ9_abs).data.toList 0 kJ9_abs = true := by decide +kernel
def mJ9_abs : Mu := (yJ9_abs, cJ9_abs, 2, (Option.some Jvm.ClassFile.FieldType.long), [], 0)
theorem dJ9_abs (j : Nat) {p n : Nat} {i : Instr} (hj : kJ9_abs[j]? = some (p, i, n)) (hs : dk_sw i = false) : decode (mC mJ9_abs) p = .ok (i, n) := dk_get kJ9_abs 0 kJ9_abs_ok j p i n hj hs
theorem wJ9_abs : mW mJ9_abs ∈ lw_all := q3382
theorem lJ9_abs : ((parseMethodDescriptor (mY mJ9_abs).desc).map fun q => q.parameters.length) = some 1 := by decide +kernel
