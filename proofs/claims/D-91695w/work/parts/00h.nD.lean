/-! methods: names, decode rows: by program out of claim/names -/
set_option maxRecDepth 100000
abbrev cJ0_copyOf : ByteArray := prog_27_method_121_code
def yJ0_copyOf : MethodName := ⟨RJ0, "copyOf", "([BI)[B"⟩
def dkwJ0_copyOf_1 : List UInt8 := [27, 184, 1, 48, 184, 0, 150, 44, 176]
abbrev dktJ0_copyOf_1 : List UInt8 := dkwJ0_copyOf_1 ++ []
def dkwJ0_copyOf_0 : List UInt8 := [27, 42, 190, 160, 0, 11, 42, 182, 1, 54, 192, 1, 55, 176, 27, 188, 8, 77, 42, 3, 44, 3, 42, 190]
abbrev dktJ0_copyOf_0 : List UInt8 := dkwJ0_copyOf_0 ++ dktJ0_copyOf_1
theorem dksJ0_copyOf_0 : cJ0_copyOf.data.toList.drop 0 = dktJ0_copyOf_0 := by decide +kernel
theorem dksJ0_copyOf_1 : cJ0_copyOf.data.toList.drop 24 = dktJ0_copyOf_1 := dk_seg dksJ0_copyOf_0 24 rfl rfl
theorem dJ0_copyOf_0 : decode cJ0_copyOf 0 = .ok (.iload_n 1, 1) := dk_27 (dk_at dksJ0_copyOf_0 0 rfl rfl)
theorem dJ0_copyOf_1 : decode cJ0_copyOf 1 = .ok (.aload_n 0, 1) := dk_42 (dk_at dksJ0_copyOf_0 1 rfl rfl)
theorem dJ0_copyOf_2 : decode cJ0_copyOf 2 = .ok (.arraylength, 1) := dk_190 (dk_at dksJ0_copyOf_0 2 rfl rfl)
theorem dJ0_copyOf_3 : decode cJ0_copyOf 3 = .ok (.if_icmp .ne 11, 3) := dk_160 0 11 (dk_at dksJ0_copyOf_0 3 rfl rfl)
theorem dJ0_copyOf_6 : decode cJ0_copyOf 6 = .ok (.aload_n 0, 1) := dk_42 (dk_at dksJ0_copyOf_0 6 rfl rfl)
theorem dJ0_copyOf_7 : decode cJ0_copyOf 7 = .ok (.invokevirtual 310, 3) := dk_182 1 54 (dk_at dksJ0_copyOf_0 7 rfl rfl)
theorem dJ0_copyOf_10 : decode cJ0_copyOf 10 = .ok (.checkcast 311, 3) := dk_192 1 55 (dk_at dksJ0_copyOf_0 10 rfl rfl)
theorem dJ0_copyOf_13 : decode cJ0_copyOf 13 = .ok (.areturn, 1) := dk_176 (dk_at dksJ0_copyOf_0 13 rfl rfl)
theorem dJ0_copyOf_14 : decode cJ0_copyOf 14 = .ok (.iload_n 1, 1) := dk_27 (dk_at dksJ0_copyOf_0 14 rfl rfl)
theorem dJ0_copyOf_15 : decode cJ0_copyOf 15 = .ok (.newarray .byte, 2) := dk_188_8 (dk_at dksJ0_copyOf_0 15 rfl rfl)
theorem dJ0_copyOf_17 : decode cJ0_copyOf 17 = .ok (.astore_n 2, 1) := dk_77 (dk_at dksJ0_copyOf_0 17 rfl rfl)
theorem dJ0_copyOf_18 : decode cJ0_copyOf 18 = .ok (.aload_n 0, 1) := dk_42 (dk_at dksJ0_copyOf_0 18 rfl rfl)
theorem dJ0_copyOf_19 : decode cJ0_copyOf 19 = .ok (.iconst 0, 1) := dk_3 (dk_at dksJ0_copyOf_0 19 rfl rfl)
theorem dJ0_copyOf_20 : decode cJ0_copyOf 20 = .ok (.aload_n 2, 1) := dk_44 (dk_at dksJ0_copyOf_0 20 rfl rfl)
theorem dJ0_copyOf_21 : decode cJ0_copyOf 21 = .ok (.iconst 0, 1) := dk_3 (dk_at dksJ0_copyOf_0 21 rfl rfl)
theorem dJ0_copyOf_22 : decode cJ0_copyOf 22 = .ok (.aload_n 0, 1) := dk_42 (dk_at dksJ0_copyOf_0 22 rfl rfl)
theorem dJ0_copyOf_23 : decode cJ0_copyOf 23 = .ok (.arraylength, 1) := dk_190 (dk_at dksJ0_copyOf_0 23 rfl rfl)
theorem dJ0_copyOf_24 : decode cJ0_copyOf 24 = .ok (.iload_n 1, 1) := dk_27 (dk_at dksJ0_copyOf_1 0 rfl rfl)
theorem dJ0_copyOf_25 : decode cJ0_copyOf 25 = .ok (.invokestatic 304, 3) := dk_184 1 48 (dk_at dksJ0_copyOf_1 1 rfl rfl)
theorem dJ0_copyOf_28 : decode cJ0_copyOf 28 = .ok (.invokestatic 150, 3) := dk_184 0 150 (dk_at dksJ0_copyOf_1 4 rfl rfl)
theorem dJ0_copyOf_31 : decode cJ0_copyOf 31 = .ok (.aload_n 2, 1) := dk_44 (dk_at dksJ0_copyOf_1 7 rfl rfl)
theorem dJ0_copyOf_32 : decode cJ0_copyOf 32 = .ok (.areturn, 1) := dk_176 (dk_at dksJ0_copyOf_1 8 rfl rfl)
abbrev cJ0_copyOfRange : ByteArray := prog_27_method_132_code
def yJ0_copyOfRange : MethodName := ⟨RJ0, "copyOfRange", "([BII)[B"⟩
def dkwJ0_copyOfRange_1 : List UInt8 := [176]
abbrev dktJ0_copyOfRange_1 : List UInt8 := dkwJ0_copyOfRange_1 ++ []
def dkwJ0_copyOfRange_0 : List UInt8 := [27, 154, 0, 9, 28, 42, 190, 159, 0, 10, 42, 27, 28, 184, 1, 83, 176, 42, 182, 1, 54, 192, 1, 55]
abbrev dktJ0_copyOfRange_0 : List UInt8 := dkwJ0_copyOfRange_0 ++ dktJ0_copyOfRange_1
theorem dksJ0_copyOfRange_0 : cJ0_copyOfRange.data.toList.drop 0 = dktJ0_copyOfRange_0 := by decide +kernel
theorem dksJ0_copyOfRange_1 : cJ0_copyOfRange.data.toList.drop 24 = dktJ0_copyOfRange_1 := dk_seg dksJ0_copyOfRange_0 24 rfl rfl
theorem dJ0_copyOfRange_0 : decode cJ0_copyOfRange 0 = .ok (.iload_n 1, 1) := dk_27 (dk_at dksJ0_copyOfRange_0 0 rfl rfl)
theorem dJ0_copyOfRange_1 : decode cJ0_copyOfRange 1 = .ok (.ifCond .ne 9, 3) := dk_154 0 9 (dk_at dksJ0_copyOfRange_0 1 rfl rfl)
theorem dJ0_copyOfRange_4 : decode cJ0_copyOfRange 4 = .ok (.iload_n 2, 1) := dk_28 (dk_at dksJ0_copyOfRange_0 4 rfl rfl)
theorem dJ0_copyOfRange_5 : decode cJ0_copyOfRange 5 = .ok (.aload_n 0, 1) := dk_42 (dk_at dksJ0_copyOfRange_0 5 rfl rfl)
theorem dJ0_copyOfRange_6 : decode cJ0_copyOfRange 6 = .ok (.arraylength, 1) := dk_190 (dk_at dksJ0_copyOfRange_0 6 rfl rfl)
theorem dJ0_copyOfRange_7 : decode cJ0_copyOfRange 7 = .ok (.if_icmp .eq 10, 3) := dk_159 0 10 (dk_at dksJ0_copyOfRange_0 7 rfl rfl)
theorem dJ0_copyOfRange_10 : decode cJ0_copyOfRange 10 = .ok (.aload_n 0, 1) := dk_42 (dk_at dksJ0_copyOfRange_0 10 rfl rfl)
theorem dJ0_copyOfRange_11 : decode cJ0_copyOfRange 11 = .ok (.iload_n 1, 1) := dk_27 (dk_at dksJ0_copyOfRange_0 11 rfl rfl)
theorem dJ0_copyOfRange_12 : decode cJ0_copyOfRange 12 = .ok (.iload_n 2, 1) := dk_28 (dk_at dksJ0_copyOfRange_0 12 rfl rfl)
theorem dJ0_copyOfRange_13 : decode cJ0_copyOfRange 13 = .ok (.invokestatic 339, 3) := dk_184 1 83 (dk_at dksJ0_copyOfRange_0 13 rfl rfl)
theorem dJ0_copyOfRange_16 : decode cJ0_copyOfRange 16 = .ok (.areturn, 1) := dk_176 (dk_at dksJ0_copyOfRange_0 16 rfl rfl)
theorem dJ0_copyOfRange_17 : decode cJ0_copyOfRange 17 = .ok (.aload_n 0, 1) := dk_42 (dk_at dksJ0_copyOfRange_0 17 rfl rfl)
theorem dJ0_copyOfRange_18 : decode cJ0_copyOfRange 18 = .ok (.invokevirtual 310, 3) := dk_182 1 54 (dk_at dksJ0_copyOfRange_0 18 rfl rfl)
theorem dJ0_copyOfRange_21 : decode cJ0_copyOfRange 21 = .ok (.checkcast 311, 3) := dk_192 1 55 (dk_at dksJ0_copyOfRange_0 21 rfl rfl)
theorem dJ0_copyOfRange_24 : decode cJ0_copyOfRange 24 = .ok (.areturn, 1) := dk_176 (dk_at dksJ0_copyOfRange_1 0 rfl rfl)
abbrev cJ0_copyOfRangeByte : ByteArray := prog_27_method_133_code
def yJ0_copyOfRangeByte : MethodName := ⟨RJ0, "copyOfRangeByte", "([BII)[B"⟩
def dkwJ0_copyOfRangeByte_1 : List UInt8 := [184, 1, 48, 184, 0, 150, 25, 4, 176]
abbrev dktJ0_copyOfRangeByte_1 : List UInt8 := dkwJ0_copyOfRangeByte_1 ++ []
def dkwJ0_copyOfRangeByte_0 : List UInt8 := [27, 28, 184, 1, 87, 28, 27, 100, 62, 29, 188, 8, 58, 4, 42, 27, 25, 4, 3, 42, 190, 27, 100, 29]
abbrev dktJ0_copyOfRangeByte_0 : List UInt8 := dkwJ0_copyOfRangeByte_0 ++ dktJ0_copyOfRangeByte_1
theorem dksJ0_copyOfRangeByte_0 : cJ0_copyOfRangeByte.data.toList.drop 0 = dktJ0_copyOfRangeByte_0 := by decide +kernel
theorem dksJ0_copyOfRangeByte_1 : cJ0_copyOfRangeByte.data.toList.drop 24 = dktJ0_copyOfRangeByte_1 := dk_seg dksJ0_copyOfRangeByte_0 24 rfl rfl
theorem dJ0_copyOfRangeByte_0 : decode cJ0_copyOfRangeByte 0 = .ok (.iload_n 1, 1) := dk_27 (dk_at dksJ0_copyOfRangeByte_0 0 rfl rfl)
theorem dJ0_copyOfRangeByte_1 : decode cJ0_copyOfRangeByte 1 = .ok (.iload_n 2, 1) := dk_28 (dk_at dksJ0_copyOfRangeByte_0 1 rfl rfl)
theorem dJ0_copyOfRangeByte_2 : decode cJ0_copyOfRangeByte 2 = .ok (.invokestatic 343, 3) := dk_184 1 87 (dk_at dksJ0_copyOfRangeByte_0 2 rfl rfl)
theorem dJ0_copyOfRangeByte_5 : decode cJ0_copyOfRangeByte 5 = .ok (.iload_n 2, 1) := dk_28 (dk_at dksJ0_copyOfRangeByte_0 5 rfl rfl)
theorem dJ0_copyOfRangeByte_6 : decode cJ0_copyOfRangeByte 6 = .ok (.iload_n 1, 1) := dk_27 (dk_at dksJ0_copyOfRangeByte_0 6 rfl rfl)
theorem dJ0_copyOfRangeByte_7 : decode cJ0_copyOfRangeByte 7 = .ok (.isub, 1) := dk_100 (dk_at dksJ0_copyOfRangeByte_0 7 rfl rfl)
theorem dJ0_copyOfRangeByte_8 : decode cJ0_copyOfRangeByte 8 = .ok (.istore_n 3, 1) := dk_62 (dk_at dksJ0_copyOfRangeByte_0 8 rfl rfl)
theorem dJ0_copyOfRangeByte_9 : decode cJ0_copyOfRangeByte 9 = .ok (.iload_n 3, 1) := dk_29 (dk_at dksJ0_copyOfRangeByte_0 9 rfl rfl)
theorem dJ0_copyOfRangeByte_10 : decode cJ0_copyOfRangeByte 10 = .ok (.newarray .byte, 2) := dk_188_8 (dk_at dksJ0_copyOfRangeByte_0 10 rfl rfl)
theorem dJ0_copyOfRangeByte_12 : decode cJ0_copyOfRangeByte 12 = .ok (.astore 4, 2) := dk_58 4 (dk_at dksJ0_copyOfRangeByte_0 12 rfl rfl)
theorem dJ0_copyOfRangeByte_14 : decode cJ0_copyOfRangeByte 14 = .ok (.aload_n 0, 1) := dk_42 (dk_at dksJ0_copyOfRangeByte_0 14 rfl rfl)
theorem dJ0_copyOfRangeByte_15 : decode cJ0_copyOfRangeByte 15 = .ok (.iload_n 1, 1) := dk_27 (dk_at dksJ0_copyOfRangeByte_0 15 rfl rfl)
theorem dJ0_copyOfRangeByte_16 : decode cJ0_copyOfRangeByte 16 = .ok (.aload 4, 2) := dk_25 4 (dk_at dksJ0_copyOfRangeByte_0 16 rfl rfl)
theorem dJ0_copyOfRangeByte_18 : decode cJ0_copyOfRangeByte 18 = .ok (.iconst 0, 1) := dk_3 (dk_at dksJ0_copyOfRangeByte_0 18 rfl rfl)
theorem dJ0_copyOfRangeByte_19 : decode cJ0_copyOfRangeByte 19 = .ok (.aload_n 0, 1) := dk_42 (dk_at dksJ0_copyOfRangeByte_0 19 rfl rfl)
theorem dJ0_copyOfRangeByte_20 : decode cJ0_copyOfRangeByte 20 = .ok (.arraylength, 1) := dk_190 (dk_at dksJ0_copyOfRangeByte_0 20 rfl rfl)
theorem dJ0_copyOfRangeByte_21 : decode cJ0_copyOfRangeByte 21 = .ok (.iload_n 1, 1) := dk_27 (dk_at dksJ0_copyOfRangeByte_0 21 rfl rfl)
theorem dJ0_copyOfRangeByte_22 : decode cJ0_copyOfRangeByte 22 = .ok (.isub, 1) := dk_100 (dk_at dksJ0_copyOfRangeByte_0 22 rfl rfl)
theorem dJ0_copyOfRangeByte_23 : decode cJ0_copyOfRangeByte 23 = .ok (.iload_n 3, 1) := dk_29 (dk_at dksJ0_copyOfRangeByte_0 23 rfl rfl)
theorem dJ0_copyOfRangeByte_24 : decode cJ0_copyOfRangeByte 24 = .ok (.invokestatic 304, 3) := dk_184 1 48 (dk_at dksJ0_copyOfRangeByte_1 0 rfl rfl)
theorem dJ0_copyOfRangeByte_27 : decode cJ0_copyOfRangeByte 27 = .ok (.invokestatic 150, 3) := dk_184 0 150 (dk_at dksJ0_copyOfRangeByte_1 3 rfl rfl)
theorem dJ0_copyOfRangeByte_30 : decode cJ0_copyOfRangeByte 30 = .ok (.aload 4, 2) := dk_25 4 (dk_at dksJ0_copyOfRangeByte_1 6 rfl rfl)
theorem dJ0_copyOfRangeByte_32 : decode cJ0_copyOfRangeByte 32 = .ok (.areturn, 1) := dk_176 (dk_at dksJ0_copyOfRangeByte_1 8 rfl rfl)
abbrev cJ0_checkLength : ByteArray := prog_27_method_131_code
def yJ0_checkLength : MethodName := ⟨RJ0, "checkLength", "(II)V"⟩
def dkwJ0_checkLength_1 : List UInt8 := [182, 0, 50, 27, 182, 0, 54, 182, 0, 61, 183, 0, 65, 191, 177]
abbrev dktJ0_checkLength_1 : List UInt8 := dkwJ0_checkLength_1 ++ []
def dkwJ0_checkLength_0 : List UInt8 := [27, 26, 162, 0, 35, 187, 0, 43, 89, 187, 0, 45, 89, 183, 0, 47, 26, 182, 0, 54, 19, 1, 81]
abbrev dktJ0_checkLength_0 : List UInt8 := dkwJ0_checkLength_0 ++ dktJ0_checkLength_1
theorem dksJ0_checkLength_0 : cJ0_checkLength.data.toList.drop 0 = dktJ0_checkLength_0 := by decide +kernel
theorem dksJ0_checkLength_1 : cJ0_checkLength.data.toList.drop 23 = dktJ0_checkLength_1 := dk_seg dksJ0_checkLength_0 23 rfl rfl
theorem dJ0_checkLength_0 : decode cJ0_checkLength 0 = .ok (.iload_n 1, 1) := dk_27 (dk_at dksJ0_checkLength_0 0 rfl rfl)
theorem dJ0_checkLength_1 : decode cJ0_checkLength 1 = .ok (.iload_n 0, 1) := dk_26 (dk_at dksJ0_checkLength_0 1 rfl rfl)
theorem dJ0_checkLength_2 : decode cJ0_checkLength 2 = .ok (.if_icmp .ge 35, 3) := dk_162 0 35 (dk_at dksJ0_checkLength_0 2 rfl rfl)
theorem dJ0_checkLength_5 : decode cJ0_checkLength 5 = .ok (.new 43, 3) := dk_187 0 43 (dk_at dksJ0_checkLength_0 5 rfl rfl)
theorem dJ0_checkLength_8 : decode cJ0_checkLength 8 = .ok (.dup, 1) := dk_89 (dk_at dksJ0_checkLength_0 8 rfl rfl)
theorem dJ0_checkLength_9 : decode cJ0_checkLength 9 = .ok (.new 45, 3) := dk_187 0 45 (dk_at dksJ0_checkLength_0 9 rfl rfl)
theorem dJ0_checkLength_12 : decode cJ0_checkLength 12 = .ok (.dup, 1) := dk_89 (dk_at dksJ0_checkLength_0 12 rfl rfl)
theorem dJ0_checkLength_13 : decode cJ0_checkLength 13 = .ok (.invokespecial 47, 3) := dk_183 0 47 (dk_at dksJ0_checkLength_0 13 rfl rfl)
theorem dJ0_checkLength_16 : decode cJ0_checkLength 16 = .ok (.iload_n 0, 1) := dk_26 (dk_at dksJ0_checkLength_0 16 rfl rfl)
theorem dJ0_checkLength_17 : decode cJ0_checkLength 17 = .ok (.invokevirtual 54, 3) := dk_182 0 54 (dk_at dksJ0_checkLength_0 17 rfl rfl)
theorem dJ0_checkLength_20 : decode cJ0_checkLength 20 = .ok (.ldc_w 337, 3) := dk_19 1 81 (dk_at dksJ0_checkLength_0 20 rfl rfl)
theorem dJ0_checkLength_23 : decode cJ0_checkLength 23 = .ok (.invokevirtual 50, 3) := dk_182 0 50 (dk_at dksJ0_checkLength_1 0 rfl rfl)
theorem dJ0_checkLength_26 : decode cJ0_checkLength 26 = .ok (.iload_n 1, 1) := dk_27 (dk_at dksJ0_checkLength_1 3 rfl rfl)
theorem dJ0_checkLength_27 : decode cJ0_checkLength 27 = .ok (.invokevirtual 54, 3) := dk_182 0 54 (dk_at dksJ0_checkLength_1 4 rfl rfl)
theorem dJ0_checkLength_30 : decode cJ0_checkLength 30 = .ok (.invokevirtual 61, 3) := dk_182 0 61 (dk_at dksJ0_checkLength_1 7 rfl rfl)
theorem dJ0_checkLength_33 : decode cJ0_checkLength 33 = .ok (.invokespecial 65, 3) := dk_183 0 65 (dk_at dksJ0_checkLength_1 10 rfl rfl)
theorem dJ0_checkLength_36 : decode cJ0_checkLength 36 = .ok (.athrow, 1) := dk_191 (dk_at dksJ0_checkLength_1 13 rfl rfl)
theorem dJ0_checkLength_37 : decode cJ0_checkLength 37 = .ok (.return_, 1) := dk_177 (dk_at dksJ0_checkLength_1 14 rfl rfl)
abbrev cJ0_fill : ByteArray := prog_27_method_103_code
def yJ0_fill : MethodName := ⟨RJ0, "fill", "([II)V"⟩
def dkwJ0_fill_0 : List UInt8 := [3, 61, 42, 190, 62, 28, 29, 162, 0, 13, 42, 28, 27, 79, 132, 2, 1, 167, 255, 244, 177]
abbrev dktJ0_fill_0 : List UInt8 := dkwJ0_fill_0 ++ []
theorem dksJ0_fill_0 : cJ0_fill.data.toList.drop 0 = dktJ0_fill_0 := by decide +kernel
theorem dJ0_fill_0 : decode cJ0_fill 0 = .ok (.iconst 0, 1) := dk_3 (dk_at dksJ0_fill_0 0 rfl rfl)
theorem dJ0_fill_1 : decode cJ0_fill 1 = .ok (.istore_n 2, 1) := dk_61 (dk_at dksJ0_fill_0 1 rfl rfl)
theorem dJ0_fill_2 : decode cJ0_fill 2 = .ok (.aload_n 0, 1) := dk_42 (dk_at dksJ0_fill_0 2 rfl rfl)
theorem dJ0_fill_3 : decode cJ0_fill 3 = .ok (.arraylength, 1) := dk_190 (dk_at dksJ0_fill_0 3 rfl rfl)
theorem dJ0_fill_4 : decode cJ0_fill 4 = .ok (.istore_n 3, 1) := dk_62 (dk_at dksJ0_fill_0 4 rfl rfl)
theorem dJ0_fill_5 : decode cJ0_fill 5 = .ok (.iload_n 2, 1) := dk_28 (dk_at dksJ0_fill_0 5 rfl rfl)
theorem dJ0_fill_6 : decode cJ0_fill 6 = .ok (.iload_n 3, 1) := dk_29 (dk_at dksJ0_fill_0 6 rfl rfl)
theorem dJ0_fill_7 : decode cJ0_fill 7 = .ok (.if_icmp .ge 13, 3) := dk_162 0 13 (dk_at dksJ0_fill_0 7 rfl rfl)
theorem dJ0_fill_10 : decode cJ0_fill 10 = .ok (.aload_n 0, 1) := dk_42 (dk_at dksJ0_fill_0 10 rfl rfl)
theorem dJ0_fill_11 : decode cJ0_fill 11 = .ok (.iload_n 2, 1) := dk_28 (dk_at dksJ0_fill_0 11 rfl rfl)
theorem dJ0_fill_12 : decode cJ0_fill 12 = .ok (.iload_n 1, 1) := dk_27 (dk_at dksJ0_fill_0 12 rfl rfl)
theorem dJ0_fill_13 : decode cJ0_fill 13 = .ok (.iastore, 1) := dk_79 (dk_at dksJ0_fill_0 13 rfl rfl)
theorem dJ0_fill_14 : decode cJ0_fill 14 = .ok (.iinc 2 1, 3) := dk_132 2 1 (dk_at dksJ0_fill_0 14 rfl rfl)
theorem dJ0_fill_17 : decode cJ0_fill 17 = .ok (.goto (-12), 3) := dk_167 255 244 (dk_at dksJ0_fill_0 17 rfl rfl)
theorem dJ0_fill_20 : decode cJ0_fill 20 = .ok (.return_, 1) := dk_177 (dk_at dksJ0_fill_0 20 rfl rfl)
abbrev cJ0_fill_2 : ByteArray := prog_27_method_109_code
def yJ0_fill_2 : MethodName := ⟨RJ0, "fill", "([BB)V"⟩
def dkwJ0_fill_2_0 : List UInt8 := [3, 61, 42, 190, 62, 28, 29, 162, 0, 13, 42, 28, 27, 84, 132, 2, 1, 167, 255, 244, 177]
abbrev dktJ0_fill_2_0 : List UInt8 := dkwJ0_fill_2_0 ++ []
theorem dksJ0_fill_2_0 : cJ0_fill_2.data.toList.drop 0 = dktJ0_fill_2_0 := by decide +kernel
theorem dJ0_fill_2_0 : decode cJ0_fill_2 0 = .ok (.iconst 0, 1) := dk_3 (dk_at dksJ0_fill_2_0 0 rfl rfl)
theorem dJ0_fill_2_1 : decode cJ0_fill_2 1 = .ok (.istore_n 2, 1) := dk_61 (dk_at dksJ0_fill_2_0 1 rfl rfl)
theorem dJ0_fill_2_2 : decode cJ0_fill_2 2 = .ok (.aload_n 0, 1) := dk_42 (dk_at dksJ0_fill_2_0 2 rfl rfl)
theorem dJ0_fill_2_3 : decode cJ0_fill_2 3 = .ok (.arraylength, 1) := dk_190 (dk_at dksJ0_fill_2_0 3 rfl rfl)
theorem dJ0_fill_2_4 : decode cJ0_fill_2 4 = .ok (.istore_n 3, 1) := dk_62 (dk_at dksJ0_fill_2_0 4 rfl rfl)
theorem dJ0_fill_2_5 : decode cJ0_fill_2 5 = .ok (.iload_n 2, 1) := dk_28 (dk_at dksJ0_fill_2_0 5 rfl rfl)
theorem dJ0_fill_2_6 : decode cJ0_fill_2 6 = .ok (.iload_n 3, 1) := dk_29 (dk_at dksJ0_fill_2_0 6 rfl rfl)
theorem dJ0_fill_2_7 : decode cJ0_fill_2 7 = .ok (.if_icmp .ge 13, 3) := dk_162 0 13 (dk_at dksJ0_fill_2_0 7 rfl rfl)
theorem dJ0_fill_2_10 : decode cJ0_fill_2 10 = .ok (.aload_n 0, 1) := dk_42 (dk_at dksJ0_fill_2_0 10 rfl rfl)
theorem dJ0_fill_2_11 : decode cJ0_fill_2 11 = .ok (.iload_n 2, 1) := dk_28 (dk_at dksJ0_fill_2_0 11 rfl rfl)
theorem dJ0_fill_2_12 : decode cJ0_fill_2 12 = .ok (.iload_n 1, 1) := dk_27 (dk_at dksJ0_fill_2_0 12 rfl rfl)
theorem dJ0_fill_2_13 : decode cJ0_fill_2 13 = .ok (.bastore, 1) := dk_84 (dk_at dksJ0_fill_2_0 13 rfl rfl)
theorem dJ0_fill_2_14 : decode cJ0_fill_2 14 = .ok (.iinc 2 1, 3) := dk_132 2 1 (dk_at dksJ0_fill_2_0 14 rfl rfl)
theorem dJ0_fill_2_17 : decode cJ0_fill_2 17 = .ok (.goto (-12), 3) := dk_167 255 244 (dk_at dksJ0_fill_2_0 17 rfl rfl)
theorem dJ0_fill_2_20 : decode cJ0_fill_2 20 = .ok (.return_, 1) := dk_177 (dk_at dksJ0_fill_2_0 20 rfl rfl)
abbrev cJ11_canEncode : ByteArray := prog_23_method_3_code
def yJ11_canEncode : MethodName := ⟨RJ11, "canEncode", "(C)Z"⟩
def dkwJ11_canEncode_0 : List UInt8 := [26, 17, 0, 255, 163, 0, 7, 4, 167, 0, 4, 3, 172]
abbrev dktJ11_canEncode_0 : List UInt8 := dkwJ11_canEncode_0 ++ []
theorem dksJ11_canEncode_0 : cJ11_canEncode.data.toList.drop 0 = dktJ11_canEncode_0 := by decide +kernel
theorem dJ11_canEncode_0 : decode cJ11_canEncode 0 = .ok (.iload_n 0, 1) := dk_26 (dk_at dksJ11_canEncode_0 0 rfl rfl)
theorem dJ11_canEncode_1 : decode cJ11_canEncode 1 = .ok (.sipush 255, 3) := dk_17 0 255 (dk_at dksJ11_canEncode_0 1 rfl rfl)
theorem dJ11_canEncode_4 : decode cJ11_canEncode 4 = .ok (.if_icmp .gt 7, 3) := dk_163 0 7 (dk_at dksJ11_canEncode_0 4 rfl rfl)
theorem dJ11_canEncode_7 : decode cJ11_canEncode 7 = .ok (.iconst 1, 1) := dk_4 (dk_at dksJ11_canEncode_0 7 rfl rfl)
theorem dJ11_canEncode_8 : decode cJ11_canEncode 8 = .ok (.goto 4, 3) := dk_167 0 4 (dk_at dksJ11_canEncode_0 8 rfl rfl)
theorem dJ11_canEncode_11 : decode cJ11_canEncode 11 = .ok (.iconst 0, 1) := dk_3 (dk_at dksJ11_canEncode_0 11 rfl rfl)
theorem dJ11_canEncode_12 : decode cJ11_canEncode 12 = .ok (.ireturn, 1) := dk_172 (dk_at dksJ11_canEncode_0 12 rfl rfl)
abbrev cJ11_equals : ByteArray := prog_23_method_13_code
def yJ11_equals : MethodName := ⟨RJ11, "equals", "([B[B)Z"⟩
def dkwJ11_equals_1 : List UInt8 := [3, 172, 132, 2, 1, 167, 255, 236, 4, 172, 3, 172]
abbrev dktJ11_equals_1 : List UInt8 := dkwJ11_equals_1 ++ []
def dkwJ11_equals_0 : List UInt8 := [42, 190, 43, 190, 160, 0, 30, 3, 61, 28, 42, 190, 162, 0, 20, 42, 28, 51, 43, 28, 51, 159, 0, 5]
abbrev dktJ11_equals_0 : List UInt8 := dkwJ11_equals_0 ++ dktJ11_equals_1
theorem dksJ11_equals_0 : cJ11_equals.data.toList.drop 0 = dktJ11_equals_0 := by decide +kernel
theorem dksJ11_equals_1 : cJ11_equals.data.toList.drop 24 = dktJ11_equals_1 := dk_seg dksJ11_equals_0 24 rfl rfl
theorem dJ11_equals_0 : decode cJ11_equals 0 = .ok (.aload_n 0, 1) := dk_42 (dk_at dksJ11_equals_0 0 rfl rfl)
theorem dJ11_equals_1 : decode cJ11_equals 1 = .ok (.arraylength, 1) := dk_190 (dk_at dksJ11_equals_0 1 rfl rfl)
theorem dJ11_equals_2 : decode cJ11_equals 2 = .ok (.aload_n 1, 1) := dk_43 (dk_at dksJ11_equals_0 2 rfl rfl)
theorem dJ11_equals_3 : decode cJ11_equals 3 = .ok (.arraylength, 1) := dk_190 (dk_at dksJ11_equals_0 3 rfl rfl)
theorem dJ11_equals_4 : decode cJ11_equals 4 = .ok (.if_icmp .ne 30, 3) := dk_160 0 30 (dk_at dksJ11_equals_0 4 rfl rfl)
theorem dJ11_equals_7 : decode cJ11_equals 7 = .ok (.iconst 0, 1) := dk_3 (dk_at dksJ11_equals_0 7 rfl rfl)
theorem dJ11_equals_8 : decode cJ11_equals 8 = .ok (.istore_n 2, 1) := dk_61 (dk_at dksJ11_equals_0 8 rfl rfl)
theorem dJ11_equals_9 : decode cJ11_equals 9 = .ok (.iload_n 2, 1) := dk_28 (dk_at dksJ11_equals_0 9 rfl rfl)
theorem dJ11_equals_10 : decode cJ11_equals 10 = .ok (.aload_n 0, 1) := dk_42 (dk_at dksJ11_equals_0 10 rfl rfl)
theorem dJ11_equals_11 : decode cJ11_equals 11 = .ok (.arraylength, 1) := dk_190 (dk_at dksJ11_equals_0 11 rfl rfl)
theorem dJ11_equals_12 : decode cJ11_equals 12 = .ok (.if_icmp .ge 20, 3) := dk_162 0 20 (dk_at dksJ11_equals_0 12 rfl rfl)
theorem dJ11_equals_15 : decode cJ11_equals 15 = .ok (.aload_n 0, 1) := dk_42 (dk_at dksJ11_equals_0 15 rfl rfl)
theorem dJ11_equals_16 : decode cJ11_equals 16 = .ok (.iload_n 2, 1) := dk_28 (dk_at dksJ11_equals_0 16 rfl rfl)
theorem dJ11_equals_17 : decode cJ11_equals 17 = .ok (.baload, 1) := dk_51 (dk_at dksJ11_equals_0 17 rfl rfl)
theorem dJ11_equals_18 : decode cJ11_equals 18 = .ok (.aload_n 1, 1) := dk_43 (dk_at dksJ11_equals_0 18 rfl rfl)
theorem dJ11_equals_19 : decode cJ11_equals 19 = .ok (.iload_n 2, 1) := dk_28 (dk_at dksJ11_equals_0 19 rfl rfl)
theorem dJ11_equals_20 : decode cJ11_equals 20 = .ok (.baload, 1) := dk_51 (dk_at dksJ11_equals_0 20 rfl rfl)
theorem dJ11_equals_21 : decode cJ11_equals 21 = .ok (.if_icmp .eq 5, 3) := dk_159 0 5 (dk_at dksJ11_equals_0 21 rfl rfl)
theorem dJ11_equals_24 : decode cJ11_equals 24 = .ok (.iconst 0, 1) := dk_3 (dk_at dksJ11_equals_1 0 rfl rfl)
theorem dJ11_equals_25 : decode cJ11_equals 25 = .ok (.ireturn, 1) := dk_172 (dk_at dksJ11_equals_1 1 rfl rfl)
theorem dJ11_equals_26 : decode cJ11_equals 26 = .ok (.iinc 2 1, 3) := dk_132 2 1 (dk_at dksJ11_equals_1 2 rfl rfl)
theorem dJ11_equals_29 : decode cJ11_equals 29 = .ok (.goto (-20), 3) := dk_167 255 236 (dk_at dksJ11_equals_1 5 rfl rfl)
theorem dJ11_equals_32 : decode cJ11_equals 32 = .ok (.iconst 1, 1) := dk_4 (dk_at dksJ11_equals_1 8 rfl rfl)
theorem dJ11_equals_33 : decode cJ11_equals 33 = .ok (.ireturn, 1) := dk_172 (dk_at dksJ11_equals_1 9 rfl rfl)
theorem dJ11_equals_34 : decode cJ11_equals 34 = .ok (.iconst 0, 1) := dk_3 (dk_at dksJ11_equals_1 10 rfl rfl)
theorem dJ11_equals_35 : decode cJ11_equals 35 = .ok (.ireturn, 1) := dk_172 (dk_at dksJ11_equals_1 11 rfl rfl)
abbrev cJ11_indexOf : ByteArray := prog_23_method_24_code
def yJ11_indexOf : MethodName := ⟨RJ11, "indexOf", "([B[B)I"⟩
def dkwJ11_indexOf_1 : List UInt8 := [172]
abbrev dktJ11_indexOf_1 : List UInt8 := dkwJ11_indexOf_1 ++ []
def dkwJ11_indexOf_0 : List UInt8 := [43, 190, 154, 0, 5, 3, 172, 42, 190, 154, 0, 5, 2, 172, 42, 42, 190, 43, 43, 190, 3, 184, 0, 99]
abbrev dktJ11_indexOf_0 : List UInt8 := dkwJ11_indexOf_0 ++ dktJ11_indexOf_1
theorem dksJ11_indexOf_0 : cJ11_indexOf.data.toList.drop 0 = dktJ11_indexOf_0 := by decide +kernel
theorem dksJ11_indexOf_1 : cJ11_indexOf.data.toList.drop 24 = dktJ11_indexOf_1 := dk_seg dksJ11_indexOf_0 24 rfl rfl
theorem dJ11_indexOf_0 : decode cJ11_indexOf 0 = .ok (.aload_n 1, 1) := dk_43 (dk_at dksJ11_indexOf_0 0 rfl rfl)
theorem dJ11_indexOf_1 : decode cJ11_indexOf 1 = .ok (.arraylength, 1) := dk_190 (dk_at dksJ11_indexOf_0 1 rfl rfl)
theorem dJ11_indexOf_2 : decode cJ11_indexOf 2 = .ok (.ifCond .ne 5, 3) := dk_154 0 5 (dk_at dksJ11_indexOf_0 2 rfl rfl)
theorem dJ11_indexOf_5 : decode cJ11_indexOf 5 = .ok (.iconst 0, 1) := dk_3 (dk_at dksJ11_indexOf_0 5 rfl rfl)
theorem dJ11_indexOf_6 : decode cJ11_indexOf 6 = .ok (.ireturn, 1) := dk_172 (dk_at dksJ11_indexOf_0 6 rfl rfl)
theorem dJ11_indexOf_7 : decode cJ11_indexOf 7 = .ok (.aload_n 0, 1) := dk_42 (dk_at dksJ11_indexOf_0 7 rfl rfl)
theorem dJ11_indexOf_8 : decode cJ11_indexOf 8 = .ok (.arraylength, 1) := dk_190 (dk_at dksJ11_indexOf_0 8 rfl rfl)
theorem dJ11_indexOf_9 : decode cJ11_indexOf 9 = .ok (.ifCond .ne 5, 3) := dk_154 0 5 (dk_at dksJ11_indexOf_0 9 rfl rfl)
theorem dJ11_indexOf_12 : decode cJ11_indexOf 12 = .ok (.iconst (-1), 1) := dk_2 (dk_at dksJ11_indexOf_0 12 rfl rfl)
theorem dJ11_indexOf_13 : decode cJ11_indexOf 13 = .ok (.ireturn, 1) := dk_172 (dk_at dksJ11_indexOf_0 13 rfl rfl)
theorem dJ11_indexOf_14 : decode cJ11_indexOf 14 = .ok (.aload_n 0, 1) := dk_42 (dk_at dksJ11_indexOf_0 14 rfl rfl)
theorem dJ11_indexOf_15 : decode cJ11_indexOf 15 = .ok (.aload_n 0, 1) := dk_42 (dk_at dksJ11_indexOf_0 15 rfl rfl)
theorem dJ11_indexOf_16 : decode cJ11_indexOf 16 = .ok (.arraylength, 1) := dk_190 (dk_at dksJ11_indexOf_0 16 rfl rfl)
theorem dJ11_indexOf_17 : decode cJ11_indexOf 17 = .ok (.aload_n 1, 1) := dk_43 (dk_at dksJ11_indexOf_0 17 rfl rfl)
theorem dJ11_indexOf_18 : decode cJ11_indexOf 18 = .ok (.aload_n 1, 1) := dk_43 (dk_at dksJ11_indexOf_0 18 rfl rfl)
theorem dJ11_indexOf_19 : decode cJ11_indexOf 19 = .ok (.arraylength, 1) := dk_190 (dk_at dksJ11_indexOf_0 19 rfl rfl)
theorem dJ11_indexOf_20 : decode cJ11_indexOf 20 = .ok (.iconst 0, 1) := dk_3 (dk_at dksJ11_indexOf_0 20 rfl rfl)
theorem dJ11_indexOf_21 : decode cJ11_indexOf 21 = .ok (.invokestatic 99, 3) := dk_184 0 99 (dk_at dksJ11_indexOf_0 21 rfl rfl)
theorem dJ11_indexOf_24 : decode cJ11_indexOf 24 = .ok (.ireturn, 1) := dk_172 (dk_at dksJ11_indexOf_1 0 rfl rfl)
abbrev cJ11_indexOf_2 : ByteArray := prog_23_method_25_code
def yJ11_indexOf_2 : MethodName := ⟨RJ11, "indexOf", "([BI[BII)I"⟩
def dkwJ11_indexOf_2_5 : List UInt8 := [167, 255, 154, 2, 172]
abbrev dktJ11_indexOf_2_5 : List UInt8 := dkwJ11_indexOf_2_5 ++ []
def dkwJ11_indexOf_2_4 : List UInt8 := [132, 8, 1, 132, 10, 1, 167, 255, 232, 21, 8, 21, 9, 160, 0, 6, 21, 7, 172, 132, 7, 1]
abbrev dktJ11_indexOf_2_4 : List UInt8 := dkwJ11_indexOf_2_4 ++ dktJ11_indexOf_2_5
def dkwJ11_indexOf_2_3 : List UInt8 := [100, 54, 9, 4, 54, 10, 21, 8, 21, 9, 162, 0, 23, 42, 21, 8, 51, 44, 21, 10, 51, 160, 0, 12]
abbrev dktJ11_indexOf_2_3 : List UInt8 := dkwJ11_indexOf_2_3 ++ dktJ11_indexOf_2_4
def dkwJ11_indexOf_2_2 : List UInt8 := [159, 0, 6, 167, 255, 237, 21, 7, 21, 6, 163, 0, 57, 21, 7, 4, 96, 54, 8, 21, 8, 29, 96, 4]
abbrev dktJ11_indexOf_2_2 : List UInt8 := dkwJ11_indexOf_2_2 ++ dktJ11_indexOf_2_3
def dkwJ11_indexOf_2_1 : List UInt8 := [51, 21, 5, 159, 0, 25, 132, 7, 1, 21, 7, 21, 6, 163, 0, 15, 42, 21, 7, 51, 21, 5]
abbrev dktJ11_indexOf_2_1 : List UInt8 := dkwJ11_indexOf_2_1 ++ dktJ11_indexOf_2_2
def dkwJ11_indexOf_2_0 : List UInt8 := [44, 3, 51, 54, 5, 27, 29, 100, 54, 6, 21, 4, 54, 7, 21, 7, 21, 6, 163, 0, 101, 42, 21, 7]
abbrev dktJ11_indexOf_2_0 : List UInt8 := dkwJ11_indexOf_2_0 ++ dktJ11_indexOf_2_1
theorem dksJ11_indexOf_2_0 : cJ11_indexOf_2.data.toList.drop 0 = dktJ11_indexOf_2_0 := by decide +kernel
theorem dksJ11_indexOf_2_1 : cJ11_indexOf_2.data.toList.drop 24 = dktJ11_indexOf_2_1 := dk_seg dksJ11_indexOf_2_0 24 rfl rfl
theorem dksJ11_indexOf_2_2 : cJ11_indexOf_2.data.toList.drop 46 = dktJ11_indexOf_2_2 := dk_seg dksJ11_indexOf_2_1 22 rfl rfl
theorem dksJ11_indexOf_2_3 : cJ11_indexOf_2.data.toList.drop 70 = dktJ11_indexOf_2_3 := dk_seg dksJ11_indexOf_2_2 24 rfl rfl
theorem dksJ11_indexOf_2_4 : cJ11_indexOf_2.data.toList.drop 94 = dktJ11_indexOf_2_4 := dk_seg dksJ11_indexOf_2_3 24 rfl rfl
theorem dksJ11_indexOf_2_5 : cJ11_indexOf_2.data.toList.drop 116 = dktJ11_indexOf_2_5 := dk_seg dksJ11_indexOf_2_4 22 rfl rfl
theorem dJ11_indexOf_2_0 : decode cJ11_indexOf_2 0 = .ok (.aload_n 2, 1) := dk_44 (dk_at dksJ11_indexOf_2_0 0 rfl rfl)
theorem dJ11_indexOf_2_1 : decode cJ11_indexOf_2 1 = .ok (.iconst 0, 1) := dk_3 (dk_at dksJ11_indexOf_2_0 1 rfl rfl)
theorem dJ11_indexOf_2_2 : decode cJ11_indexOf_2 2 = .ok (.baload, 1) := dk_51 (dk_at dksJ11_indexOf_2_0 2 rfl rfl)
theorem dJ11_indexOf_2_3 : decode cJ11_indexOf_2 3 = .ok (.istore 5, 2) := dk_54 5 (dk_at dksJ11_indexOf_2_0 3 rfl rfl)
theorem dJ11_indexOf_2_5 : decode cJ11_indexOf_2 5 = .ok (.iload_n 1, 1) := dk_27 (dk_at dksJ11_indexOf_2_0 5 rfl rfl)
theorem dJ11_indexOf_2_6 : decode cJ11_indexOf_2 6 = .ok (.iload_n 3, 1) := dk_29 (dk_at dksJ11_indexOf_2_0 6 rfl rfl)
theorem dJ11_indexOf_2_7 : decode cJ11_indexOf_2 7 = .ok (.isub, 1) := dk_100 (dk_at dksJ11_indexOf_2_0 7 rfl rfl)
theorem dJ11_indexOf_2_8 : decode cJ11_indexOf_2 8 = .ok (.istore 6, 2) := dk_54 6 (dk_at dksJ11_indexOf_2_0 8 rfl rfl)
theorem dJ11_indexOf_2_10 : decode cJ11_indexOf_2 10 = .ok (.iload 4, 2) := dk_21 4 (dk_at dksJ11_indexOf_2_0 10 rfl rfl)
theorem dJ11_indexOf_2_12 : decode cJ11_indexOf_2 12 = .ok (.istore 7, 2) := dk_54 7 (dk_at dksJ11_indexOf_2_0 12 rfl rfl)
theorem dJ11_indexOf_2_14 : decode cJ11_indexOf_2 14 = .ok (.iload 7, 2) := dk_21 7 (dk_at dksJ11_indexOf_2_0 14 rfl rfl)
theorem dJ11_indexOf_2_16 : decode cJ11_indexOf_2 16 = .ok (.iload 6, 2) := dk_21 6 (dk_at dksJ11_indexOf_2_0 16 rfl rfl)
theorem dJ11_indexOf_2_18 : decode cJ11_indexOf_2 18 = .ok (.if_icmp .gt 101, 3) := dk_163 0 101 (dk_at dksJ11_indexOf_2_0 18 rfl rfl)
theorem dJ11_indexOf_2_21 : decode cJ11_indexOf_2 21 = .ok (.aload_n 0, 1) := dk_42 (dk_at dksJ11_indexOf_2_0 21 rfl rfl)
theorem dJ11_indexOf_2_22 : decode cJ11_indexOf_2 22 = .ok (.iload 7, 2) := dk_21 7 (dk_at dksJ11_indexOf_2_0 22 rfl rfl)
theorem dJ11_indexOf_2_24 : decode cJ11_indexOf_2 24 = .ok (.baload, 1) := dk_51 (dk_at dksJ11_indexOf_2_1 0 rfl rfl)
theorem dJ11_indexOf_2_25 : decode cJ11_indexOf_2 25 = .ok (.iload 5, 2) := dk_21 5 (dk_at dksJ11_indexOf_2_1 1 rfl rfl)
theorem dJ11_indexOf_2_27 : decode cJ11_indexOf_2 27 = .ok (.if_icmp .eq 25, 3) := dk_159 0 25 (dk_at dksJ11_indexOf_2_1 3 rfl rfl)
theorem dJ11_indexOf_2_30 : decode cJ11_indexOf_2 30 = .ok (.iinc 7 1, 3) := dk_132 7 1 (dk_at dksJ11_indexOf_2_1 6 rfl rfl)
theorem dJ11_indexOf_2_33 : decode cJ11_indexOf_2 33 = .ok (.iload 7, 2) := dk_21 7 (dk_at dksJ11_indexOf_2_1 9 rfl rfl)
theorem dJ11_indexOf_2_35 : decode cJ11_indexOf_2 35 = .ok (.iload 6, 2) := dk_21 6 (dk_at dksJ11_indexOf_2_1 11 rfl rfl)
theorem dJ11_indexOf_2_37 : decode cJ11_indexOf_2 37 = .ok (.if_icmp .gt 15, 3) := dk_163 0 15 (dk_at dksJ11_indexOf_2_1 13 rfl rfl)
theorem dJ11_indexOf_2_40 : decode cJ11_indexOf_2 40 = .ok (.aload_n 0, 1) := dk_42 (dk_at dksJ11_indexOf_2_1 16 rfl rfl)
theorem dJ11_indexOf_2_41 : decode cJ11_indexOf_2 41 = .ok (.iload 7, 2) := dk_21 7 (dk_at dksJ11_indexOf_2_1 17 rfl rfl)
theorem dJ11_indexOf_2_43 : decode cJ11_indexOf_2 43 = .ok (.baload, 1) := dk_51 (dk_at dksJ11_indexOf_2_1 19 rfl rfl)
theorem dJ11_indexOf_2_44 : decode cJ11_indexOf_2 44 = .ok (.iload 5, 2) := dk_21 5 (dk_at dksJ11_indexOf_2_1 20 rfl rfl)
theorem dJ11_indexOf_2_46 : decode cJ11_indexOf_2 46 = .ok (.if_icmp .eq 6, 3) := dk_159 0 6 (dk_at dksJ11_indexOf_2_2 0 rfl rfl)
theorem dJ11_indexOf_2_49 : decode cJ11_indexOf_2 49 = .ok (.goto (-19), 3) := dk_167 255 237 (dk_at dksJ11_indexOf_2_2 3 rfl rfl)
theorem dJ11_indexOf_2_52 : decode cJ11_indexOf_2 52 = .ok (.iload 7, 2) := dk_21 7 (dk_at dksJ11_indexOf_2_2 6 rfl rfl)
theorem dJ11_indexOf_2_54 : decode cJ11_indexOf_2 54 = .ok (.iload 6, 2) := dk_21 6 (dk_at dksJ11_indexOf_2_2 8 rfl rfl)
theorem dJ11_indexOf_2_56 : decode cJ11_indexOf_2 56 = .ok (.if_icmp .gt 57, 3) := dk_163 0 57 (dk_at dksJ11_indexOf_2_2 10 rfl rfl)
theorem dJ11_indexOf_2_59 : decode cJ11_indexOf_2 59 = .ok (.iload 7, 2) := dk_21 7 (dk_at dksJ11_indexOf_2_2 13 rfl rfl)
theorem dJ11_indexOf_2_61 : decode cJ11_indexOf_2 61 = .ok (.iconst 1, 1) := dk_4 (dk_at dksJ11_indexOf_2_2 15 rfl rfl)
theorem dJ11_indexOf_2_62 : decode cJ11_indexOf_2 62 = .ok (.iadd, 1) := dk_96 (dk_at dksJ11_indexOf_2_2 16 rfl rfl)
theorem dJ11_indexOf_2_63 : decode cJ11_indexOf_2 63 = .ok (.istore 8, 2) := dk_54 8 (dk_at dksJ11_indexOf_2_2 17 rfl rfl)
theorem dJ11_indexOf_2_65 : decode cJ11_indexOf_2 65 = .ok (.iload 8, 2) := dk_21 8 (dk_at dksJ11_indexOf_2_2 19 rfl rfl)
theorem dJ11_indexOf_2_67 : decode cJ11_indexOf_2 67 = .ok (.iload_n 3, 1) := dk_29 (dk_at dksJ11_indexOf_2_2 21 rfl rfl)
theorem dJ11_indexOf_2_68 : decode cJ11_indexOf_2 68 = .ok (.iadd, 1) := dk_96 (dk_at dksJ11_indexOf_2_2 22 rfl rfl)
theorem dJ11_indexOf_2_69 : decode cJ11_indexOf_2 69 = .ok (.iconst 1, 1) := dk_4 (dk_at dksJ11_indexOf_2_2 23 rfl rfl)
theorem dJ11_indexOf_2_70 : decode cJ11_indexOf_2 70 = .ok (.isub, 1) := dk_100 (dk_at dksJ11_indexOf_2_3 0 rfl rfl)
theorem dJ11_indexOf_2_71 : decode cJ11_indexOf_2 71 = .ok (.istore 9, 2) := dk_54 9 (dk_at dksJ11_indexOf_2_3 1 rfl rfl)
theorem dJ11_indexOf_2_73 : decode cJ11_indexOf_2 73 = .ok (.iconst 1, 1) := dk_4 (dk_at dksJ11_indexOf_2_3 3 rfl rfl)
theorem dJ11_indexOf_2_74 : decode cJ11_indexOf_2 74 = .ok (.istore 10, 2) := dk_54 10 (dk_at dksJ11_indexOf_2_3 4 rfl rfl)
theorem dJ11_indexOf_2_76 : decode cJ11_indexOf_2 76 = .ok (.iload 8, 2) := dk_21 8 (dk_at dksJ11_indexOf_2_3 6 rfl rfl)
theorem dJ11_indexOf_2_78 : decode cJ11_indexOf_2 78 = .ok (.iload 9, 2) := dk_21 9 (dk_at dksJ11_indexOf_2_3 8 rfl rfl)
theorem dJ11_indexOf_2_80 : decode cJ11_indexOf_2 80 = .ok (.if_icmp .ge 23, 3) := dk_162 0 23 (dk_at dksJ11_indexOf_2_3 10 rfl rfl)
theorem dJ11_indexOf_2_83 : decode cJ11_indexOf_2 83 = .ok (.aload_n 0, 1) := dk_42 (dk_at dksJ11_indexOf_2_3 13 rfl rfl)
theorem dJ11_indexOf_2_84 : decode cJ11_indexOf_2 84 = .ok (.iload 8, 2) := dk_21 8 (dk_at dksJ11_indexOf_2_3 14 rfl rfl)
theorem dJ11_indexOf_2_86 : decode cJ11_indexOf_2 86 = .ok (.baload, 1) := dk_51 (dk_at dksJ11_indexOf_2_3 16 rfl rfl)
theorem dJ11_indexOf_2_87 : decode cJ11_indexOf_2 87 = .ok (.aload_n 2, 1) := dk_44 (dk_at dksJ11_indexOf_2_3 17 rfl rfl)
theorem dJ11_indexOf_2_88 : decode cJ11_indexOf_2 88 = .ok (.iload 10, 2) := dk_21 10 (dk_at dksJ11_indexOf_2_3 18 rfl rfl)
theorem dJ11_indexOf_2_90 : decode cJ11_indexOf_2 90 = .ok (.baload, 1) := dk_51 (dk_at dksJ11_indexOf_2_3 20 rfl rfl)
theorem dJ11_indexOf_2_91 : decode cJ11_indexOf_2 91 = .ok (.if_icmp .ne 12, 3) := dk_160 0 12 (dk_at dksJ11_indexOf_2_3 21 rfl rfl)
theorem dJ11_indexOf_2_94 : decode cJ11_indexOf_2 94 = .ok (.iinc 8 1, 3) := dk_132 8 1 (dk_at dksJ11_indexOf_2_4 0 rfl rfl)
theorem dJ11_indexOf_2_97 : decode cJ11_indexOf_2 97 = .ok (.iinc 10 1, 3) := dk_132 10 1 (dk_at dksJ11_indexOf_2_4 3 rfl rfl)
theorem dJ11_indexOf_2_100 : decode cJ11_indexOf_2 100 = .ok (.goto (-24), 3) := dk_167 255 232 (dk_at dksJ11_indexOf_2_4 6 rfl rfl)
theorem dJ11_indexOf_2_103 : decode cJ11_indexOf_2 103 = .ok (.iload 8, 2) := dk_21 8 (dk_at dksJ11_indexOf_2_4 9 rfl rfl)
theorem dJ11_indexOf_2_105 : decode cJ11_indexOf_2 105 = .ok (.iload 9, 2) := dk_21 9 (dk_at dksJ11_indexOf_2_4 11 rfl rfl)
theorem dJ11_indexOf_2_107 : decode cJ11_indexOf_2 107 = .ok (.if_icmp .ne 6, 3) := dk_160 0 6 (dk_at dksJ11_indexOf_2_4 13 rfl rfl)
theorem dJ11_indexOf_2_110 : decode cJ11_indexOf_2 110 = .ok (.iload 7, 2) := dk_21 7 (dk_at dksJ11_indexOf_2_4 16 rfl rfl)
theorem dJ11_indexOf_2_112 : decode cJ11_indexOf_2 112 = .ok (.ireturn, 1) := dk_172 (dk_at dksJ11_indexOf_2_4 18 rfl rfl)
theorem dJ11_indexOf_2_113 : decode cJ11_indexOf_2 113 = .ok (.iinc 7 1, 3) := dk_132 7 1 (dk_at dksJ11_indexOf_2_4 19 rfl rfl)
theorem dJ11_indexOf_2_116 : decode cJ11_indexOf_2 116 = .ok (.goto (-102), 3) := dk_167 255 154 (dk_at dksJ11_indexOf_2_5 0 rfl rfl)
theorem dJ11_indexOf_2_119 : decode cJ11_indexOf_2 119 = .ok (.iconst (-1), 1) := dk_2 (dk_at dksJ11_indexOf_2_5 3 rfl rfl)
theorem dJ11_indexOf_2_120 : decode cJ11_indexOf_2 120 = .ok (.ireturn, 1) := dk_172 (dk_at dksJ11_indexOf_2_5 4 rfl rfl)
abbrev cJ6_init : ByteArray := prog_15_method_2_code
def yJ6_init : MethodName := ⟨RJ6, "<init>", "(I)V"⟩
def dkwJ6_init_1 : List UInt8 := [167, 0, 16, 42, 27, 184, 0, 26, 181, 0, 15, 42, 4, 181, 0, 22, 177]
abbrev dktJ6_init_1 : List UInt8 := dkwJ6_init_1 ++ []
def dkwJ6_init_0 : List UInt8 := [42, 183, 0, 3, 178, 0, 18, 153, 0, 18, 42, 27, 188, 8, 181, 0, 15, 42, 3, 181, 0, 22]
abbrev dktJ6_init_0 : List UInt8 := dkwJ6_init_0 ++ dktJ6_init_1
theorem dksJ6_init_0 : cJ6_init.data.toList.drop 0 = dktJ6_init_0 := by decide +kernel
theorem dksJ6_init_1 : cJ6_init.data.toList.drop 22 = dktJ6_init_1 := dk_seg dksJ6_init_0 22 rfl rfl
theorem dJ6_init_0 : decode cJ6_init 0 = .ok (.aload_n 0, 1) := dk_42 (dk_at dksJ6_init_0 0 rfl rfl)
theorem dJ6_init_1 : decode cJ6_init 1 = .ok (.invokespecial 3, 3) := dk_183 0 3 (dk_at dksJ6_init_0 1 rfl rfl)
theorem dJ6_init_4 : decode cJ6_init 4 = .ok (.getstatic 18, 3) := dk_178 0 18 (dk_at dksJ6_init_0 4 rfl rfl)
theorem dJ6_init_7 : decode cJ6_init 7 = .ok (.ifCond .eq 18, 3) := dk_153 0 18 (dk_at dksJ6_init_0 7 rfl rfl)
theorem dJ6_init_10 : decode cJ6_init 10 = .ok (.aload_n 0, 1) := dk_42 (dk_at dksJ6_init_0 10 rfl rfl)
theorem dJ6_init_11 : decode cJ6_init 11 = .ok (.iload_n 1, 1) := dk_27 (dk_at dksJ6_init_0 11 rfl rfl)
theorem dJ6_init_12 : decode cJ6_init 12 = .ok (.newarray .byte, 2) := dk_188_8 (dk_at dksJ6_init_0 12 rfl rfl)
theorem dJ6_init_14 : decode cJ6_init 14 = .ok (.putfield 15, 3) := dk_181 0 15 (dk_at dksJ6_init_0 14 rfl rfl)
theorem dJ6_init_17 : decode cJ6_init 17 = .ok (.aload_n 0, 1) := dk_42 (dk_at dksJ6_init_0 17 rfl rfl)
theorem dJ6_init_18 : decode cJ6_init 18 = .ok (.iconst 0, 1) := dk_3 (dk_at dksJ6_init_0 18 rfl rfl)
theorem dJ6_init_19 : decode cJ6_init 19 = .ok (.putfield 22, 3) := dk_181 0 22 (dk_at dksJ6_init_0 19 rfl rfl)
theorem dJ6_init_22 : decode cJ6_init 22 = .ok (.goto 16, 3) := dk_167 0 16 (dk_at dksJ6_init_1 0 rfl rfl)
theorem dJ6_init_25 : decode cJ6_init 25 = .ok (.aload_n 0, 1) := dk_42 (dk_at dksJ6_init_1 3 rfl rfl)
theorem dJ6_init_26 : decode cJ6_init 26 = .ok (.iload_n 1, 1) := dk_27 (dk_at dksJ6_init_1 4 rfl rfl)
theorem dJ6_init_27 : decode cJ6_init 27 = .ok (.invokestatic 26, 3) := dk_184 0 26 (dk_at dksJ6_init_1 5 rfl rfl)
theorem dJ6_init_30 : decode cJ6_init 30 = .ok (.putfield 15, 3) := dk_181 0 15 (dk_at dksJ6_init_1 8 rfl rfl)
theorem dJ6_init_33 : decode cJ6_init 33 = .ok (.aload_n 0, 1) := dk_42 (dk_at dksJ6_init_1 11 rfl rfl)
theorem dJ6_init_34 : decode cJ6_init 34 = .ok (.iconst 1, 1) := dk_4 (dk_at dksJ6_init_1 12 rfl rfl)
theorem dJ6_init_35 : decode cJ6_init 35 = .ok (.putfield 22, 3) := dk_181 0 22 (dk_at dksJ6_init_1 13 rfl rfl)
theorem dJ6_init_38 : decode cJ6_init 38 = .ok (.return_, 1) := dk_177 (dk_at dksJ6_init_1 16 rfl rfl)
abbrev cJ6_append : ByteArray := prog_15_method_31_code
def yJ6_append : MethodName := ⟨RJ6, "append", "(C)Ljava/lang/AbstractStringBuilder;"⟩
def dkwJ6_append_3 : List UInt8 := [181, 0, 79, 27, 184, 0, 197, 42, 176]
abbrev dktJ6_append_3 : List UInt8 := dkwJ6_append_3 ++ []
def dkwJ6_append_2 : List UInt8 := [182, 0, 83, 153, 0, 7, 42, 182, 0, 195, 42, 180, 0, 15, 42, 89, 180, 0, 79, 90, 4, 96]
abbrev dktJ6_append_2 : List UInt8 := dkwJ6_append_2 ++ dktJ6_append_3
def dkwJ6_append_1 : List UInt8 := [42, 180, 0, 15, 42, 89, 180, 0, 79, 90, 4, 96, 181, 0, 79, 27, 145, 84, 167, 0, 33, 42]
abbrev dktJ6_append_1 : List UInt8 := dkwJ6_append_1 ++ dktJ6_append_2
def dkwJ6_append_0 : List UInt8 := [42, 42, 180, 0, 79, 4, 96, 182, 0, 100, 42, 182, 0, 83, 153, 0, 31, 27, 184, 0, 191, 153, 0, 24]
abbrev dktJ6_append_0 : List UInt8 := dkwJ6_append_0 ++ dktJ6_append_1
theorem dksJ6_append_0 : cJ6_append.data.toList.drop 0 = dktJ6_append_0 := by decide +kernel
theorem dksJ6_append_1 : cJ6_append.data.toList.drop 24 = dktJ6_append_1 := dk_seg dksJ6_append_0 24 rfl rfl
theorem dksJ6_append_2 : cJ6_append.data.toList.drop 46 = dktJ6_append_2 := dk_seg dksJ6_append_1 22 rfl rfl
theorem dksJ6_append_3 : cJ6_append.data.toList.drop 68 = dktJ6_append_3 := dk_seg dksJ6_append_2 22 rfl rfl
theorem dJ6_append_0 : decode cJ6_append 0 = .ok (.aload_n 0, 1) := dk_42 (dk_at dksJ6_append_0 0 rfl rfl)
theorem dJ6_append_1 : decode cJ6_append 1 = .ok (.aload_n 0, 1) := dk_42 (dk_at dksJ6_append_0 1 rfl rfl)
theorem dJ6_append_2 : decode cJ6_append 2 = .ok (.getfield 79, 3) := dk_180 0 79 (dk_at dksJ6_append_0 2 rfl rfl)
theorem dJ6_append_5 : decode cJ6_append 5 = .ok (.iconst 1, 1) := dk_4 (dk_at dksJ6_append_0 5 rfl rfl)
theorem dJ6_append_6 : decode cJ6_append 6 = .ok (.iadd, 1) := dk_96 (dk_at dksJ6_append_0 6 rfl rfl)
theorem dJ6_append_7 : decode cJ6_append 7 = .ok (.invokevirtual 100, 3) := dk_182 0 100 (dk_at dksJ6_append_0 7 rfl rfl)
theorem dJ6_append_10 : decode cJ6_append 10 = .ok (.aload_n 0, 1) := dk_42 (dk_at dksJ6_append_0 10 rfl rfl)
theorem dJ6_append_11 : decode cJ6_append 11 = .ok (.invokevirtual 83, 3) := dk_182 0 83 (dk_at dksJ6_append_0 11 rfl rfl)
theorem dJ6_append_14 : decode cJ6_append 14 = .ok (.ifCond .eq 31, 3) := dk_153 0 31 (dk_at dksJ6_append_0 14 rfl rfl)
theorem dJ6_append_17 : decode cJ6_append 17 = .ok (.iload_n 1, 1) := dk_27 (dk_at dksJ6_append_0 17 rfl rfl)
theorem dJ6_append_18 : decode cJ6_append 18 = .ok (.invokestatic 191, 3) := dk_184 0 191 (dk_at dksJ6_append_0 18 rfl rfl)
theorem dJ6_append_21 : decode cJ6_append 21 = .ok (.ifCond .eq 24, 3) := dk_153 0 24 (dk_at dksJ6_append_0 21 rfl rfl)
theorem dJ6_append_24 : decode cJ6_append 24 = .ok (.aload_n 0, 1) := dk_42 (dk_at dksJ6_append_1 0 rfl rfl)
theorem dJ6_append_25 : decode cJ6_append 25 = .ok (.getfield 15, 3) := dk_180 0 15 (dk_at dksJ6_append_1 1 rfl rfl)
theorem dJ6_append_28 : decode cJ6_append 28 = .ok (.aload_n 0, 1) := dk_42 (dk_at dksJ6_append_1 4 rfl rfl)
theorem dJ6_append_29 : decode cJ6_append 29 = .ok (.dup, 1) := dk_89 (dk_at dksJ6_append_1 5 rfl rfl)
theorem dJ6_append_30 : decode cJ6_append 30 = .ok (.getfield 79, 3) := dk_180 0 79 (dk_at dksJ6_append_1 6 rfl rfl)
theorem dJ6_append_33 : decode cJ6_append 33 = .ok (.dup_x1, 1) := dk_90 (dk_at dksJ6_append_1 9 rfl rfl)
theorem dJ6_append_34 : decode cJ6_append 34 = .ok (.iconst 1, 1) := dk_4 (dk_at dksJ6_append_1 10 rfl rfl)
theorem dJ6_append_35 : decode cJ6_append 35 = .ok (.iadd, 1) := dk_96 (dk_at dksJ6_append_1 11 rfl rfl)
theorem dJ6_append_36 : decode cJ6_append 36 = .ok (.putfield 79, 3) := dk_181 0 79 (dk_at dksJ6_append_1 12 rfl rfl)
theorem dJ6_append_39 : decode cJ6_append 39 = .ok (.iload_n 1, 1) := dk_27 (dk_at dksJ6_append_1 15 rfl rfl)
theorem dJ6_append_40 : decode cJ6_append 40 = .ok (.i2b, 1) := dk_145 (dk_at dksJ6_append_1 16 rfl rfl)
theorem dJ6_append_41 : decode cJ6_append 41 = .ok (.bastore, 1) := dk_84 (dk_at dksJ6_append_1 17 rfl rfl)
theorem dJ6_append_42 : decode cJ6_append 42 = .ok (.goto 33, 3) := dk_167 0 33 (dk_at dksJ6_append_1 18 rfl rfl)
theorem dJ6_append_45 : decode cJ6_append 45 = .ok (.aload_n 0, 1) := dk_42 (dk_at dksJ6_append_1 21 rfl rfl)
theorem dJ6_append_46 : decode cJ6_append 46 = .ok (.invokevirtual 83, 3) := dk_182 0 83 (dk_at dksJ6_append_2 0 rfl rfl)
theorem dJ6_append_49 : decode cJ6_append 49 = .ok (.ifCond .eq 7, 3) := dk_153 0 7 (dk_at dksJ6_append_2 3 rfl rfl)
theorem dJ6_append_52 : decode cJ6_append 52 = .ok (.aload_n 0, 1) := dk_42 (dk_at dksJ6_append_2 6 rfl rfl)
theorem dJ6_append_53 : decode cJ6_append 53 = .ok (.invokevirtual 195, 3) := dk_182 0 195 (dk_at dksJ6_append_2 7 rfl rfl)
theorem dJ6_append_56 : decode cJ6_append 56 = .ok (.aload_n 0, 1) := dk_42 (dk_at dksJ6_append_2 10 rfl rfl)
theorem dJ6_append_57 : decode cJ6_append 57 = .ok (.getfield 15, 3) := dk_180 0 15 (dk_at dksJ6_append_2 11 rfl rfl)
theorem dJ6_append_60 : decode cJ6_append 60 = .ok (.aload_n 0, 1) := dk_42 (dk_at dksJ6_append_2 14 rfl rfl)
theorem dJ6_append_61 : decode cJ6_append 61 = .ok (.dup, 1) := dk_89 (dk_at dksJ6_append_2 15 rfl rfl)
theorem dJ6_append_62 : decode cJ6_append 62 = .ok (.getfield 79, 3) := dk_180 0 79 (dk_at dksJ6_append_2 16 rfl rfl)
theorem dJ6_append_65 : decode cJ6_append 65 = .ok (.dup_x1, 1) := dk_90 (dk_at dksJ6_append_2 19 rfl rfl)
theorem dJ6_append_66 : decode cJ6_append 66 = .ok (.iconst 1, 1) := dk_4 (dk_at dksJ6_append_2 20 rfl rfl)
theorem dJ6_append_67 : decode cJ6_append 67 = .ok (.iadd, 1) := dk_96 (dk_at dksJ6_append_2 21 rfl rfl)
theorem dJ6_append_68 : decode cJ6_append 68 = .ok (.putfield 79, 3) := dk_181 0 79 (dk_at dksJ6_append_3 0 rfl rfl)
theorem dJ6_append_71 : decode cJ6_append 71 = .ok (.iload_n 1, 1) := dk_27 (dk_at dksJ6_append_3 3 rfl rfl)
theorem dJ6_append_72 : decode cJ6_append 72 = .ok (.invokestatic 197, 3) := dk_184 0 197 (dk_at dksJ6_append_3 4 rfl rfl)
theorem dJ6_append_75 : decode cJ6_append 75 = .ok (.aload_n 0, 1) := dk_42 (dk_at dksJ6_append_3 7 rfl rfl)
theorem dJ6_append_76 : decode cJ6_append 76 = .ok (.areturn, 1) := dk_176 (dk_at dksJ6_append_3 8 rfl rfl)
abbrev cJ6_ensureCapacityInternal : ByteArray := prog_15_method_9_code
def yJ6_ensureCapacityInternal : MethodName := ⟨RJ6, "ensureCapacityInternal", "(I)V"⟩
def dkwJ6_ensureCapacityInternal_1 : List UInt8 := [182, 0, 104, 42, 180, 0, 22, 120, 184, 0, 108, 181, 0, 15, 177]
abbrev dktJ6_ensureCapacityInternal_1 : List UInt8 := dkwJ6_ensureCapacityInternal_1 ++ []
def dkwJ6_ensureCapacityInternal_0 : List UInt8 := [42, 180, 0, 15, 190, 42, 180, 0, 22, 122, 61, 27, 28, 100, 158, 0, 24, 42, 42, 180, 0, 15, 42, 27]
abbrev dktJ6_ensureCapacityInternal_0 : List UInt8 := dkwJ6_ensureCapacityInternal_0 ++ dktJ6_ensureCapacityInternal_1
theorem dksJ6_ensureCapacityInternal_0 : cJ6_ensureCapacityInternal.data.toList.drop 0 = dktJ6_ensureCapacityInternal_0 := by decide +kernel
theorem dksJ6_ensureCapacityInternal_1 : cJ6_ensureCapacityInternal.data.toList.drop 24 = dktJ6_ensureCapacityInternal_1 := dk_seg dksJ6_ensureCapacityInternal_0 24 rfl rfl
theorem dJ6_ensureCapacityInternal_0 : decode cJ6_ensureCapacityInternal 0 = .ok (.aload_n 0, 1) := dk_42 (dk_at dksJ6_ensureCapacityInternal_0 0 rfl rfl)
theorem dJ6_ensureCapacityInternal_1 : decode cJ6_ensureCapacityInternal 1 = .ok (.getfield 15, 3) := dk_180 0 15 (dk_at dksJ6_ensureCapacityInternal_0 1 rfl rfl)
theorem dJ6_ensureCapacityInternal_4 : decode cJ6_ensureCapacityInternal 4 = .ok (.arraylength, 1) := dk_190 (dk_at dksJ6_ensureCapacityInternal_0 4 rfl rfl)
theorem dJ6_ensureCapacityInternal_5 : decode cJ6_ensureCapacityInternal 5 = .ok (.aload_n 0, 1) := dk_42 (dk_at dksJ6_ensureCapacityInternal_0 5 rfl rfl)
theorem dJ6_ensureCapacityInternal_6 : decode cJ6_ensureCapacityInternal 6 = .ok (.getfield 22, 3) := dk_180 0 22 (dk_at dksJ6_ensureCapacityInternal_0 6 rfl rfl)
theorem dJ6_ensureCapacityInternal_9 : decode cJ6_ensureCapacityInternal 9 = .ok (.ishr, 1) := dk_122 (dk_at dksJ6_ensureCapacityInternal_0 9 rfl rfl)
theorem dJ6_ensureCapacityInternal_10 : decode cJ6_ensureCapacityInternal 10 = .ok (.istore_n 2, 1) := dk_61 (dk_at dksJ6_ensureCapacityInternal_0 10 rfl rfl)
theorem dJ6_ensureCapacityInternal_11 : decode cJ6_ensureCapacityInternal 11 = .ok (.iload_n 1, 1) := dk_27 (dk_at dksJ6_ensureCapacityInternal_0 11 rfl rfl)
theorem dJ6_ensureCapacityInternal_12 : decode cJ6_ensureCapacityInternal 12 = .ok (.iload_n 2, 1) := dk_28 (dk_at dksJ6_ensureCapacityInternal_0 12 rfl rfl)
theorem dJ6_ensureCapacityInternal_13 : decode cJ6_ensureCapacityInternal 13 = .ok (.isub, 1) := dk_100 (dk_at dksJ6_ensureCapacityInternal_0 13 rfl rfl)
theorem dJ6_ensureCapacityInternal_14 : decode cJ6_ensureCapacityInternal 14 = .ok (.ifCond .le 24, 3) := dk_158 0 24 (dk_at dksJ6_ensureCapacityInternal_0 14 rfl rfl)
theorem dJ6_ensureCapacityInternal_17 : decode cJ6_ensureCapacityInternal 17 = .ok (.aload_n 0, 1) := dk_42 (dk_at dksJ6_ensureCapacityInternal_0 17 rfl rfl)
theorem dJ6_ensureCapacityInternal_18 : decode cJ6_ensureCapacityInternal 18 = .ok (.aload_n 0, 1) := dk_42 (dk_at dksJ6_ensureCapacityInternal_0 18 rfl rfl)
theorem dJ6_ensureCapacityInternal_19 : decode cJ6_ensureCapacityInternal 19 = .ok (.getfield 15, 3) := dk_180 0 15 (dk_at dksJ6_ensureCapacityInternal_0 19 rfl rfl)
theorem dJ6_ensureCapacityInternal_22 : decode cJ6_ensureCapacityInternal 22 = .ok (.aload_n 0, 1) := dk_42 (dk_at dksJ6_ensureCapacityInternal_0 22 rfl rfl)
theorem dJ6_ensureCapacityInternal_23 : decode cJ6_ensureCapacityInternal 23 = .ok (.iload_n 1, 1) := dk_27 (dk_at dksJ6_ensureCapacityInternal_0 23 rfl rfl)
theorem dJ6_ensureCapacityInternal_24 : decode cJ6_ensureCapacityInternal 24 = .ok (.invokevirtual 104, 3) := dk_182 0 104 (dk_at dksJ6_ensureCapacityInternal_1 0 rfl rfl)
theorem dJ6_ensureCapacityInternal_27 : decode cJ6_ensureCapacityInternal 27 = .ok (.aload_n 0, 1) := dk_42 (dk_at dksJ6_ensureCapacityInternal_1 3 rfl rfl)
theorem dJ6_ensureCapacityInternal_28 : decode cJ6_ensureCapacityInternal 28 = .ok (.getfield 22, 3) := dk_180 0 22 (dk_at dksJ6_ensureCapacityInternal_1 4 rfl rfl)
theorem dJ6_ensureCapacityInternal_31 : decode cJ6_ensureCapacityInternal 31 = .ok (.ishl, 1) := dk_120 (dk_at dksJ6_ensureCapacityInternal_1 7 rfl rfl)
theorem dJ6_ensureCapacityInternal_32 : decode cJ6_ensureCapacityInternal 32 = .ok (.invokestatic 108, 3) := dk_184 0 108 (dk_at dksJ6_ensureCapacityInternal_1 8 rfl rfl)
theorem dJ6_ensureCapacityInternal_35 : decode cJ6_ensureCapacityInternal 35 = .ok (.putfield 15, 3) := dk_181 0 15 (dk_at dksJ6_ensureCapacityInternal_1 11 rfl rfl)
theorem dJ6_ensureCapacityInternal_38 : decode cJ6_ensureCapacityInternal 38 = .ok (.return_, 1) := dk_177 (dk_at dksJ6_ensureCapacityInternal_1 14 rfl rfl)
abbrev cJ6_isLatin1 : ByteArray := prog_15_method_68_code
def yJ6_isLatin1 : MethodName := ⟨RJ6, "isLatin1", "()Z"⟩
def dkwJ6_isLatin1_0 : List UInt8 := [178, 0, 18, 153, 0, 14, 42, 180, 0, 22, 154, 0, 7, 4, 167, 0, 4, 3, 172]
abbrev dktJ6_isLatin1_0 : List UInt8 := dkwJ6_isLatin1_0 ++ []
theorem dksJ6_isLatin1_0 : cJ6_isLatin1.data.toList.drop 0 = dktJ6_isLatin1_0 := by decide +kernel
theorem dJ6_isLatin1_0 : decode cJ6_isLatin1 0 = .ok (.getstatic 18, 3) := dk_178 0 18 (dk_at dksJ6_isLatin1_0 0 rfl rfl)
theorem dJ6_isLatin1_3 : decode cJ6_isLatin1 3 = .ok (.ifCond .eq 14, 3) := dk_153 0 14 (dk_at dksJ6_isLatin1_0 3 rfl rfl)
theorem dJ6_isLatin1_6 : decode cJ6_isLatin1 6 = .ok (.aload_n 0, 1) := dk_42 (dk_at dksJ6_isLatin1_0 6 rfl rfl)
theorem dJ6_isLatin1_7 : decode cJ6_isLatin1 7 = .ok (.getfield 22, 3) := dk_180 0 22 (dk_at dksJ6_isLatin1_0 7 rfl rfl)
theorem dJ6_isLatin1_10 : decode cJ6_isLatin1 10 = .ok (.ifCond .ne 7, 3) := dk_154 0 7 (dk_at dksJ6_isLatin1_0 10 rfl rfl)
theorem dJ6_isLatin1_13 : decode cJ6_isLatin1 13 = .ok (.iconst 1, 1) := dk_4 (dk_at dksJ6_isLatin1_0 13 rfl rfl)
theorem dJ6_isLatin1_14 : decode cJ6_isLatin1 14 = .ok (.goto 4, 3) := dk_167 0 4 (dk_at dksJ6_isLatin1_0 14 rfl rfl)
theorem dJ6_isLatin1_17 : decode cJ6_isLatin1 17 = .ok (.iconst 0, 1) := dk_3 (dk_at dksJ6_isLatin1_0 17 rfl rfl)
theorem dJ6_isLatin1_18 : decode cJ6_isLatin1 18 = .ok (.ireturn, 1) := dk_172 (dk_at dksJ6_isLatin1_0 18 rfl rfl)
abbrev cJ6_getValue : ByteArray := prog_15_method_64_code
def yJ6_getValue : MethodName := ⟨RJ6, "getValue", "()[B"⟩
theorem dJ6_getValue_0 : decode cJ6_getValue 0 = .ok (.aload_n 0, 1) := by decide +kernel
theorem dJ6_getValue_1 : decode cJ6_getValue 1 = .ok (.getfield 15, 3) := by decide +kernel
theorem dJ6_getValue_4 : decode cJ6_getValue 4 = .ok (.areturn, 1) := by decide +kernel
abbrev cJ6_length : ByteArray := prog_15_method_6_code
def yJ6_length : MethodName := ⟨RJ6, "length", "()I"⟩
theorem dJ6_length_0 : decode cJ6_length 0 = .ok (.aload_n 0, 1) := by decide +kernel
theorem dJ6_length_1 : decode cJ6_length 1 = .ok (.getfield 79, 3) := by decide +kernel
theorem dJ6_length_4 : decode cJ6_length 4 = .ok (.ireturn, 1) := by decide +kernel
abbrev cJ6_append_2 : ByteArray := prog_15_method_22_code
def yJ6_append_2 : MethodName := ⟨RJ6, "append", "(Ljava/lang/String;)Ljava/lang/AbstractStringBuilder;"⟩
def dkwJ6_append_2_1 : List UInt8 := [42, 42, 180, 0, 79, 43, 182, 0, 208, 42, 89, 180, 0, 79, 28, 96, 181, 0, 79, 42, 176]
abbrev dktJ6_append_2_1 : List UInt8 := dkwJ6_append_2_1 ++ []
def dkwJ6_append_2_0 : List UInt8 := [43, 199, 0, 8, 42, 182, 0, 204, 176, 43, 182, 0, 32, 61, 42, 42, 180, 0, 79, 28, 96, 182, 0, 100]
abbrev dktJ6_append_2_0 : List UInt8 := dkwJ6_append_2_0 ++ dktJ6_append_2_1
theorem dksJ6_append_2_0 : cJ6_append_2.data.toList.drop 0 = dktJ6_append_2_0 := by decide +kernel
theorem dksJ6_append_2_1 : cJ6_append_2.data.toList.drop 24 = dktJ6_append_2_1 := dk_seg dksJ6_append_2_0 24 rfl rfl
theorem dJ6_append_2_0 : decode cJ6_append_2 0 = .ok (.aload_n 1, 1) := dk_43 (dk_at dksJ6_append_2_0 0 rfl rfl)
theorem dJ6_append_2_1 : decode cJ6_append_2 1 = .ok (.ifnonnull 8, 3) := dk_199 0 8 (dk_at dksJ6_append_2_0 1 rfl rfl)
theorem dJ6_append_2_4 : decode cJ6_append_2 4 = .ok (.aload_n 0, 1) := dk_42 (dk_at dksJ6_append_2_0 4 rfl rfl)
theorem dJ6_append_2_5 : decode cJ6_append_2 5 = .ok (.invokevirtual 204, 3) := dk_182 0 204 (dk_at dksJ6_append_2_0 5 rfl rfl)
theorem dJ6_append_2_8 : decode cJ6_append_2 8 = .ok (.areturn, 1) := dk_176 (dk_at dksJ6_append_2_0 8 rfl rfl)
theorem dJ6_append_2_9 : decode cJ6_append_2 9 = .ok (.aload_n 1, 1) := dk_43 (dk_at dksJ6_append_2_0 9 rfl rfl)
theorem dJ6_append_2_10 : decode cJ6_append_2 10 = .ok (.invokevirtual 32, 3) := dk_182 0 32 (dk_at dksJ6_append_2_0 10 rfl rfl)
theorem dJ6_append_2_13 : decode cJ6_append_2 13 = .ok (.istore_n 2, 1) := dk_61 (dk_at dksJ6_append_2_0 13 rfl rfl)
theorem dJ6_append_2_14 : decode cJ6_append_2 14 = .ok (.aload_n 0, 1) := dk_42 (dk_at dksJ6_append_2_0 14 rfl rfl)
theorem dJ6_append_2_15 : decode cJ6_append_2 15 = .ok (.aload_n 0, 1) := dk_42 (dk_at dksJ6_append_2_0 15 rfl rfl)
theorem dJ6_append_2_16 : decode cJ6_append_2 16 = .ok (.getfield 79, 3) := dk_180 0 79 (dk_at dksJ6_append_2_0 16 rfl rfl)
theorem dJ6_append_2_19 : decode cJ6_append_2 19 = .ok (.iload_n 2, 1) := dk_28 (dk_at dksJ6_append_2_0 19 rfl rfl)
theorem dJ6_append_2_20 : decode cJ6_append_2 20 = .ok (.iadd, 1) := dk_96 (dk_at dksJ6_append_2_0 20 rfl rfl)
theorem dJ6_append_2_21 : decode cJ6_append_2 21 = .ok (.invokevirtual 100, 3) := dk_182 0 100 (dk_at dksJ6_append_2_0 21 rfl rfl)
theorem dJ6_append_2_24 : decode cJ6_append_2 24 = .ok (.aload_n 0, 1) := dk_42 (dk_at dksJ6_append_2_1 0 rfl rfl)
theorem dJ6_append_2_25 : decode cJ6_append_2 25 = .ok (.aload_n 0, 1) := dk_42 (dk_at dksJ6_append_2_1 1 rfl rfl)
theorem dJ6_append_2_26 : decode cJ6_append_2 26 = .ok (.getfield 79, 3) := dk_180 0 79 (dk_at dksJ6_append_2_1 2 rfl rfl)
theorem dJ6_append_2_29 : decode cJ6_append_2 29 = .ok (.aload_n 1, 1) := dk_43 (dk_at dksJ6_append_2_1 5 rfl rfl)
theorem dJ6_append_2_30 : decode cJ6_append_2 30 = .ok (.invokevirtual 208, 3) := dk_182 0 208 (dk_at dksJ6_append_2_1 6 rfl rfl)
theorem dJ6_append_2_33 : decode cJ6_append_2 33 = .ok (.aload_n 0, 1) := dk_42 (dk_at dksJ6_append_2_1 9 rfl rfl)
theorem dJ6_append_2_34 : decode cJ6_append_2 34 = .ok (.dup, 1) := dk_89 (dk_at dksJ6_append_2_1 10 rfl rfl)
theorem dJ6_append_2_35 : decode cJ6_append_2 35 = .ok (.getfield 79, 3) := dk_180 0 79 (dk_at dksJ6_append_2_1 11 rfl rfl)
theorem dJ6_append_2_38 : decode cJ6_append_2 38 = .ok (.iload_n 2, 1) := dk_28 (dk_at dksJ6_append_2_1 14 rfl rfl)
theorem dJ6_append_2_39 : decode cJ6_append_2 39 = .ok (.iadd, 1) := dk_96 (dk_at dksJ6_append_2_1 15 rfl rfl)
theorem dJ6_append_2_40 : decode cJ6_append_2 40 = .ok (.putfield 79, 3) := dk_181 0 79 (dk_at dksJ6_append_2_1 16 rfl rfl)
theorem dJ6_append_2_43 : decode cJ6_append_2 43 = .ok (.aload_n 0, 1) := dk_42 (dk_at dksJ6_append_2_1 19 rfl rfl)
theorem dJ6_append_2_44 : decode cJ6_append_2 44 = .ok (.areturn, 1) := dk_176 (dk_at dksJ6_append_2_1 20 rfl rfl)
abbrev cJ6_putStringAt : ByteArray := prog_15_method_73_code
def yJ6_putStringAt : MethodName := ⟨RJ6, "putStringAt", "(ILjava/lang/String;)V"⟩
def dkwJ6_putStringAt_0 : List UInt8 := [42, 44, 182, 1, 141, 44, 42, 180, 0, 15, 27, 42, 180, 0, 22, 182, 1, 143, 177]
abbrev dktJ6_putStringAt_0 : List UInt8 := dkwJ6_putStringAt_0 ++ []
theorem dksJ6_putStringAt_0 : cJ6_putStringAt.data.toList.drop 0 = dktJ6_putStringAt_0 := by decide +kernel
theorem dJ6_putStringAt_0 : decode cJ6_putStringAt 0 = .ok (.aload_n 0, 1) := dk_42 (dk_at dksJ6_putStringAt_0 0 rfl rfl)
theorem dJ6_putStringAt_1 : decode cJ6_putStringAt 1 = .ok (.aload_n 2, 1) := dk_44 (dk_at dksJ6_putStringAt_0 1 rfl rfl)
theorem dJ6_putStringAt_2 : decode cJ6_putStringAt 2 = .ok (.invokevirtual 397, 3) := dk_182 1 141 (dk_at dksJ6_putStringAt_0 2 rfl rfl)
theorem dJ6_putStringAt_5 : decode cJ6_putStringAt 5 = .ok (.aload_n 2, 1) := dk_44 (dk_at dksJ6_putStringAt_0 5 rfl rfl)
theorem dJ6_putStringAt_6 : decode cJ6_putStringAt 6 = .ok (.aload_n 0, 1) := dk_42 (dk_at dksJ6_putStringAt_0 6 rfl rfl)
theorem dJ6_putStringAt_7 : decode cJ6_putStringAt 7 = .ok (.getfield 15, 3) := dk_180 0 15 (dk_at dksJ6_putStringAt_0 7 rfl rfl)
theorem dJ6_putStringAt_10 : decode cJ6_putStringAt 10 = .ok (.iload_n 1, 1) := dk_27 (dk_at dksJ6_putStringAt_0 10 rfl rfl)
theorem dJ6_putStringAt_11 : decode cJ6_putStringAt 11 = .ok (.aload_n 0, 1) := dk_42 (dk_at dksJ6_putStringAt_0 11 rfl rfl)
theorem dJ6_putStringAt_12 : decode cJ6_putStringAt 12 = .ok (.getfield 22, 3) := dk_180 0 22 (dk_at dksJ6_putStringAt_0 12 rfl rfl)
theorem dJ6_putStringAt_15 : decode cJ6_putStringAt 15 = .ok (.invokevirtual 399, 3) := dk_182 1 143 (dk_at dksJ6_putStringAt_0 15 rfl rfl)
theorem dJ6_putStringAt_18 : decode cJ6_putStringAt 18 = .ok (.return_, 1) := dk_177 (dk_at dksJ6_putStringAt_0 18 rfl rfl)
abbrev cJ6_inflateIfNeededFor : ByteArray := prog_15_method_71_code
def yJ6_inflateIfNeededFor : MethodName := ⟨RJ6, "inflateIfNeededFor", "(Ljava/lang/String;)V"⟩
def dkwJ6_inflateIfNeededFor_0 : List UInt8 := [178, 0, 18, 153, 0, 18, 42, 180, 0, 22, 43, 182, 0, 40, 159, 0, 7, 42, 182, 0, 195, 177]
abbrev dktJ6_inflateIfNeededFor_0 : List UInt8 := dkwJ6_inflateIfNeededFor_0 ++ []
theorem dksJ6_inflateIfNeededFor_0 : cJ6_inflateIfNeededFor.data.toList.drop 0 = dktJ6_inflateIfNeededFor_0 := by decide +kernel
theorem dJ6_inflateIfNeededFor_0 : decode cJ6_inflateIfNeededFor 0 = .ok (.getstatic 18, 3) := dk_178 0 18 (dk_at dksJ6_inflateIfNeededFor_0 0 rfl rfl)
theorem dJ6_inflateIfNeededFor_3 : decode cJ6_inflateIfNeededFor 3 = .ok (.ifCond .eq 18, 3) := dk_153 0 18 (dk_at dksJ6_inflateIfNeededFor_0 3 rfl rfl)
theorem dJ6_inflateIfNeededFor_6 : decode cJ6_inflateIfNeededFor 6 = .ok (.aload_n 0, 1) := dk_42 (dk_at dksJ6_inflateIfNeededFor_0 6 rfl rfl)
theorem dJ6_inflateIfNeededFor_7 : decode cJ6_inflateIfNeededFor 7 = .ok (.getfield 22, 3) := dk_180 0 22 (dk_at dksJ6_inflateIfNeededFor_0 7 rfl rfl)
theorem dJ6_inflateIfNeededFor_10 : decode cJ6_inflateIfNeededFor 10 = .ok (.aload_n 1, 1) := dk_43 (dk_at dksJ6_inflateIfNeededFor_0 10 rfl rfl)
theorem dJ6_inflateIfNeededFor_11 : decode cJ6_inflateIfNeededFor 11 = .ok (.invokevirtual 40, 3) := dk_182 0 40 (dk_at dksJ6_inflateIfNeededFor_0 11 rfl rfl)
theorem dJ6_inflateIfNeededFor_14 : decode cJ6_inflateIfNeededFor 14 = .ok (.if_icmp .eq 7, 3) := dk_159 0 7 (dk_at dksJ6_inflateIfNeededFor_0 14 rfl rfl)
theorem dJ6_inflateIfNeededFor_17 : decode cJ6_inflateIfNeededFor 17 = .ok (.aload_n 0, 1) := dk_42 (dk_at dksJ6_inflateIfNeededFor_0 17 rfl rfl)
theorem dJ6_inflateIfNeededFor_18 : decode cJ6_inflateIfNeededFor 18 = .ok (.invokevirtual 195, 3) := dk_182 0 195 (dk_at dksJ6_inflateIfNeededFor_0 18 rfl rfl)
theorem dJ6_inflateIfNeededFor_21 : decode cJ6_inflateIfNeededFor 21 = .ok (.return_, 1) := dk_177 (dk_at dksJ6_inflateIfNeededFor_0 21 rfl rfl)
abbrev cJ7_init : ByteArray := prog_22_method_1_code
def yJ7_init : MethodName := ⟨RJ7, "<init>", "()V"⟩
def dkwJ7_init_0 : List UInt8 := [42, 16, 16, 183, 0, 1, 177]
abbrev dktJ7_init_0 : List UInt8 := dkwJ7_init_0 ++ []
theorem dksJ7_init_0 : cJ7_init.data.toList.drop 0 = dktJ7_init_0 := by decide +kernel
theorem dJ7_init_0 : decode cJ7_init 0 = .ok (.aload_n 0, 1) := dk_42 (dk_at dksJ7_init_0 0 rfl rfl)
theorem dJ7_init_1 : decode cJ7_init 1 = .ok (.bipush 16, 2) := dk_16 16 (dk_at dksJ7_init_0 1 rfl rfl)
theorem dJ7_init_3 : decode cJ7_init 3 = .ok (.invokespecial 1, 3) := dk_183 0 1 (dk_at dksJ7_init_0 3 rfl rfl)
theorem dJ7_init_6 : decode cJ7_init 6 = .ok (.return_, 1) := dk_177 (dk_at dksJ7_init_0 6 rfl rfl)
abbrev cJ7_append : ByteArray := prog_22_method_14_code
def yJ7_append : MethodName := ⟨RJ7, "append", "(C)Ljava/lang/StringBuilder;"⟩
def dkwJ7_append_0 : List UInt8 := [42, 27, 183, 0, 50, 87, 42, 176]
abbrev dktJ7_append_0 : List UInt8 := dkwJ7_append_0 ++ []
theorem dksJ7_append_0 : cJ7_append.data.toList.drop 0 = dktJ7_append_0 := by decide +kernel
theorem dJ7_append_0 : decode cJ7_append 0 = .ok (.aload_n 0, 1) := dk_42 (dk_at dksJ7_append_0 0 rfl rfl)
theorem dJ7_append_1 : decode cJ7_append 1 = .ok (.iload_n 1, 1) := dk_27 (dk_at dksJ7_append_0 1 rfl rfl)
theorem dJ7_append_2 : decode cJ7_append 2 = .ok (.invokespecial 50, 3) := dk_183 0 50 (dk_at dksJ7_append_0 2 rfl rfl)
theorem dJ7_append_5 : decode cJ7_append 5 = .ok (.pop, 1) := dk_87 (dk_at dksJ7_append_0 5 rfl rfl)
theorem dJ7_append_6 : decode cJ7_append 6 = .ok (.aload_n 0, 1) := dk_42 (dk_at dksJ7_append_0 6 rfl rfl)
theorem dJ7_append_7 : decode cJ7_append 7 = .ok (.areturn, 1) := dk_176 (dk_at dksJ7_append_0 7 rfl rfl)
abbrev cJ7_toString : ByteArray := prog_22_method_42_code
def yJ7_toString : MethodName := ⟨RJ7, "toString", "()Ljava/lang/String;"⟩
def dkwJ7_toString_0 : List UInt8 := [187, 0, 18, 89, 42, 183, 0, 137, 176]
abbrev dktJ7_toString_0 : List UInt8 := dkwJ7_toString_0 ++ []
theorem dksJ7_toString_0 : cJ7_toString.data.toList.drop 0 = dktJ7_toString_0 := by decide +kernel
theorem dJ7_toString_0 : decode cJ7_toString 0 = .ok (.new 18, 3) := dk_187 0 18 (dk_at dksJ7_toString_0 0 rfl rfl)
theorem dJ7_toString_3 : decode cJ7_toString 3 = .ok (.dup, 1) := dk_89 (dk_at dksJ7_toString_0 3 rfl rfl)
theorem dJ7_toString_4 : decode cJ7_toString 4 = .ok (.aload_n 0, 1) := dk_42 (dk_at dksJ7_toString_0 4 rfl rfl)
theorem dJ7_toString_5 : decode cJ7_toString 5 = .ok (.invokespecial 137, 3) := dk_183 0 137 (dk_at dksJ7_toString_0 5 rfl rfl)
theorem dJ7_toString_8 : decode cJ7_toString 8 = .ok (.areturn, 1) := dk_176 (dk_at dksJ7_toString_0 8 rfl rfl)
abbrev cJ7_length : ByteArray := prog_22_method_93_code
def yJ7_length : MethodName := ⟨RJ7, "length", "()I"⟩
theorem dJ7_length_0 : decode cJ7_length 0 = .ok (.aload_n 0, 1) := by decide +kernel
theorem dJ7_length_1 : decode cJ7_length 1 = .ok (.invokespecial 343, 3) := by decide +kernel
theorem dJ7_length_4 : decode cJ7_length 4 = .ok (.ireturn, 1) := by decide +kernel
abbrev cJ7_append_2 : ByteArray := prog_22_method_7_code
def yJ7_append_2 : MethodName := ⟨RJ7, "append", "(Ljava/lang/String;)Ljava/lang/StringBuilder;"⟩
def dkwJ7_append_2_0 : List UInt8 := [42, 43, 183, 0, 29, 87, 42, 176]
abbrev dktJ7_append_2_0 : List UInt8 := dkwJ7_append_2_0 ++ []
theorem dksJ7_append_2_0 : cJ7_append_2.data.toList.drop 0 = dktJ7_append_2_0 := by decide +kernel
theorem dJ7_append_2_0 : decode cJ7_append_2 0 = .ok (.aload_n 0, 1) := dk_42 (dk_at dksJ7_append_2_0 0 rfl rfl)
theorem dJ7_append_2_1 : decode cJ7_append_2 1 = .ok (.aload_n 1, 1) := dk_43 (dk_at dksJ7_append_2_0 1 rfl rfl)
theorem dJ7_append_2_2 : decode cJ7_append_2 2 = .ok (.invokespecial 29, 3) := dk_183 0 29 (dk_at dksJ7_append_2_0 2 rfl rfl)
theorem dJ7_append_2_5 : decode cJ7_append_2 5 = .ok (.pop, 1) := dk_87 (dk_at dksJ7_append_2_0 5 rfl rfl)
theorem dJ7_append_2_6 : decode cJ7_append_2 6 = .ok (.aload_n 0, 1) := dk_42 (dk_at dksJ7_append_2_0 6 rfl rfl)
theorem dJ7_append_2_7 : decode cJ7_append_2 7 = .ok (.areturn, 1) := dk_176 (dk_at dksJ7_append_2_0 7 rfl rfl)
abbrev cJ8_init : ByteArray := prog_21_method_53_code
def yJ8_init : MethodName := ⟨RJ8, "<init>", "(Ljava/lang/StringBuilder;)V"⟩
def dkwJ8_init_0 : List UInt8 := [42, 43, 1, 183, 1, 233, 177]
abbrev dktJ8_init_0 : List UInt8 := dkwJ8_init_0 ++ []
theorem dksJ8_init_0 : cJ8_init.data.toList.drop 0 = dktJ8_init_0 := by decide +kernel
theorem dJ8_init_0 : decode cJ8_init 0 = .ok (.aload_n 0, 1) := dk_42 (dk_at dksJ8_init_0 0 rfl rfl)
theorem dJ8_init_1 : decode cJ8_init 1 = .ok (.aload_n 1, 1) := dk_43 (dk_at dksJ8_init_0 1 rfl rfl)
theorem dJ8_init_2 : decode cJ8_init 2 = .ok (.aconst_null, 1) := dk_1 (dk_at dksJ8_init_0 2 rfl rfl)
theorem dJ8_init_3 : decode cJ8_init 3 = .ok (.invokespecial 489, 3) := dk_183 1 233 (dk_at dksJ8_init_0 3 rfl rfl)
theorem dJ8_init_6 : decode cJ8_init 6 = .ok (.return_, 1) := dk_177 (dk_at dksJ8_init_0 6 rfl rfl)
abbrev cJ8_init_2 : ByteArray := prog_21_method_150_code
def yJ8_init_2 : MethodName := ⟨RJ8, "<init>", "(Ljava/lang/AbstractStringBuilder;Ljava/lang/Void;)V"⟩
def dkwJ8_init_2_4 : List UInt8 := [181, 0, 9, 177]
abbrev dktJ8_init_2_4 : List UInt8 := dkwJ8_init_2_4 ++ []
def dkwJ8_init_2_3 : List UInt8 := [184, 0, 47, 181, 0, 15, 177, 42, 4, 181, 0, 15, 42, 45, 3, 21, 4, 4, 120, 184, 0, 54]
abbrev dktJ8_init_2_3 : List UInt8 := dkwJ8_init_2_3 ++ dktJ8_init_2_4
def dkwJ8_init_2_2 : List UInt8 := [180, 4, 24, 153, 0, 28, 42, 45, 3, 21, 4, 184, 4, 27, 181, 0, 9, 42, 42, 180, 0, 9, 21, 4]
abbrev dktJ8_init_2_2 : List UInt8 := dkwJ8_init_2_2 ++ dktJ8_init_2_3
def dkwJ8_init_2_1 : List UInt8 := [181, 0, 15, 42, 45, 3, 21, 4, 184, 0, 54, 181, 0, 9, 167, 0, 59, 178, 0, 38, 153, 0, 35, 43]
abbrev dktJ8_init_2_1 : List UInt8 := dkwJ8_init_2_1 ++ dktJ8_init_2_2
def dkwJ8_init_2_0 : List UInt8 := [42, 183, 0, 1, 43, 182, 2, 40, 78, 43, 182, 2, 37, 54, 4, 43, 182, 4, 23, 153, 0, 22, 42, 3]
abbrev dktJ8_init_2_0 : List UInt8 := dkwJ8_init_2_0 ++ dktJ8_init_2_1
theorem dksJ8_init_2_0 : cJ8_init_2.data.toList.drop 0 = dktJ8_init_2_0 := by decide +kernel
theorem dksJ8_init_2_1 : cJ8_init_2.data.toList.drop 24 = dktJ8_init_2_1 := dk_seg dksJ8_init_2_0 24 rfl rfl
theorem dksJ8_init_2_2 : cJ8_init_2.data.toList.drop 48 = dktJ8_init_2_2 := dk_seg dksJ8_init_2_1 24 rfl rfl
theorem dksJ8_init_2_3 : cJ8_init_2.data.toList.drop 72 = dktJ8_init_2_3 := dk_seg dksJ8_init_2_2 24 rfl rfl
theorem dksJ8_init_2_4 : cJ8_init_2.data.toList.drop 94 = dktJ8_init_2_4 := dk_seg dksJ8_init_2_3 22 rfl rfl
theorem dJ8_init_2_0 : decode cJ8_init_2 0 = .ok (.aload_n 0, 1) := dk_42 (dk_at dksJ8_init_2_0 0 rfl rfl)
theorem dJ8_init_2_1 : decode cJ8_init_2 1 = .ok (.invokespecial 1, 3) := dk_183 0 1 (dk_at dksJ8_init_2_0 1 rfl rfl)
theorem dJ8_init_2_4 : decode cJ8_init_2 4 = .ok (.aload_n 1, 1) := dk_43 (dk_at dksJ8_init_2_0 4 rfl rfl)
theorem dJ8_init_2_5 : decode cJ8_init_2 5 = .ok (.invokevirtual 552, 3) := dk_182 2 40 (dk_at dksJ8_init_2_0 5 rfl rfl)
theorem dJ8_init_2_8 : decode cJ8_init_2 8 = .ok (.astore_n 3, 1) := dk_78 (dk_at dksJ8_init_2_0 8 rfl rfl)
theorem dJ8_init_2_9 : decode cJ8_init_2 9 = .ok (.aload_n 1, 1) := dk_43 (dk_at dksJ8_init_2_0 9 rfl rfl)
theorem dJ8_init_2_10 : decode cJ8_init_2 10 = .ok (.invokevirtual 549, 3) := dk_182 2 37 (dk_at dksJ8_init_2_0 10 rfl rfl)
theorem dJ8_init_2_13 : decode cJ8_init_2 13 = .ok (.istore 4, 2) := dk_54 4 (dk_at dksJ8_init_2_0 13 rfl rfl)
theorem dJ8_init_2_15 : decode cJ8_init_2 15 = .ok (.aload_n 1, 1) := dk_43 (dk_at dksJ8_init_2_0 15 rfl rfl)
theorem dJ8_init_2_16 : decode cJ8_init_2 16 = .ok (.invokevirtual 1047, 3) := dk_182 4 23 (dk_at dksJ8_init_2_0 16 rfl rfl)
theorem dJ8_init_2_19 : decode cJ8_init_2 19 = .ok (.ifCond .eq 22, 3) := dk_153 0 22 (dk_at dksJ8_init_2_0 19 rfl rfl)
theorem dJ8_init_2_22 : decode cJ8_init_2 22 = .ok (.aload_n 0, 1) := dk_42 (dk_at dksJ8_init_2_0 22 rfl rfl)
theorem dJ8_init_2_23 : decode cJ8_init_2 23 = .ok (.iconst 0, 1) := dk_3 (dk_at dksJ8_init_2_0 23 rfl rfl)
theorem dJ8_init_2_24 : decode cJ8_init_2 24 = .ok (.putfield 15, 3) := dk_181 0 15 (dk_at dksJ8_init_2_1 0 rfl rfl)
theorem dJ8_init_2_27 : decode cJ8_init_2 27 = .ok (.aload_n 0, 1) := dk_42 (dk_at dksJ8_init_2_1 3 rfl rfl)
theorem dJ8_init_2_28 : decode cJ8_init_2 28 = .ok (.aload_n 3, 1) := dk_45 (dk_at dksJ8_init_2_1 4 rfl rfl)
theorem dJ8_init_2_29 : decode cJ8_init_2 29 = .ok (.iconst 0, 1) := dk_3 (dk_at dksJ8_init_2_1 5 rfl rfl)
theorem dJ8_init_2_30 : decode cJ8_init_2 30 = .ok (.iload 4, 2) := dk_21 4 (dk_at dksJ8_init_2_1 6 rfl rfl)
theorem dJ8_init_2_32 : decode cJ8_init_2 32 = .ok (.invokestatic 54, 3) := dk_184 0 54 (dk_at dksJ8_init_2_1 8 rfl rfl)
theorem dJ8_init_2_35 : decode cJ8_init_2 35 = .ok (.putfield 9, 3) := dk_181 0 9 (dk_at dksJ8_init_2_1 11 rfl rfl)
theorem dJ8_init_2_38 : decode cJ8_init_2 38 = .ok (.goto 59, 3) := dk_167 0 59 (dk_at dksJ8_init_2_1 14 rfl rfl)
theorem dJ8_init_2_41 : decode cJ8_init_2 41 = .ok (.getstatic 38, 3) := dk_178 0 38 (dk_at dksJ8_init_2_1 17 rfl rfl)
theorem dJ8_init_2_44 : decode cJ8_init_2 44 = .ok (.ifCond .eq 35, 3) := dk_153 0 35 (dk_at dksJ8_init_2_1 20 rfl rfl)
theorem dJ8_init_2_47 : decode cJ8_init_2 47 = .ok (.aload_n 1, 1) := dk_43 (dk_at dksJ8_init_2_1 23 rfl rfl)
theorem dJ8_init_2_48 : decode cJ8_init_2 48 = .ok (.getfield 1048, 3) := dk_180 4 24 (dk_at dksJ8_init_2_2 0 rfl rfl)
theorem dJ8_init_2_51 : decode cJ8_init_2 51 = .ok (.ifCond .eq 28, 3) := dk_153 0 28 (dk_at dksJ8_init_2_2 3 rfl rfl)
theorem dJ8_init_2_54 : decode cJ8_init_2 54 = .ok (.aload_n 0, 1) := dk_42 (dk_at dksJ8_init_2_2 6 rfl rfl)
theorem dJ8_init_2_55 : decode cJ8_init_2 55 = .ok (.aload_n 3, 1) := dk_45 (dk_at dksJ8_init_2_2 7 rfl rfl)
theorem dJ8_init_2_56 : decode cJ8_init_2 56 = .ok (.iconst 0, 1) := dk_3 (dk_at dksJ8_init_2_2 8 rfl rfl)
theorem dJ8_init_2_57 : decode cJ8_init_2 57 = .ok (.iload 4, 2) := dk_21 4 (dk_at dksJ8_init_2_2 9 rfl rfl)
theorem dJ8_init_2_59 : decode cJ8_init_2 59 = .ok (.invokestatic 1051, 3) := dk_184 4 27 (dk_at dksJ8_init_2_2 11 rfl rfl)
theorem dJ8_init_2_62 : decode cJ8_init_2 62 = .ok (.putfield 9, 3) := dk_181 0 9 (dk_at dksJ8_init_2_2 14 rfl rfl)
theorem dJ8_init_2_65 : decode cJ8_init_2 65 = .ok (.aload_n 0, 1) := dk_42 (dk_at dksJ8_init_2_2 17 rfl rfl)
theorem dJ8_init_2_66 : decode cJ8_init_2 66 = .ok (.aload_n 0, 1) := dk_42 (dk_at dksJ8_init_2_2 18 rfl rfl)
theorem dJ8_init_2_67 : decode cJ8_init_2 67 = .ok (.getfield 9, 3) := dk_180 0 9 (dk_at dksJ8_init_2_2 19 rfl rfl)
theorem dJ8_init_2_70 : decode cJ8_init_2 70 = .ok (.iload 4, 2) := dk_21 4 (dk_at dksJ8_init_2_2 22 rfl rfl)
theorem dJ8_init_2_72 : decode cJ8_init_2 72 = .ok (.invokestatic 47, 3) := dk_184 0 47 (dk_at dksJ8_init_2_3 0 rfl rfl)
theorem dJ8_init_2_75 : decode cJ8_init_2 75 = .ok (.putfield 15, 3) := dk_181 0 15 (dk_at dksJ8_init_2_3 3 rfl rfl)
theorem dJ8_init_2_78 : decode cJ8_init_2 78 = .ok (.return_, 1) := dk_177 (dk_at dksJ8_init_2_3 6 rfl rfl)
theorem dJ8_init_2_79 : decode cJ8_init_2 79 = .ok (.aload_n 0, 1) := dk_42 (dk_at dksJ8_init_2_3 7 rfl rfl)
theorem dJ8_init_2_80 : decode cJ8_init_2 80 = .ok (.iconst 1, 1) := dk_4 (dk_at dksJ8_init_2_3 8 rfl rfl)
theorem dJ8_init_2_81 : decode cJ8_init_2 81 = .ok (.putfield 15, 3) := dk_181 0 15 (dk_at dksJ8_init_2_3 9 rfl rfl)
theorem dJ8_init_2_84 : decode cJ8_init_2 84 = .ok (.aload_n 0, 1) := dk_42 (dk_at dksJ8_init_2_3 12 rfl rfl)
theorem dJ8_init_2_85 : decode cJ8_init_2 85 = .ok (.aload_n 3, 1) := dk_45 (dk_at dksJ8_init_2_3 13 rfl rfl)
theorem dJ8_init_2_86 : decode cJ8_init_2 86 = .ok (.iconst 0, 1) := dk_3 (dk_at dksJ8_init_2_3 14 rfl rfl)
theorem dJ8_init_2_87 : decode cJ8_init_2 87 = .ok (.iload 4, 2) := dk_21 4 (dk_at dksJ8_init_2_3 15 rfl rfl)
theorem dJ8_init_2_89 : decode cJ8_init_2 89 = .ok (.iconst 1, 1) := dk_4 (dk_at dksJ8_init_2_3 17 rfl rfl)
theorem dJ8_init_2_90 : decode cJ8_init_2 90 = .ok (.ishl, 1) := dk_120 (dk_at dksJ8_init_2_3 18 rfl rfl)
theorem dJ8_init_2_91 : decode cJ8_init_2 91 = .ok (.invokestatic 54, 3) := dk_184 0 54 (dk_at dksJ8_init_2_3 19 rfl rfl)
theorem dJ8_init_2_94 : decode cJ8_init_2 94 = .ok (.putfield 9, 3) := dk_181 0 9 (dk_at dksJ8_init_2_4 0 rfl rfl)
theorem dJ8_init_2_97 : decode cJ8_init_2 97 = .ok (.return_, 1) := dk_177 (dk_at dksJ8_init_2_4 3 rfl rfl)
abbrev cJ8_equals : ByteArray := prog_21_method_66_code
def yJ8_equals : MethodName := ⟨RJ8, "equals", "(Ljava/lang/Object;)Z"⟩
def dkwJ8_equals_2 : List UInt8 := [184, 2, 29, 153, 0, 7, 4, 167, 0, 4, 3, 172]
abbrev dktJ8_equals_2 : List UInt8 := dkwJ8_equals_2 ++ []
def dkwJ8_equals_1 : List UInt8 := [153, 0, 14, 42, 180, 0, 15, 44, 180, 0, 15, 160, 0, 21, 42, 180, 0, 9, 44, 180, 0, 9]
abbrev dktJ8_equals_1 : List UInt8 := dkwJ8_equals_1 ++ dktJ8_equals_2
def dkwJ8_equals_0 : List UInt8 := [42, 43, 166, 0, 5, 4, 172, 43, 193, 0, 10, 153, 0, 43, 43, 192, 0, 10, 77, 178, 0, 38]
abbrev dktJ8_equals_0 : List UInt8 := dkwJ8_equals_0 ++ dktJ8_equals_1
theorem dksJ8_equals_0 : cJ8_equals.data.toList.drop 0 = dktJ8_equals_0 := by decide +kernel
theorem dksJ8_equals_1 : cJ8_equals.data.toList.drop 22 = dktJ8_equals_1 := dk_seg dksJ8_equals_0 22 rfl rfl
theorem dksJ8_equals_2 : cJ8_equals.data.toList.drop 44 = dktJ8_equals_2 := dk_seg dksJ8_equals_1 22 rfl rfl
theorem dJ8_equals_0 : decode cJ8_equals 0 = .ok (.aload_n 0, 1) := dk_42 (dk_at dksJ8_equals_0 0 rfl rfl)
theorem dJ8_equals_1 : decode cJ8_equals 1 = .ok (.aload_n 1, 1) := dk_43 (dk_at dksJ8_equals_0 1 rfl rfl)
theorem dJ8_equals_2 : decode cJ8_equals 2 = .ok (.if_acmp .ne 5, 3) := dk_166 0 5 (dk_at dksJ8_equals_0 2 rfl rfl)
theorem dJ8_equals_5 : decode cJ8_equals 5 = .ok (.iconst 1, 1) := dk_4 (dk_at dksJ8_equals_0 5 rfl rfl)
theorem dJ8_equals_6 : decode cJ8_equals 6 = .ok (.ireturn, 1) := dk_172 (dk_at dksJ8_equals_0 6 rfl rfl)
theorem dJ8_equals_7 : decode cJ8_equals 7 = .ok (.aload_n 1, 1) := dk_43 (dk_at dksJ8_equals_0 7 rfl rfl)
theorem dJ8_equals_8 : decode cJ8_equals 8 = .ok (.instanceof 10, 3) := dk_193 0 10 (dk_at dksJ8_equals_0 8 rfl rfl)
theorem dJ8_equals_11 : decode cJ8_equals 11 = .ok (.ifCond .eq 43, 3) := dk_153 0 43 (dk_at dksJ8_equals_0 11 rfl rfl)
theorem dJ8_equals_14 : decode cJ8_equals 14 = .ok (.aload_n 1, 1) := dk_43 (dk_at dksJ8_equals_0 14 rfl rfl)
theorem dJ8_equals_15 : decode cJ8_equals 15 = .ok (.checkcast 10, 3) := dk_192 0 10 (dk_at dksJ8_equals_0 15 rfl rfl)
theorem dJ8_equals_18 : decode cJ8_equals 18 = .ok (.astore_n 2, 1) := dk_77 (dk_at dksJ8_equals_0 18 rfl rfl)
theorem dJ8_equals_19 : decode cJ8_equals 19 = .ok (.getstatic 38, 3) := dk_178 0 38 (dk_at dksJ8_equals_0 19 rfl rfl)
theorem dJ8_equals_22 : decode cJ8_equals 22 = .ok (.ifCond .eq 14, 3) := dk_153 0 14 (dk_at dksJ8_equals_1 0 rfl rfl)
theorem dJ8_equals_25 : decode cJ8_equals 25 = .ok (.aload_n 0, 1) := dk_42 (dk_at dksJ8_equals_1 3 rfl rfl)
theorem dJ8_equals_26 : decode cJ8_equals 26 = .ok (.getfield 15, 3) := dk_180 0 15 (dk_at dksJ8_equals_1 4 rfl rfl)
theorem dJ8_equals_29 : decode cJ8_equals 29 = .ok (.aload_n 2, 1) := dk_44 (dk_at dksJ8_equals_1 7 rfl rfl)
theorem dJ8_equals_30 : decode cJ8_equals 30 = .ok (.getfield 15, 3) := dk_180 0 15 (dk_at dksJ8_equals_1 8 rfl rfl)
theorem dJ8_equals_33 : decode cJ8_equals 33 = .ok (.if_icmp .ne 21, 3) := dk_160 0 21 (dk_at dksJ8_equals_1 11 rfl rfl)
theorem dJ8_equals_36 : decode cJ8_equals 36 = .ok (.aload_n 0, 1) := dk_42 (dk_at dksJ8_equals_1 14 rfl rfl)
theorem dJ8_equals_37 : decode cJ8_equals 37 = .ok (.getfield 9, 3) := dk_180 0 9 (dk_at dksJ8_equals_1 15 rfl rfl)
theorem dJ8_equals_40 : decode cJ8_equals 40 = .ok (.aload_n 2, 1) := dk_44 (dk_at dksJ8_equals_1 18 rfl rfl)
theorem dJ8_equals_41 : decode cJ8_equals 41 = .ok (.getfield 9, 3) := dk_180 0 9 (dk_at dksJ8_equals_1 19 rfl rfl)
theorem dJ8_equals_44 : decode cJ8_equals 44 = .ok (.invokestatic 541, 3) := dk_184 2 29 (dk_at dksJ8_equals_2 0 rfl rfl)
theorem dJ8_equals_47 : decode cJ8_equals 47 = .ok (.ifCond .eq 7, 3) := dk_153 0 7 (dk_at dksJ8_equals_2 3 rfl rfl)
theorem dJ8_equals_50 : decode cJ8_equals 50 = .ok (.iconst 1, 1) := dk_4 (dk_at dksJ8_equals_2 6 rfl rfl)
theorem dJ8_equals_51 : decode cJ8_equals 51 = .ok (.goto 4, 3) := dk_167 0 4 (dk_at dksJ8_equals_2 7 rfl rfl)
theorem dJ8_equals_54 : decode cJ8_equals 54 = .ok (.iconst 0, 1) := dk_3 (dk_at dksJ8_equals_2 10 rfl rfl)
theorem dJ8_equals_55 : decode cJ8_equals 55 = .ok (.ireturn, 1) := dk_172 (dk_at dksJ8_equals_2 11 rfl rfl)
abbrev cJ8_length : ByteArray := prog_21_method_54_code
def yJ8_length : MethodName := ⟨RJ8, "length", "()I"⟩
def dkwJ8_length_0 : List UInt8 := [42, 180, 0, 9, 190, 42, 182, 1, 79, 122, 172]
abbrev dktJ8_length_0 : List UInt8 := dkwJ8_length_0 ++ []
theorem dksJ8_length_0 : cJ8_length.data.toList.drop 0 = dktJ8_length_0 := by decide +kernel
theorem dJ8_length_0 : decode cJ8_length 0 = .ok (.aload_n 0, 1) := dk_42 (dk_at dksJ8_length_0 0 rfl rfl)
theorem dJ8_length_1 : decode cJ8_length 1 = .ok (.getfield 9, 3) := dk_180 0 9 (dk_at dksJ8_length_0 1 rfl rfl)
theorem dJ8_length_4 : decode cJ8_length 4 = .ok (.arraylength, 1) := dk_190 (dk_at dksJ8_length_0 4 rfl rfl)
theorem dJ8_length_5 : decode cJ8_length 5 = .ok (.aload_n 0, 1) := dk_42 (dk_at dksJ8_length_0 5 rfl rfl)
theorem dJ8_length_6 : decode cJ8_length 6 = .ok (.invokevirtual 335, 3) := dk_182 1 79 (dk_at dksJ8_length_0 6 rfl rfl)
theorem dJ8_length_9 : decode cJ8_length 9 = .ok (.ishr, 1) := dk_122 (dk_at dksJ8_length_0 9 rfl rfl)
theorem dJ8_length_10 : decode cJ8_length 10 = .ok (.ireturn, 1) := dk_172 (dk_at dksJ8_length_0 10 rfl rfl)
abbrev cJ8_coder : ByteArray := prog_21_method_152_code
def yJ8_coder : MethodName := ⟨RJ8, "coder", "()B"⟩
def dkwJ8_coder_0 : List UInt8 := [178, 0, 38, 153, 0, 10, 42, 180, 0, 15, 167, 0, 4, 4, 172]
abbrev dktJ8_coder_0 : List UInt8 := dkwJ8_coder_0 ++ []
theorem dksJ8_coder_0 : cJ8_coder.data.toList.drop 0 = dktJ8_coder_0 := by decide +kernel
theorem dJ8_coder_0 : decode cJ8_coder 0 = .ok (.getstatic 38, 3) := dk_178 0 38 (dk_at dksJ8_coder_0 0 rfl rfl)
theorem dJ8_coder_3 : decode cJ8_coder 3 = .ok (.ifCond .eq 10, 3) := dk_153 0 10 (dk_at dksJ8_coder_0 3 rfl rfl)
theorem dJ8_coder_6 : decode cJ8_coder 6 = .ok (.aload_n 0, 1) := dk_42 (dk_at dksJ8_coder_0 6 rfl rfl)
theorem dJ8_coder_7 : decode cJ8_coder 7 = .ok (.getfield 15, 3) := dk_180 0 15 (dk_at dksJ8_coder_0 7 rfl rfl)
theorem dJ8_coder_10 : decode cJ8_coder 10 = .ok (.goto 4, 3) := dk_167 0 4 (dk_at dksJ8_coder_0 10 rfl rfl)
theorem dJ8_coder_13 : decode cJ8_coder 13 = .ok (.iconst 1, 1) := dk_4 (dk_at dksJ8_coder_0 13 rfl rfl)
theorem dJ8_coder_14 : decode cJ8_coder 14 = .ok (.ireturn, 1) := dk_172 (dk_at dksJ8_coder_0 14 rfl rfl)
abbrev cJ8_getBytes : ByteArray := prog_21_method_147_code
def yJ8_getBytes : MethodName := ⟨RJ8, "getBytes", "([BIB)V"⟩
def dkwJ8_getBytes_1 : List UInt8 := [184, 0, 212, 167, 0, 18, 42, 180, 0, 9, 3, 43, 28, 42, 180, 0, 9, 190, 184, 0, 106, 177]
abbrev dktJ8_getBytes_1 : List UInt8 := dkwJ8_getBytes_1 ++ []
def dkwJ8_getBytes_0 : List UInt8 := [42, 182, 1, 79, 29, 160, 0, 23, 42, 180, 0, 9, 3, 43, 28, 29, 120, 42, 180, 0, 9, 190]
abbrev dktJ8_getBytes_0 : List UInt8 := dkwJ8_getBytes_0 ++ dktJ8_getBytes_1
theorem dksJ8_getBytes_0 : cJ8_getBytes.data.toList.drop 0 = dktJ8_getBytes_0 := by decide +kernel
theorem dksJ8_getBytes_1 : cJ8_getBytes.data.toList.drop 22 = dktJ8_getBytes_1 := dk_seg dksJ8_getBytes_0 22 rfl rfl
theorem dJ8_getBytes_0 : decode cJ8_getBytes 0 = .ok (.aload_n 0, 1) := dk_42 (dk_at dksJ8_getBytes_0 0 rfl rfl)
theorem dJ8_getBytes_1 : decode cJ8_getBytes 1 = .ok (.invokevirtual 335, 3) := dk_182 1 79 (dk_at dksJ8_getBytes_0 1 rfl rfl)
theorem dJ8_getBytes_4 : decode cJ8_getBytes 4 = .ok (.iload_n 3, 1) := dk_29 (dk_at dksJ8_getBytes_0 4 rfl rfl)
theorem dJ8_getBytes_5 : decode cJ8_getBytes 5 = .ok (.if_icmp .ne 23, 3) := dk_160 0 23 (dk_at dksJ8_getBytes_0 5 rfl rfl)
theorem dJ8_getBytes_8 : decode cJ8_getBytes 8 = .ok (.aload_n 0, 1) := dk_42 (dk_at dksJ8_getBytes_0 8 rfl rfl)
theorem dJ8_getBytes_9 : decode cJ8_getBytes 9 = .ok (.getfield 9, 3) := dk_180 0 9 (dk_at dksJ8_getBytes_0 9 rfl rfl)
theorem dJ8_getBytes_12 : decode cJ8_getBytes 12 = .ok (.iconst 0, 1) := dk_3 (dk_at dksJ8_getBytes_0 12 rfl rfl)
theorem dJ8_getBytes_13 : decode cJ8_getBytes 13 = .ok (.aload_n 1, 1) := dk_43 (dk_at dksJ8_getBytes_0 13 rfl rfl)
theorem dJ8_getBytes_14 : decode cJ8_getBytes 14 = .ok (.iload_n 2, 1) := dk_28 (dk_at dksJ8_getBytes_0 14 rfl rfl)
theorem dJ8_getBytes_15 : decode cJ8_getBytes 15 = .ok (.iload_n 3, 1) := dk_29 (dk_at dksJ8_getBytes_0 15 rfl rfl)
theorem dJ8_getBytes_16 : decode cJ8_getBytes 16 = .ok (.ishl, 1) := dk_120 (dk_at dksJ8_getBytes_0 16 rfl rfl)
theorem dJ8_getBytes_17 : decode cJ8_getBytes 17 = .ok (.aload_n 0, 1) := dk_42 (dk_at dksJ8_getBytes_0 17 rfl rfl)
theorem dJ8_getBytes_18 : decode cJ8_getBytes 18 = .ok (.getfield 9, 3) := dk_180 0 9 (dk_at dksJ8_getBytes_0 18 rfl rfl)
theorem dJ8_getBytes_21 : decode cJ8_getBytes 21 = .ok (.arraylength, 1) := dk_190 (dk_at dksJ8_getBytes_0 21 rfl rfl)
theorem dJ8_getBytes_22 : decode cJ8_getBytes 22 = .ok (.invokestatic 212, 3) := dk_184 0 212 (dk_at dksJ8_getBytes_1 0 rfl rfl)
theorem dJ8_getBytes_25 : decode cJ8_getBytes 25 = .ok (.goto 18, 3) := dk_167 0 18 (dk_at dksJ8_getBytes_1 3 rfl rfl)
theorem dJ8_getBytes_28 : decode cJ8_getBytes 28 = .ok (.aload_n 0, 1) := dk_42 (dk_at dksJ8_getBytes_1 6 rfl rfl)
theorem dJ8_getBytes_29 : decode cJ8_getBytes 29 = .ok (.getfield 9, 3) := dk_180 0 9 (dk_at dksJ8_getBytes_1 7 rfl rfl)
theorem dJ8_getBytes_32 : decode cJ8_getBytes 32 = .ok (.iconst 0, 1) := dk_3 (dk_at dksJ8_getBytes_1 10 rfl rfl)
theorem dJ8_getBytes_33 : decode cJ8_getBytes 33 = .ok (.aload_n 1, 1) := dk_43 (dk_at dksJ8_getBytes_1 11 rfl rfl)
theorem dJ8_getBytes_34 : decode cJ8_getBytes 34 = .ok (.iload_n 2, 1) := dk_28 (dk_at dksJ8_getBytes_1 12 rfl rfl)
theorem dJ8_getBytes_35 : decode cJ8_getBytes 35 = .ok (.aload_n 0, 1) := dk_42 (dk_at dksJ8_getBytes_1 13 rfl rfl)
theorem dJ8_getBytes_36 : decode cJ8_getBytes 36 = .ok (.getfield 9, 3) := dk_180 0 9 (dk_at dksJ8_getBytes_1 14 rfl rfl)
theorem dJ8_getBytes_39 : decode cJ8_getBytes 39 = .ok (.arraylength, 1) := dk_190 (dk_at dksJ8_getBytes_1 17 rfl rfl)
theorem dJ8_getBytes_40 : decode cJ8_getBytes 40 = .ok (.invokestatic 106, 3) := dk_184 0 106 (dk_at dksJ8_getBytes_1 18 rfl rfl)
theorem dJ8_getBytes_43 : decode cJ8_getBytes 43 = .ok (.return_, 1) := dk_177 (dk_at dksJ8_getBytes_1 21 rfl rfl)
abbrev cJ8_indexOf : ByteArray := prog_21_method_84_code
def yJ8_indexOf : MethodName := ⟨RJ8, "indexOf", "(Ljava/lang/String;)I"⟩
def dkwJ8_indexOf_2 : List UInt8 := [154, 0, 5, 2, 172, 42, 180, 0, 9, 43, 180, 0, 9, 184, 2, 138, 172]
abbrev dktJ8_indexOf_2 : List UInt8 := dkwJ8_indexOf_2 ++ []
def dkwJ8_indexOf_1 : List UInt8 := [43, 180, 0, 9, 184, 2, 135, 167, 0, 14, 42, 180, 0, 9, 43, 180, 0, 9, 184, 2, 137, 172, 28]
abbrev dktJ8_indexOf_1 : List UInt8 := dkwJ8_indexOf_1 ++ dktJ8_indexOf_2
def dkwJ8_indexOf_0 : List UInt8 := [42, 182, 1, 79, 61, 28, 43, 182, 1, 79, 160, 0, 36, 42, 182, 1, 236, 153, 0, 17, 42, 180, 0, 9]
abbrev dktJ8_indexOf_0 : List UInt8 := dkwJ8_indexOf_0 ++ dktJ8_indexOf_1
theorem dksJ8_indexOf_0 : cJ8_indexOf.data.toList.drop 0 = dktJ8_indexOf_0 := by decide +kernel
theorem dksJ8_indexOf_1 : cJ8_indexOf.data.toList.drop 24 = dktJ8_indexOf_1 := dk_seg dksJ8_indexOf_0 24 rfl rfl
theorem dksJ8_indexOf_2 : cJ8_indexOf.data.toList.drop 47 = dktJ8_indexOf_2 := dk_seg dksJ8_indexOf_1 23 rfl rfl
theorem dJ8_indexOf_0 : decode cJ8_indexOf 0 = .ok (.aload_n 0, 1) := dk_42 (dk_at dksJ8_indexOf_0 0 rfl rfl)
theorem dJ8_indexOf_1 : decode cJ8_indexOf 1 = .ok (.invokevirtual 335, 3) := dk_182 1 79 (dk_at dksJ8_indexOf_0 1 rfl rfl)
theorem dJ8_indexOf_4 : decode cJ8_indexOf 4 = .ok (.istore_n 2, 1) := dk_61 (dk_at dksJ8_indexOf_0 4 rfl rfl)
theorem dJ8_indexOf_5 : decode cJ8_indexOf 5 = .ok (.iload_n 2, 1) := dk_28 (dk_at dksJ8_indexOf_0 5 rfl rfl)
theorem dJ8_indexOf_6 : decode cJ8_indexOf 6 = .ok (.aload_n 1, 1) := dk_43 (dk_at dksJ8_indexOf_0 6 rfl rfl)
theorem dJ8_indexOf_7 : decode cJ8_indexOf 7 = .ok (.invokevirtual 335, 3) := dk_182 1 79 (dk_at dksJ8_indexOf_0 7 rfl rfl)
theorem dJ8_indexOf_10 : decode cJ8_indexOf 10 = .ok (.if_icmp .ne 36, 3) := dk_160 0 36 (dk_at dksJ8_indexOf_0 10 rfl rfl)
theorem dJ8_indexOf_13 : decode cJ8_indexOf 13 = .ok (.aload_n 0, 1) := dk_42 (dk_at dksJ8_indexOf_0 13 rfl rfl)
theorem dJ8_indexOf_14 : decode cJ8_indexOf 14 = .ok (.invokevirtual 492, 3) := dk_182 1 236 (dk_at dksJ8_indexOf_0 14 rfl rfl)
theorem dJ8_indexOf_17 : decode cJ8_indexOf 17 = .ok (.ifCond .eq 17, 3) := dk_153 0 17 (dk_at dksJ8_indexOf_0 17 rfl rfl)
theorem dJ8_indexOf_20 : decode cJ8_indexOf 20 = .ok (.aload_n 0, 1) := dk_42 (dk_at dksJ8_indexOf_0 20 rfl rfl)
theorem dJ8_indexOf_21 : decode cJ8_indexOf 21 = .ok (.getfield 9, 3) := dk_180 0 9 (dk_at dksJ8_indexOf_0 21 rfl rfl)
theorem dJ8_indexOf_24 : decode cJ8_indexOf 24 = .ok (.aload_n 1, 1) := dk_43 (dk_at dksJ8_indexOf_1 0 rfl rfl)
theorem dJ8_indexOf_25 : decode cJ8_indexOf 25 = .ok (.getfield 9, 3) := dk_180 0 9 (dk_at dksJ8_indexOf_1 1 rfl rfl)
theorem dJ8_indexOf_28 : decode cJ8_indexOf 28 = .ok (.invokestatic 647, 3) := dk_184 2 135 (dk_at dksJ8_indexOf_1 4 rfl rfl)
theorem dJ8_indexOf_31 : decode cJ8_indexOf 31 = .ok (.goto 14, 3) := dk_167 0 14 (dk_at dksJ8_indexOf_1 7 rfl rfl)
theorem dJ8_indexOf_34 : decode cJ8_indexOf 34 = .ok (.aload_n 0, 1) := dk_42 (dk_at dksJ8_indexOf_1 10 rfl rfl)
theorem dJ8_indexOf_35 : decode cJ8_indexOf 35 = .ok (.getfield 9, 3) := dk_180 0 9 (dk_at dksJ8_indexOf_1 11 rfl rfl)
theorem dJ8_indexOf_38 : decode cJ8_indexOf 38 = .ok (.aload_n 1, 1) := dk_43 (dk_at dksJ8_indexOf_1 14 rfl rfl)
theorem dJ8_indexOf_39 : decode cJ8_indexOf 39 = .ok (.getfield 9, 3) := dk_180 0 9 (dk_at dksJ8_indexOf_1 15 rfl rfl)
theorem dJ8_indexOf_42 : decode cJ8_indexOf 42 = .ok (.invokestatic 649, 3) := dk_184 2 137 (dk_at dksJ8_indexOf_1 18 rfl rfl)
theorem dJ8_indexOf_45 : decode cJ8_indexOf 45 = .ok (.ireturn, 1) := dk_172 (dk_at dksJ8_indexOf_1 21 rfl rfl)
theorem dJ8_indexOf_46 : decode cJ8_indexOf 46 = .ok (.iload_n 2, 1) := dk_28 (dk_at dksJ8_indexOf_1 22 rfl rfl)
theorem dJ8_indexOf_47 : decode cJ8_indexOf 47 = .ok (.ifCond .ne 5, 3) := dk_154 0 5 (dk_at dksJ8_indexOf_2 0 rfl rfl)
theorem dJ8_indexOf_50 : decode cJ8_indexOf 50 = .ok (.iconst (-1), 1) := dk_2 (dk_at dksJ8_indexOf_2 3 rfl rfl)
theorem dJ8_indexOf_51 : decode cJ8_indexOf 51 = .ok (.ireturn, 1) := dk_172 (dk_at dksJ8_indexOf_2 4 rfl rfl)
theorem dJ8_indexOf_52 : decode cJ8_indexOf 52 = .ok (.aload_n 0, 1) := dk_42 (dk_at dksJ8_indexOf_2 5 rfl rfl)
theorem dJ8_indexOf_53 : decode cJ8_indexOf 53 = .ok (.getfield 9, 3) := dk_180 0 9 (dk_at dksJ8_indexOf_2 6 rfl rfl)
theorem dJ8_indexOf_56 : decode cJ8_indexOf 56 = .ok (.aload_n 1, 1) := dk_43 (dk_at dksJ8_indexOf_2 9 rfl rfl)
theorem dJ8_indexOf_57 : decode cJ8_indexOf 57 = .ok (.getfield 9, 3) := dk_180 0 9 (dk_at dksJ8_indexOf_2 10 rfl rfl)
theorem dJ8_indexOf_60 : decode cJ8_indexOf 60 = .ok (.invokestatic 650, 3) := dk_184 2 138 (dk_at dksJ8_indexOf_2 13 rfl rfl)
theorem dJ8_indexOf_63 : decode cJ8_indexOf 63 = .ok (.ireturn, 1) := dk_172 (dk_at dksJ8_indexOf_2 16 rfl rfl)
abbrev cJ8_isLatin1 : ByteArray := prog_21_method_154_code
def yJ8_isLatin1 : MethodName := ⟨RJ8, "isLatin1", "()Z"⟩
def dkwJ8_isLatin1_0 : List UInt8 := [178, 0, 38, 153, 0, 14, 42, 180, 0, 15, 154, 0, 7, 4, 167, 0, 4, 3, 172]
abbrev dktJ8_isLatin1_0 : List UInt8 := dkwJ8_isLatin1_0 ++ []
theorem dksJ8_isLatin1_0 : cJ8_isLatin1.data.toList.drop 0 = dktJ8_isLatin1_0 := by decide +kernel
theorem dJ8_isLatin1_0 : decode cJ8_isLatin1 0 = .ok (.getstatic 38, 3) := dk_178 0 38 (dk_at dksJ8_isLatin1_0 0 rfl rfl)
theorem dJ8_isLatin1_3 : decode cJ8_isLatin1 3 = .ok (.ifCond .eq 14, 3) := dk_153 0 14 (dk_at dksJ8_isLatin1_0 3 rfl rfl)
theorem dJ8_isLatin1_6 : decode cJ8_isLatin1 6 = .ok (.aload_n 0, 1) := dk_42 (dk_at dksJ8_isLatin1_0 6 rfl rfl)
theorem dJ8_isLatin1_7 : decode cJ8_isLatin1 7 = .ok (.getfield 15, 3) := dk_180 0 15 (dk_at dksJ8_isLatin1_0 7 rfl rfl)
theorem dJ8_isLatin1_10 : decode cJ8_isLatin1 10 = .ok (.ifCond .ne 7, 3) := dk_154 0 7 (dk_at dksJ8_isLatin1_0 10 rfl rfl)
theorem dJ8_isLatin1_13 : decode cJ8_isLatin1 13 = .ok (.iconst 1, 1) := dk_4 (dk_at dksJ8_isLatin1_0 13 rfl rfl)
theorem dJ8_isLatin1_14 : decode cJ8_isLatin1 14 = .ok (.goto 4, 3) := dk_167 0 4 (dk_at dksJ8_isLatin1_0 14 rfl rfl)
theorem dJ8_isLatin1_17 : decode cJ8_isLatin1 17 = .ok (.iconst 0, 1) := dk_3 (dk_at dksJ8_isLatin1_0 17 rfl rfl)
theorem dJ8_isLatin1_18 : decode cJ8_isLatin1 18 = .ok (.ireturn, 1) := dk_172 (dk_at dksJ8_isLatin1_0 18 rfl rfl)
abbrev cX0_column : ByteArray := method_3_code
def yX0_column : MethodName := ⟨RX0, "column", "(LPlugHall;III[J)I"⟩
def dkwX0_column_0 : List UInt8 := [25, 4, 3, 42, 27, 28, 29, 182, 0, 7, 133, 80, 167, 0, 7, 58, 5, 4, 172, 3, 172]
abbrev dktX0_column_0 : List UInt8 := dkwX0_column_0 ++ []
theorem dksX0_column_0 : cX0_column.data.toList.drop 0 = dktX0_column_0 := by decide +kernel
theorem dX0_column_0 : decode cX0_column 0 = .ok (.aload 4, 2) := dk_25 4 (dk_at dksX0_column_0 0 rfl rfl)
theorem dX0_column_2 : decode cX0_column 2 = .ok (.iconst 0, 1) := dk_3 (dk_at dksX0_column_0 2 rfl rfl)
theorem dX0_column_3 : decode cX0_column 3 = .ok (.aload_n 0, 1) := dk_42 (dk_at dksX0_column_0 3 rfl rfl)
theorem dX0_column_4 : decode cX0_column 4 = .ok (.iload_n 1, 1) := dk_27 (dk_at dksX0_column_0 4 rfl rfl)
theorem dX0_column_5 : decode cX0_column 5 = .ok (.iload_n 2, 1) := dk_28 (dk_at dksX0_column_0 5 rfl rfl)
theorem dX0_column_6 : decode cX0_column 6 = .ok (.iload_n 3, 1) := dk_29 (dk_at dksX0_column_0 6 rfl rfl)
theorem dX0_column_7 : decode cX0_column 7 = .ok (.invokevirtual 7, 3) := dk_182 0 7 (dk_at dksX0_column_0 7 rfl rfl)
theorem dX0_column_10 : decode cX0_column 10 = .ok (.i2l, 1) := dk_133 (dk_at dksX0_column_0 10 rfl rfl)
theorem dX0_column_11 : decode cX0_column 11 = .ok (.lastore, 1) := dk_80 (dk_at dksX0_column_0 11 rfl rfl)
theorem dX0_column_12 : decode cX0_column 12 = .ok (.goto 7, 3) := dk_167 0 7 (dk_at dksX0_column_0 12 rfl rfl)
theorem dX0_column_15 : decode cX0_column 15 = .ok (.astore 5, 2) := dk_58 5 (dk_at dksX0_column_0 15 rfl rfl)
theorem dX0_column_17 : decode cX0_column 17 = .ok (.iconst 1, 1) := dk_4 (dk_at dksX0_column_0 17 rfl rfl)
theorem dX0_column_18 : decode cX0_column 18 = .ok (.ireturn, 1) := dk_172 (dk_at dksX0_column_0 18 rfl rfl)
theorem dX0_column_19 : decode cX0_column 19 = .ok (.iconst 0, 1) := dk_3 (dk_at dksX0_column_0 19 rfl rfl)
theorem dX0_column_20 : decode cX0_column 20 = .ok (.ireturn, 1) := dk_172 (dk_at dksX0_column_0 20 rfl rfl)
abbrev cX0_bar : ByteArray := method_4_code
def yX0_bar : MethodName := ⟨RX0, "bar", "(LPlugHall;II[J)I"⟩
def dkwX0_bar_0 : List UInt8 := [45, 3, 42, 27, 28, 182, 0, 15, 133, 80, 167, 0, 7, 58, 4, 4, 172, 3, 172]
abbrev dktX0_bar_0 : List UInt8 := dkwX0_bar_0 ++ []
theorem dksX0_bar_0 : cX0_bar.data.toList.drop 0 = dktX0_bar_0 := by decide +kernel
theorem dX0_bar_0 : decode cX0_bar 0 = .ok (.aload_n 3, 1) := dk_45 (dk_at dksX0_bar_0 0 rfl rfl)
theorem dX0_bar_1 : decode cX0_bar 1 = .ok (.iconst 0, 1) := dk_3 (dk_at dksX0_bar_0 1 rfl rfl)
theorem dX0_bar_2 : decode cX0_bar 2 = .ok (.aload_n 0, 1) := dk_42 (dk_at dksX0_bar_0 2 rfl rfl)
theorem dX0_bar_3 : decode cX0_bar 3 = .ok (.iload_n 1, 1) := dk_27 (dk_at dksX0_bar_0 3 rfl rfl)
theorem dX0_bar_4 : decode cX0_bar 4 = .ok (.iload_n 2, 1) := dk_28 (dk_at dksX0_bar_0 4 rfl rfl)
theorem dX0_bar_5 : decode cX0_bar 5 = .ok (.invokevirtual 15, 3) := dk_182 0 15 (dk_at dksX0_bar_0 5 rfl rfl)
theorem dX0_bar_8 : decode cX0_bar 8 = .ok (.i2l, 1) := dk_133 (dk_at dksX0_bar_0 8 rfl rfl)
theorem dX0_bar_9 : decode cX0_bar 9 = .ok (.lastore, 1) := dk_80 (dk_at dksX0_bar_0 9 rfl rfl)
theorem dX0_bar_10 : decode cX0_bar 10 = .ok (.goto 7, 3) := dk_167 0 7 (dk_at dksX0_bar_0 10 rfl rfl)
theorem dX0_bar_13 : decode cX0_bar 13 = .ok (.astore 4, 2) := dk_58 4 (dk_at dksX0_bar_0 13 rfl rfl)
theorem dX0_bar_15 : decode cX0_bar 15 = .ok (.iconst 1, 1) := dk_4 (dk_at dksX0_bar_0 15 rfl rfl)
theorem dX0_bar_16 : decode cX0_bar 16 = .ok (.ireturn, 1) := dk_172 (dk_at dksX0_bar_0 16 rfl rfl)
theorem dX0_bar_17 : decode cX0_bar 17 = .ok (.iconst 0, 1) := dk_3 (dk_at dksX0_bar_0 17 rfl rfl)
theorem dX0_bar_18 : decode cX0_bar 18 = .ok (.ireturn, 1) := dk_172 (dk_at dksX0_bar_0 18 rfl rfl)
abbrev cX0_wheel : ByteArray := method_5_code
def yX0_wheel : MethodName := ⟨RX0, "wheel", "(LPlugHall;I[J)I"⟩
def dkwX0_wheel_0 : List UInt8 := [44, 3, 42, 27, 182, 0, 19, 133, 80, 167, 0, 6, 78, 4, 172, 3, 172]
abbrev dktX0_wheel_0 : List UInt8 := dkwX0_wheel_0 ++ []
theorem dksX0_wheel_0 : cX0_wheel.data.toList.drop 0 = dktX0_wheel_0 := by decide +kernel
theorem dX0_wheel_0 : decode cX0_wheel 0 = .ok (.aload_n 2, 1) := dk_44 (dk_at dksX0_wheel_0 0 rfl rfl)
theorem dX0_wheel_1 : decode cX0_wheel 1 = .ok (.iconst 0, 1) := dk_3 (dk_at dksX0_wheel_0 1 rfl rfl)
theorem dX0_wheel_2 : decode cX0_wheel 2 = .ok (.aload_n 0, 1) := dk_42 (dk_at dksX0_wheel_0 2 rfl rfl)
theorem dX0_wheel_3 : decode cX0_wheel 3 = .ok (.iload_n 1, 1) := dk_27 (dk_at dksX0_wheel_0 3 rfl rfl)
theorem dX0_wheel_4 : decode cX0_wheel 4 = .ok (.invokevirtual 19, 3) := dk_182 0 19 (dk_at dksX0_wheel_0 4 rfl rfl)
theorem dX0_wheel_7 : decode cX0_wheel 7 = .ok (.i2l, 1) := dk_133 (dk_at dksX0_wheel_0 7 rfl rfl)
theorem dX0_wheel_8 : decode cX0_wheel 8 = .ok (.lastore, 1) := dk_80 (dk_at dksX0_wheel_0 8 rfl rfl)
theorem dX0_wheel_9 : decode cX0_wheel 9 = .ok (.goto 6, 3) := dk_167 0 6 (dk_at dksX0_wheel_0 9 rfl rfl)
theorem dX0_wheel_12 : decode cX0_wheel 12 = .ok (.astore_n 3, 1) := dk_78 (dk_at dksX0_wheel_0 12 rfl rfl)
theorem dX0_wheel_13 : decode cX0_wheel 13 = .ok (.iconst 1, 1) := dk_4 (dk_at dksX0_wheel_0 13 rfl rfl)
theorem dX0_wheel_14 : decode cX0_wheel 14 = .ok (.ireturn, 1) := dk_172 (dk_at dksX0_wheel_0 14 rfl rfl)
theorem dX0_wheel_15 : decode cX0_wheel 15 = .ok (.iconst 0, 1) := dk_3 (dk_at dksX0_wheel_0 15 rfl rfl)
theorem dX0_wheel_16 : decode cX0_wheel 16 = .ok (.ireturn, 1) := dk_172 (dk_at dksX0_wheel_0 16 rfl rfl)
abbrev cX0_wantedAt : ByteArray := method_6_code
def yX0_wantedAt : MethodName := ⟨RX0, "wantedAt", "(LPlugHall;II[J)I"⟩
def dkwX0_wantedAt_0 : List UInt8 := [45, 3, 42, 27, 28, 182, 0, 23, 133, 80, 167, 0, 7, 58, 4, 4, 172, 3, 172]
abbrev dktX0_wantedAt_0 : List UInt8 := dkwX0_wantedAt_0 ++ []
theorem dksX0_wantedAt_0 : cX0_wantedAt.data.toList.drop 0 = dktX0_wantedAt_0 := by decide +kernel
theorem dX0_wantedAt_0 : decode cX0_wantedAt 0 = .ok (.aload_n 3, 1) := dk_45 (dk_at dksX0_wantedAt_0 0 rfl rfl)
theorem dX0_wantedAt_1 : decode cX0_wantedAt 1 = .ok (.iconst 0, 1) := dk_3 (dk_at dksX0_wantedAt_0 1 rfl rfl)
theorem dX0_wantedAt_2 : decode cX0_wantedAt 2 = .ok (.aload_n 0, 1) := dk_42 (dk_at dksX0_wantedAt_0 2 rfl rfl)
theorem dX0_wantedAt_3 : decode cX0_wantedAt 3 = .ok (.iload_n 1, 1) := dk_27 (dk_at dksX0_wantedAt_0 3 rfl rfl)
theorem dX0_wantedAt_4 : decode cX0_wantedAt 4 = .ok (.iload_n 2, 1) := dk_28 (dk_at dksX0_wantedAt_0 4 rfl rfl)
theorem dX0_wantedAt_5 : decode cX0_wantedAt 5 = .ok (.invokevirtual 23, 3) := dk_182 0 23 (dk_at dksX0_wantedAt_0 5 rfl rfl)
theorem dX0_wantedAt_8 : decode cX0_wantedAt 8 = .ok (.i2l, 1) := dk_133 (dk_at dksX0_wantedAt_0 8 rfl rfl)
theorem dX0_wantedAt_9 : decode cX0_wantedAt 9 = .ok (.lastore, 1) := dk_80 (dk_at dksX0_wantedAt_0 9 rfl rfl)
theorem dX0_wantedAt_10 : decode cX0_wantedAt 10 = .ok (.goto 7, 3) := dk_167 0 7 (dk_at dksX0_wantedAt_0 10 rfl rfl)
theorem dX0_wantedAt_13 : decode cX0_wantedAt 13 = .ok (.astore 4, 2) := dk_58 4 (dk_at dksX0_wantedAt_0 13 rfl rfl)
theorem dX0_wantedAt_15 : decode cX0_wantedAt 15 = .ok (.iconst 1, 1) := dk_4 (dk_at dksX0_wantedAt_0 15 rfl rfl)
theorem dX0_wantedAt_16 : decode cX0_wantedAt 16 = .ok (.ireturn, 1) := dk_172 (dk_at dksX0_wantedAt_0 16 rfl rfl)
theorem dX0_wantedAt_17 : decode cX0_wantedAt 17 = .ok (.iconst 0, 1) := dk_3 (dk_at dksX0_wantedAt_0 17 rfl rfl)
theorem dX0_wantedAt_18 : decode cX0_wantedAt 18 = .ok (.ireturn, 1) := dk_172 (dk_at dksX0_wantedAt_0 18 rfl rfl)
abbrev cX10_init : ByteArray := prog_4_method_1_code
def yX10_init : MethodName := ⟨RX10, "<init>", "(II)V"⟩
def dkwX10_init_0 : List UInt8 := [42, 183, 0, 1, 42, 27, 181, 0, 7, 42, 28, 181, 0, 13, 177]
abbrev dktX10_init_0 : List UInt8 := dkwX10_init_0 ++ []
theorem dksX10_init_0 : cX10_init.data.toList.drop 0 = dktX10_init_0 := by decide +kernel
theorem dX10_init_0 : decode cX10_init 0 = .ok (.aload_n 0, 1) := dk_42 (dk_at dksX10_init_0 0 rfl rfl)
theorem dX10_init_1 : decode cX10_init 1 = .ok (.invokespecial 1, 3) := dk_183 0 1 (dk_at dksX10_init_0 1 rfl rfl)
theorem dX10_init_4 : decode cX10_init 4 = .ok (.aload_n 0, 1) := dk_42 (dk_at dksX10_init_0 4 rfl rfl)
theorem dX10_init_5 : decode cX10_init 5 = .ok (.iload_n 1, 1) := dk_27 (dk_at dksX10_init_0 5 rfl rfl)
theorem dX10_init_6 : decode cX10_init 6 = .ok (.putfield 7, 3) := dk_181 0 7 (dk_at dksX10_init_0 6 rfl rfl)
theorem dX10_init_9 : decode cX10_init 9 = .ok (.aload_n 0, 1) := dk_42 (dk_at dksX10_init_0 9 rfl rfl)
theorem dX10_init_10 : decode cX10_init 10 = .ok (.iload_n 2, 1) := dk_28 (dk_at dksX10_init_0 10 rfl rfl)
theorem dX10_init_11 : decode cX10_init 11 = .ok (.putfield 13, 3) := dk_181 0 13 (dk_at dksX10_init_0 11 rfl rfl)
theorem dX10_init_14 : decode cX10_init 14 = .ok (.return_, 1) := dk_177 (dk_at dksX10_init_0 14 rfl rfl)
abbrev cX11_init : ByteArray := prog_6_method_1_code
def yX11_init : MethodName := ⟨RX11, "<init>", "([BI)V"⟩
def dkwX11_init_0 : List UInt8 := [42, 43, 28, 17, 1, 44, 183, 0, 3, 42, 187, 0, 9, 89, 183, 0, 11, 181, 0, 14, 177]
abbrev dktX11_init_0 : List UInt8 := dkwX11_init_0 ++ []
theorem dksX11_init_0 : cX11_init.data.toList.drop 0 = dktX11_init_0 := by decide +kernel
theorem dX11_init_0 : decode cX11_init 0 = .ok (.aload_n 0, 1) := dk_42 (dk_at dksX11_init_0 0 rfl rfl)
theorem dX11_init_1 : decode cX11_init 1 = .ok (.aload_n 1, 1) := dk_43 (dk_at dksX11_init_0 1 rfl rfl)
theorem dX11_init_2 : decode cX11_init 2 = .ok (.iload_n 2, 1) := dk_28 (dk_at dksX11_init_0 2 rfl rfl)
theorem dX11_init_3 : decode cX11_init 3 = .ok (.sipush 300, 3) := dk_17 1 44 (dk_at dksX11_init_0 3 rfl rfl)
theorem dX11_init_6 : decode cX11_init 6 = .ok (.invokespecial 3, 3) := dk_183 0 3 (dk_at dksX11_init_0 6 rfl rfl)
theorem dX11_init_9 : decode cX11_init 9 = .ok (.aload_n 0, 1) := dk_42 (dk_at dksX11_init_0 9 rfl rfl)
theorem dX11_init_10 : decode cX11_init 10 = .ok (.new 9, 3) := dk_187 0 9 (dk_at dksX11_init_0 10 rfl rfl)
theorem dX11_init_13 : decode cX11_init 13 = .ok (.dup, 1) := dk_89 (dk_at dksX11_init_0 13 rfl rfl)
theorem dX11_init_14 : decode cX11_init 14 = .ok (.invokespecial 11, 3) := dk_183 0 11 (dk_at dksX11_init_0 14 rfl rfl)
theorem dX11_init_17 : decode cX11_init 17 = .ok (.putfield 14, 3) := dk_181 0 14 (dk_at dksX11_init_0 17 rfl rfl)
theorem dX11_init_20 : decode cX11_init 20 = .ok (.return_, 1) := dk_177 (dk_at dksX11_init_0 20 rfl rfl)
abbrev cX11_read : ByteArray := prog_6_method_3_code
def yX11_read : MethodName := ⟨RX11, "read", "()LPlugHall$Job;"⟩
def dkwX11_read_4 : List UInt8 := [182, 0, 54, 182, 0, 73, 42, 16, 59, 182, 0, 77, 167, 255, 155, 42, 180, 0, 14, 176]
abbrev dktX11_read_4 : List UInt8 := dkwX11_read_4 ++ []
def dkwX11_read_3 : List UInt8 := [167, 0, 29, 42, 18, 58, 182, 0, 54, 153, 0, 10, 42, 182, 0, 70, 167, 0, 13, 42, 42, 18, 60]
abbrev dktX11_read_3 : List UInt8 := dkwX11_read_3 ++ dktX11_read_4
def dkwX11_read_2 : List UInt8 := [4, 167, 0, 4, 3, 4, 182, 0, 64, 42, 18, 52, 182, 0, 54, 153, 0, 10, 42, 182, 0, 68]
abbrev dktX11_read_2 : List UInt8 := dkwX11_read_2 ++ dktX11_read_3
def dkwX11_read_1 : List UInt8 := [182, 0, 54, 154, 0, 21, 42, 18, 60, 182, 0, 54, 154, 0, 12, 42, 18, 62, 182, 0, 54, 153, 0, 7]
abbrev dktX11_read_1 : List UInt8 := dkwX11_read_1 ++ dktX11_read_2
def dkwX11_read_0 : List UInt8 := [42, 182, 0, 49, 42, 180, 0, 20, 153, 0, 100, 42, 42, 18, 52, 182, 0, 54, 154, 0, 30, 42, 18, 58]
abbrev dktX11_read_0 : List UInt8 := dkwX11_read_0 ++ dktX11_read_1
theorem dksX11_read_0 : cX11_read.data.toList.drop 0 = dktX11_read_0 := by decide +kernel
theorem dksX11_read_1 : cX11_read.data.toList.drop 24 = dktX11_read_1 := dk_seg dksX11_read_0 24 rfl rfl
theorem dksX11_read_2 : cX11_read.data.toList.drop 48 = dktX11_read_2 := dk_seg dksX11_read_1 24 rfl rfl
theorem dksX11_read_3 : cX11_read.data.toList.drop 70 = dktX11_read_3 := dk_seg dksX11_read_2 22 rfl rfl
theorem dksX11_read_4 : cX11_read.data.toList.drop 93 = dktX11_read_4 := dk_seg dksX11_read_3 23 rfl rfl
theorem dX11_read_0 : decode cX11_read 0 = .ok (.aload_n 0, 1) := dk_42 (dk_at dksX11_read_0 0 rfl rfl)
theorem dX11_read_1 : decode cX11_read 1 = .ok (.invokevirtual 49, 3) := dk_182 0 49 (dk_at dksX11_read_0 1 rfl rfl)
theorem dX11_read_4 : decode cX11_read 4 = .ok (.aload_n 0, 1) := dk_42 (dk_at dksX11_read_0 4 rfl rfl)
theorem dX11_read_5 : decode cX11_read 5 = .ok (.getfield 20, 3) := dk_180 0 20 (dk_at dksX11_read_0 5 rfl rfl)
theorem dX11_read_8 : decode cX11_read 8 = .ok (.ifCond .eq 100, 3) := dk_153 0 100 (dk_at dksX11_read_0 8 rfl rfl)
theorem dX11_read_11 : decode cX11_read 11 = .ok (.aload_n 0, 1) := dk_42 (dk_at dksX11_read_0 11 rfl rfl)
theorem dX11_read_12 : decode cX11_read 12 = .ok (.aload_n 0, 1) := dk_42 (dk_at dksX11_read_0 12 rfl rfl)
theorem dX11_read_13 : decode cX11_read 13 = .ok (.ldc 52, 2) := dk_18 52 (dk_at dksX11_read_0 13 rfl rfl)
theorem dX11_read_15 : decode cX11_read 15 = .ok (.invokevirtual 54, 3) := dk_182 0 54 (dk_at dksX11_read_0 15 rfl rfl)
theorem dX11_read_18 : decode cX11_read 18 = .ok (.ifCond .ne 30, 3) := dk_154 0 30 (dk_at dksX11_read_0 18 rfl rfl)
theorem dX11_read_21 : decode cX11_read 21 = .ok (.aload_n 0, 1) := dk_42 (dk_at dksX11_read_0 21 rfl rfl)
theorem dX11_read_22 : decode cX11_read 22 = .ok (.ldc 58, 2) := dk_18 58 (dk_at dksX11_read_0 22 rfl rfl)
theorem dX11_read_24 : decode cX11_read 24 = .ok (.invokevirtual 54, 3) := dk_182 0 54 (dk_at dksX11_read_1 0 rfl rfl)
theorem dX11_read_27 : decode cX11_read 27 = .ok (.ifCond .ne 21, 3) := dk_154 0 21 (dk_at dksX11_read_1 3 rfl rfl)
theorem dX11_read_30 : decode cX11_read 30 = .ok (.aload_n 0, 1) := dk_42 (dk_at dksX11_read_1 6 rfl rfl)
theorem dX11_read_31 : decode cX11_read 31 = .ok (.ldc 60, 2) := dk_18 60 (dk_at dksX11_read_1 7 rfl rfl)
theorem dX11_read_33 : decode cX11_read 33 = .ok (.invokevirtual 54, 3) := dk_182 0 54 (dk_at dksX11_read_1 9 rfl rfl)
theorem dX11_read_36 : decode cX11_read 36 = .ok (.ifCond .ne 12, 3) := dk_154 0 12 (dk_at dksX11_read_1 12 rfl rfl)
theorem dX11_read_39 : decode cX11_read 39 = .ok (.aload_n 0, 1) := dk_42 (dk_at dksX11_read_1 15 rfl rfl)
theorem dX11_read_40 : decode cX11_read 40 = .ok (.ldc 62, 2) := dk_18 62 (dk_at dksX11_read_1 16 rfl rfl)
theorem dX11_read_42 : decode cX11_read 42 = .ok (.invokevirtual 54, 3) := dk_182 0 54 (dk_at dksX11_read_1 18 rfl rfl)
theorem dX11_read_45 : decode cX11_read 45 = .ok (.ifCond .eq 7, 3) := dk_153 0 7 (dk_at dksX11_read_1 21 rfl rfl)
theorem dX11_read_48 : decode cX11_read 48 = .ok (.iconst 1, 1) := dk_4 (dk_at dksX11_read_2 0 rfl rfl)
theorem dX11_read_49 : decode cX11_read 49 = .ok (.goto 4, 3) := dk_167 0 4 (dk_at dksX11_read_2 1 rfl rfl)
theorem dX11_read_52 : decode cX11_read 52 = .ok (.iconst 0, 1) := dk_3 (dk_at dksX11_read_2 4 rfl rfl)
theorem dX11_read_53 : decode cX11_read 53 = .ok (.iconst 1, 1) := dk_4 (dk_at dksX11_read_2 5 rfl rfl)
theorem dX11_read_54 : decode cX11_read 54 = .ok (.invokevirtual 64, 3) := dk_182 0 64 (dk_at dksX11_read_2 6 rfl rfl)
theorem dX11_read_57 : decode cX11_read 57 = .ok (.aload_n 0, 1) := dk_42 (dk_at dksX11_read_2 9 rfl rfl)
theorem dX11_read_58 : decode cX11_read 58 = .ok (.ldc 52, 2) := dk_18 52 (dk_at dksX11_read_2 10 rfl rfl)
theorem dX11_read_60 : decode cX11_read 60 = .ok (.invokevirtual 54, 3) := dk_182 0 54 (dk_at dksX11_read_2 12 rfl rfl)
theorem dX11_read_63 : decode cX11_read 63 = .ok (.ifCond .eq 10, 3) := dk_153 0 10 (dk_at dksX11_read_2 15 rfl rfl)
theorem dX11_read_66 : decode cX11_read 66 = .ok (.aload_n 0, 1) := dk_42 (dk_at dksX11_read_2 18 rfl rfl)
theorem dX11_read_67 : decode cX11_read 67 = .ok (.invokevirtual 68, 3) := dk_182 0 68 (dk_at dksX11_read_2 19 rfl rfl)
theorem dX11_read_70 : decode cX11_read 70 = .ok (.goto 29, 3) := dk_167 0 29 (dk_at dksX11_read_3 0 rfl rfl)
theorem dX11_read_73 : decode cX11_read 73 = .ok (.aload_n 0, 1) := dk_42 (dk_at dksX11_read_3 3 rfl rfl)
theorem dX11_read_74 : decode cX11_read 74 = .ok (.ldc 58, 2) := dk_18 58 (dk_at dksX11_read_3 4 rfl rfl)
theorem dX11_read_76 : decode cX11_read 76 = .ok (.invokevirtual 54, 3) := dk_182 0 54 (dk_at dksX11_read_3 6 rfl rfl)
theorem dX11_read_79 : decode cX11_read 79 = .ok (.ifCond .eq 10, 3) := dk_153 0 10 (dk_at dksX11_read_3 9 rfl rfl)
theorem dX11_read_82 : decode cX11_read 82 = .ok (.aload_n 0, 1) := dk_42 (dk_at dksX11_read_3 12 rfl rfl)
theorem dX11_read_83 : decode cX11_read 83 = .ok (.invokevirtual 70, 3) := dk_182 0 70 (dk_at dksX11_read_3 13 rfl rfl)
theorem dX11_read_86 : decode cX11_read 86 = .ok (.goto 13, 3) := dk_167 0 13 (dk_at dksX11_read_3 16 rfl rfl)
theorem dX11_read_89 : decode cX11_read 89 = .ok (.aload_n 0, 1) := dk_42 (dk_at dksX11_read_3 19 rfl rfl)
theorem dX11_read_90 : decode cX11_read 90 = .ok (.aload_n 0, 1) := dk_42 (dk_at dksX11_read_3 20 rfl rfl)
theorem dX11_read_91 : decode cX11_read 91 = .ok (.ldc 60, 2) := dk_18 60 (dk_at dksX11_read_3 21 rfl rfl)
theorem dX11_read_93 : decode cX11_read 93 = .ok (.invokevirtual 54, 3) := dk_182 0 54 (dk_at dksX11_read_4 0 rfl rfl)
theorem dX11_read_96 : decode cX11_read 96 = .ok (.invokevirtual 73, 3) := dk_182 0 73 (dk_at dksX11_read_4 3 rfl rfl)
theorem dX11_read_99 : decode cX11_read 99 = .ok (.aload_n 0, 1) := dk_42 (dk_at dksX11_read_4 6 rfl rfl)
theorem dX11_read_100 : decode cX11_read 100 = .ok (.bipush 59, 2) := dk_16 59 (dk_at dksX11_read_4 7 rfl rfl)
theorem dX11_read_102 : decode cX11_read 102 = .ok (.invokevirtual 77, 3) := dk_182 0 77 (dk_at dksX11_read_4 9 rfl rfl)
theorem dX11_read_105 : decode cX11_read 105 = .ok (.goto (-101), 3) := dk_167 255 155 (dk_at dksX11_read_4 12 rfl rfl)
theorem dX11_read_108 : decode cX11_read 108 = .ok (.aload_n 0, 1) := dk_42 (dk_at dksX11_read_4 15 rfl rfl)
theorem dX11_read_109 : decode cX11_read 109 = .ok (.getfield 14, 3) := dk_180 0 14 (dk_at dksX11_read_4 16 rfl rfl)
theorem dX11_read_112 : decode cX11_read 112 = .ok (.areturn, 1) := dk_176 (dk_at dksX11_read_4 19 rfl rfl)
abbrev cX11_field : ByteArray := prog_6_method_4_code
def yX11_field : MethodName := ⟨RX11, "field", "()V"⟩
def dkwX11_field_6 : List UInt8 := [180, 0, 14, 89, 180, 0, 81, 4, 96, 181, 0, 81, 177]
abbrev dktX11_field_6 : List UInt8 := dkwX11_field_6 ++ []
def dkwX11_field_5 : List UInt8 := [180, 0, 81, 28, 79, 42, 180, 0, 14, 180, 0, 108, 42, 180, 0, 14, 180, 0, 81, 29, 79, 42]
abbrev dktX11_field_5 : List UInt8 := dkwX11_field_5 ++ dktX11_field_6
def dkwX11_field_4 : List UInt8 := [180, 0, 100, 42, 180, 0, 14, 180, 0, 81, 43, 83, 42, 180, 0, 14, 180, 0, 104, 42, 180, 0, 14]
abbrev dktX11_field_4 : List UInt8 := dkwX11_field_4 ++ dktX11_field_5
def dkwX11_field_3 : List UInt8 := [16, 20, 182, 0, 91, 61, 42, 28, 16, 20, 28, 8, 96, 184, 0, 95, 182, 0, 91, 62, 42, 180, 0, 14]
abbrev dktX11_field_3 : List UInt8 := dkwX11_field_3 ++ dktX11_field_4
def dkwX11_field_2 : List UInt8 := [2, 160, 0, 7, 4, 167, 0, 4, 3, 6, 182, 0, 64, 42, 180, 0, 35, 76, 42, 182, 0, 49, 42, 4]
abbrev dktX11_field_2 : List UInt8 := dkwX11_field_2 ++ dktX11_field_3
def dkwX11_field_1 : List UInt8 := [182, 0, 49, 42, 42, 182, 0, 84, 4, 182, 0, 64, 42, 42, 180, 0, 14, 42, 180, 0, 35, 182, 0, 88]
abbrev dktX11_field_1 : List UInt8 := dkwX11_field_1 ++ dktX11_field_2
def dkwX11_field_0 : List UInt8 := [42, 42, 180, 0, 14, 180, 0, 81, 16, 6, 162, 0, 7, 4, 167, 0, 4, 3, 7, 182, 0, 64, 42]
abbrev dktX11_field_0 : List UInt8 := dkwX11_field_0 ++ dktX11_field_1
theorem dksX11_field_0 : cX11_field.data.toList.drop 0 = dktX11_field_0 := by decide +kernel
theorem dksX11_field_1 : cX11_field.data.toList.drop 23 = dktX11_field_1 := dk_seg dksX11_field_0 23 rfl rfl
theorem dksX11_field_2 : cX11_field.data.toList.drop 47 = dktX11_field_2 := dk_seg dksX11_field_1 24 rfl rfl
theorem dksX11_field_3 : cX11_field.data.toList.drop 71 = dktX11_field_3 := dk_seg dksX11_field_2 24 rfl rfl
theorem dksX11_field_4 : cX11_field.data.toList.drop 95 = dktX11_field_4 := dk_seg dksX11_field_3 24 rfl rfl
theorem dksX11_field_5 : cX11_field.data.toList.drop 118 = dktX11_field_5 := dk_seg dksX11_field_4 23 rfl rfl
theorem dksX11_field_6 : cX11_field.data.toList.drop 140 = dktX11_field_6 := dk_seg dksX11_field_5 22 rfl rfl
theorem dX11_field_0 : decode cX11_field 0 = .ok (.aload_n 0, 1) := dk_42 (dk_at dksX11_field_0 0 rfl rfl)
theorem dX11_field_1 : decode cX11_field 1 = .ok (.aload_n 0, 1) := dk_42 (dk_at dksX11_field_0 1 rfl rfl)
theorem dX11_field_2 : decode cX11_field 2 = .ok (.getfield 14, 3) := dk_180 0 14 (dk_at dksX11_field_0 2 rfl rfl)
theorem dX11_field_5 : decode cX11_field 5 = .ok (.getfield 81, 3) := dk_180 0 81 (dk_at dksX11_field_0 5 rfl rfl)
theorem dX11_field_8 : decode cX11_field 8 = .ok (.bipush 6, 2) := dk_16 6 (dk_at dksX11_field_0 8 rfl rfl)
theorem dX11_field_10 : decode cX11_field 10 = .ok (.if_icmp .ge 7, 3) := dk_162 0 7 (dk_at dksX11_field_0 10 rfl rfl)
theorem dX11_field_13 : decode cX11_field 13 = .ok (.iconst 1, 1) := dk_4 (dk_at dksX11_field_0 13 rfl rfl)
theorem dX11_field_14 : decode cX11_field 14 = .ok (.goto 4, 3) := dk_167 0 4 (dk_at dksX11_field_0 14 rfl rfl)
theorem dX11_field_17 : decode cX11_field 17 = .ok (.iconst 0, 1) := dk_3 (dk_at dksX11_field_0 17 rfl rfl)
theorem dX11_field_18 : decode cX11_field 18 = .ok (.iconst 4, 1) := dk_7 (dk_at dksX11_field_0 18 rfl rfl)
theorem dX11_field_19 : decode cX11_field 19 = .ok (.invokevirtual 64, 3) := dk_182 0 64 (dk_at dksX11_field_0 19 rfl rfl)
theorem dX11_field_22 : decode cX11_field 22 = .ok (.aload_n 0, 1) := dk_42 (dk_at dksX11_field_0 22 rfl rfl)
theorem dX11_field_23 : decode cX11_field 23 = .ok (.invokevirtual 49, 3) := dk_182 0 49 (dk_at dksX11_field_1 0 rfl rfl)
theorem dX11_field_26 : decode cX11_field 26 = .ok (.aload_n 0, 1) := dk_42 (dk_at dksX11_field_1 3 rfl rfl)
theorem dX11_field_27 : decode cX11_field 27 = .ok (.aload_n 0, 1) := dk_42 (dk_at dksX11_field_1 4 rfl rfl)
theorem dX11_field_28 : decode cX11_field 28 = .ok (.invokevirtual 84, 3) := dk_182 0 84 (dk_at dksX11_field_1 5 rfl rfl)
theorem dX11_field_31 : decode cX11_field 31 = .ok (.iconst 1, 1) := dk_4 (dk_at dksX11_field_1 8 rfl rfl)
theorem dX11_field_32 : decode cX11_field 32 = .ok (.invokevirtual 64, 3) := dk_182 0 64 (dk_at dksX11_field_1 9 rfl rfl)
theorem dX11_field_35 : decode cX11_field 35 = .ok (.aload_n 0, 1) := dk_42 (dk_at dksX11_field_1 12 rfl rfl)
theorem dX11_field_36 : decode cX11_field 36 = .ok (.aload_n 0, 1) := dk_42 (dk_at dksX11_field_1 13 rfl rfl)
theorem dX11_field_37 : decode cX11_field 37 = .ok (.getfield 14, 3) := dk_180 0 14 (dk_at dksX11_field_1 14 rfl rfl)
theorem dX11_field_40 : decode cX11_field 40 = .ok (.aload_n 0, 1) := dk_42 (dk_at dksX11_field_1 17 rfl rfl)
theorem dX11_field_41 : decode cX11_field 41 = .ok (.getfield 35, 3) := dk_180 0 35 (dk_at dksX11_field_1 18 rfl rfl)
theorem dX11_field_44 : decode cX11_field 44 = .ok (.invokevirtual 88, 3) := dk_182 0 88 (dk_at dksX11_field_1 21 rfl rfl)
theorem dX11_field_47 : decode cX11_field 47 = .ok (.iconst (-1), 1) := dk_2 (dk_at dksX11_field_2 0 rfl rfl)
theorem dX11_field_48 : decode cX11_field 48 = .ok (.if_icmp .ne 7, 3) := dk_160 0 7 (dk_at dksX11_field_2 1 rfl rfl)
theorem dX11_field_51 : decode cX11_field 51 = .ok (.iconst 1, 1) := dk_4 (dk_at dksX11_field_2 4 rfl rfl)
theorem dX11_field_52 : decode cX11_field 52 = .ok (.goto 4, 3) := dk_167 0 4 (dk_at dksX11_field_2 5 rfl rfl)
theorem dX11_field_55 : decode cX11_field 55 = .ok (.iconst 0, 1) := dk_3 (dk_at dksX11_field_2 8 rfl rfl)
theorem dX11_field_56 : decode cX11_field 56 = .ok (.iconst 3, 1) := dk_6 (dk_at dksX11_field_2 9 rfl rfl)
theorem dX11_field_57 : decode cX11_field 57 = .ok (.invokevirtual 64, 3) := dk_182 0 64 (dk_at dksX11_field_2 10 rfl rfl)
theorem dX11_field_60 : decode cX11_field 60 = .ok (.aload_n 0, 1) := dk_42 (dk_at dksX11_field_2 13 rfl rfl)
theorem dX11_field_61 : decode cX11_field 61 = .ok (.getfield 35, 3) := dk_180 0 35 (dk_at dksX11_field_2 14 rfl rfl)
theorem dX11_field_64 : decode cX11_field 64 = .ok (.astore_n 1, 1) := dk_76 (dk_at dksX11_field_2 17 rfl rfl)
theorem dX11_field_65 : decode cX11_field 65 = .ok (.aload_n 0, 1) := dk_42 (dk_at dksX11_field_2 18 rfl rfl)
theorem dX11_field_66 : decode cX11_field 66 = .ok (.invokevirtual 49, 3) := dk_182 0 49 (dk_at dksX11_field_2 19 rfl rfl)
theorem dX11_field_69 : decode cX11_field 69 = .ok (.aload_n 0, 1) := dk_42 (dk_at dksX11_field_2 22 rfl rfl)
theorem dX11_field_70 : decode cX11_field 70 = .ok (.iconst 1, 1) := dk_4 (dk_at dksX11_field_2 23 rfl rfl)
theorem dX11_field_71 : decode cX11_field 71 = .ok (.bipush 20, 2) := dk_16 20 (dk_at dksX11_field_3 0 rfl rfl)
theorem dX11_field_73 : decode cX11_field 73 = .ok (.invokevirtual 91, 3) := dk_182 0 91 (dk_at dksX11_field_3 2 rfl rfl)
theorem dX11_field_76 : decode cX11_field 76 = .ok (.istore_n 2, 1) := dk_61 (dk_at dksX11_field_3 5 rfl rfl)
theorem dX11_field_77 : decode cX11_field 77 = .ok (.aload_n 0, 1) := dk_42 (dk_at dksX11_field_3 6 rfl rfl)
theorem dX11_field_78 : decode cX11_field 78 = .ok (.iload_n 2, 1) := dk_28 (dk_at dksX11_field_3 7 rfl rfl)
theorem dX11_field_79 : decode cX11_field 79 = .ok (.bipush 20, 2) := dk_16 20 (dk_at dksX11_field_3 8 rfl rfl)
theorem dX11_field_81 : decode cX11_field 81 = .ok (.iload_n 2, 1) := dk_28 (dk_at dksX11_field_3 10 rfl rfl)
theorem dX11_field_82 : decode cX11_field 82 = .ok (.iconst 5, 1) := dk_8 (dk_at dksX11_field_3 11 rfl rfl)
theorem dX11_field_83 : decode cX11_field 83 = .ok (.iadd, 1) := dk_96 (dk_at dksX11_field_3 12 rfl rfl)
theorem dX11_field_84 : decode cX11_field 84 = .ok (.invokestatic 95, 3) := dk_184 0 95 (dk_at dksX11_field_3 13 rfl rfl)
theorem dX11_field_87 : decode cX11_field 87 = .ok (.invokevirtual 91, 3) := dk_182 0 91 (dk_at dksX11_field_3 16 rfl rfl)
theorem dX11_field_90 : decode cX11_field 90 = .ok (.istore_n 3, 1) := dk_62 (dk_at dksX11_field_3 19 rfl rfl)
theorem dX11_field_91 : decode cX11_field 91 = .ok (.aload_n 0, 1) := dk_42 (dk_at dksX11_field_3 20 rfl rfl)
theorem dX11_field_92 : decode cX11_field 92 = .ok (.getfield 14, 3) := dk_180 0 14 (dk_at dksX11_field_3 21 rfl rfl)
theorem dX11_field_95 : decode cX11_field 95 = .ok (.getfield 100, 3) := dk_180 0 100 (dk_at dksX11_field_4 0 rfl rfl)
theorem dX11_field_98 : decode cX11_field 98 = .ok (.aload_n 0, 1) := dk_42 (dk_at dksX11_field_4 3 rfl rfl)
theorem dX11_field_99 : decode cX11_field 99 = .ok (.getfield 14, 3) := dk_180 0 14 (dk_at dksX11_field_4 4 rfl rfl)
theorem dX11_field_102 : decode cX11_field 102 = .ok (.getfield 81, 3) := dk_180 0 81 (dk_at dksX11_field_4 7 rfl rfl)
theorem dX11_field_105 : decode cX11_field 105 = .ok (.aload_n 1, 1) := dk_43 (dk_at dksX11_field_4 10 rfl rfl)
theorem dX11_field_106 : decode cX11_field 106 = .ok (.aastore, 1) := dk_83 (dk_at dksX11_field_4 11 rfl rfl)
theorem dX11_field_107 : decode cX11_field 107 = .ok (.aload_n 0, 1) := dk_42 (dk_at dksX11_field_4 12 rfl rfl)
theorem dX11_field_108 : decode cX11_field 108 = .ok (.getfield 14, 3) := dk_180 0 14 (dk_at dksX11_field_4 13 rfl rfl)
theorem dX11_field_111 : decode cX11_field 111 = .ok (.getfield 104, 3) := dk_180 0 104 (dk_at dksX11_field_4 16 rfl rfl)
theorem dX11_field_114 : decode cX11_field 114 = .ok (.aload_n 0, 1) := dk_42 (dk_at dksX11_field_4 19 rfl rfl)
theorem dX11_field_115 : decode cX11_field 115 = .ok (.getfield 14, 3) := dk_180 0 14 (dk_at dksX11_field_4 20 rfl rfl)
theorem dX11_field_118 : decode cX11_field 118 = .ok (.getfield 81, 3) := dk_180 0 81 (dk_at dksX11_field_5 0 rfl rfl)
theorem dX11_field_121 : decode cX11_field 121 = .ok (.iload_n 2, 1) := dk_28 (dk_at dksX11_field_5 3 rfl rfl)
theorem dX11_field_122 : decode cX11_field 122 = .ok (.iastore, 1) := dk_79 (dk_at dksX11_field_5 4 rfl rfl)
theorem dX11_field_123 : decode cX11_field 123 = .ok (.aload_n 0, 1) := dk_42 (dk_at dksX11_field_5 5 rfl rfl)
theorem dX11_field_124 : decode cX11_field 124 = .ok (.getfield 14, 3) := dk_180 0 14 (dk_at dksX11_field_5 6 rfl rfl)
theorem dX11_field_127 : decode cX11_field 127 = .ok (.getfield 108, 3) := dk_180 0 108 (dk_at dksX11_field_5 9 rfl rfl)
theorem dX11_field_130 : decode cX11_field 130 = .ok (.aload_n 0, 1) := dk_42 (dk_at dksX11_field_5 12 rfl rfl)
theorem dX11_field_131 : decode cX11_field 131 = .ok (.getfield 14, 3) := dk_180 0 14 (dk_at dksX11_field_5 13 rfl rfl)
theorem dX11_field_134 : decode cX11_field 134 = .ok (.getfield 81, 3) := dk_180 0 81 (dk_at dksX11_field_5 16 rfl rfl)
theorem dX11_field_137 : decode cX11_field 137 = .ok (.iload_n 3, 1) := dk_29 (dk_at dksX11_field_5 19 rfl rfl)
theorem dX11_field_138 : decode cX11_field 138 = .ok (.iastore, 1) := dk_79 (dk_at dksX11_field_5 20 rfl rfl)
theorem dX11_field_139 : decode cX11_field 139 = .ok (.aload_n 0, 1) := dk_42 (dk_at dksX11_field_5 21 rfl rfl)
theorem dX11_field_140 : decode cX11_field 140 = .ok (.getfield 14, 3) := dk_180 0 14 (dk_at dksX11_field_6 0 rfl rfl)
theorem dX11_field_143 : decode cX11_field 143 = .ok (.dup, 1) := dk_89 (dk_at dksX11_field_6 3 rfl rfl)
theorem dX11_field_144 : decode cX11_field 144 = .ok (.getfield 81, 3) := dk_180 0 81 (dk_at dksX11_field_6 4 rfl rfl)
theorem dX11_field_147 : decode cX11_field 147 = .ok (.iconst 1, 1) := dk_4 (dk_at dksX11_field_6 7 rfl rfl)
theorem dX11_field_148 : decode cX11_field 148 = .ok (.iadd, 1) := dk_96 (dk_at dksX11_field_6 8 rfl rfl)
theorem dX11_field_149 : decode cX11_field 149 = .ok (.putfield 81, 3) := dk_181 0 81 (dk_at dksX11_field_6 9 rfl rfl)
theorem dX11_field_152 : decode cX11_field 152 = .ok (.return_, 1) := dk_177 (dk_at dksX11_field_6 12 rfl rfl)
abbrev cX11_isName : ByteArray := prog_6_method_2_code
def yX11_isName : MethodName := ⟨RX11, "isName", "()Z"⟩
def dkwX11_isName_2 : List UInt8 := [3, 172]
abbrev dktX11_isName_2 : List UInt8 := dkwX11_isName_2 ++ []
def dkwX11_isName_1 : List UInt8 := [180, 0, 35, 182, 0, 31, 18, 29, 182, 0, 31, 182, 0, 39, 182, 0, 43, 156, 0, 7, 4, 167, 0, 4]
abbrev dktX11_isName_1 : List UInt8 := dkwX11_isName_1 ++ dktX11_isName_2
def dkwX11_isName_0 : List UInt8 := [42, 180, 0, 20, 5, 160, 0, 42, 18, 24, 187, 0, 26, 89, 183, 0, 28, 18, 29, 182, 0, 31, 42]
abbrev dktX11_isName_0 : List UInt8 := dkwX11_isName_0 ++ dktX11_isName_1
theorem dksX11_isName_0 : cX11_isName.data.toList.drop 0 = dktX11_isName_0 := by decide +kernel
theorem dksX11_isName_1 : cX11_isName.data.toList.drop 23 = dktX11_isName_1 := dk_seg dksX11_isName_0 23 rfl rfl
theorem dksX11_isName_2 : cX11_isName.data.toList.drop 47 = dktX11_isName_2 := dk_seg dksX11_isName_1 24 rfl rfl
theorem dX11_isName_0 : decode cX11_isName 0 = .ok (.aload_n 0, 1) := dk_42 (dk_at dksX11_isName_0 0 rfl rfl)
theorem dX11_isName_1 : decode cX11_isName 1 = .ok (.getfield 20, 3) := dk_180 0 20 (dk_at dksX11_isName_0 1 rfl rfl)
theorem dX11_isName_4 : decode cX11_isName 4 = .ok (.iconst 2, 1) := dk_5 (dk_at dksX11_isName_0 4 rfl rfl)
theorem dX11_isName_5 : decode cX11_isName 5 = .ok (.if_icmp .ne 42, 3) := dk_160 0 42 (dk_at dksX11_isName_0 5 rfl rfl)
theorem dX11_isName_8 : decode cX11_isName 8 = .ok (.ldc 24, 2) := dk_18 24 (dk_at dksX11_isName_0 8 rfl rfl)
theorem dX11_isName_10 : decode cX11_isName 10 = .ok (.new 26, 3) := dk_187 0 26 (dk_at dksX11_isName_0 10 rfl rfl)
theorem dX11_isName_13 : decode cX11_isName 13 = .ok (.dup, 1) := dk_89 (dk_at dksX11_isName_0 13 rfl rfl)
theorem dX11_isName_14 : decode cX11_isName 14 = .ok (.invokespecial 28, 3) := dk_183 0 28 (dk_at dksX11_isName_0 14 rfl rfl)
theorem dX11_isName_17 : decode cX11_isName 17 = .ok (.ldc 29, 2) := dk_18 29 (dk_at dksX11_isName_0 17 rfl rfl)
theorem dX11_isName_19 : decode cX11_isName 19 = .ok (.invokevirtual 31, 3) := dk_182 0 31 (dk_at dksX11_isName_0 19 rfl rfl)
theorem dX11_isName_22 : decode cX11_isName 22 = .ok (.aload_n 0, 1) := dk_42 (dk_at dksX11_isName_0 22 rfl rfl)
theorem dX11_isName_23 : decode cX11_isName 23 = .ok (.getfield 35, 3) := dk_180 0 35 (dk_at dksX11_isName_1 0 rfl rfl)
theorem dX11_isName_26 : decode cX11_isName 26 = .ok (.invokevirtual 31, 3) := dk_182 0 31 (dk_at dksX11_isName_1 3 rfl rfl)
theorem dX11_isName_29 : decode cX11_isName 29 = .ok (.ldc 29, 2) := dk_18 29 (dk_at dksX11_isName_1 6 rfl rfl)
theorem dX11_isName_31 : decode cX11_isName 31 = .ok (.invokevirtual 31, 3) := dk_182 0 31 (dk_at dksX11_isName_1 8 rfl rfl)
theorem dX11_isName_34 : decode cX11_isName 34 = .ok (.invokevirtual 39, 3) := dk_182 0 39 (dk_at dksX11_isName_1 11 rfl rfl)
theorem dX11_isName_37 : decode cX11_isName 37 = .ok (.invokevirtual 43, 3) := dk_182 0 43 (dk_at dksX11_isName_1 14 rfl rfl)
theorem dX11_isName_40 : decode cX11_isName 40 = .ok (.ifCond .ge 7, 3) := dk_156 0 7 (dk_at dksX11_isName_1 17 rfl rfl)
theorem dX11_isName_43 : decode cX11_isName 43 = .ok (.iconst 1, 1) := dk_4 (dk_at dksX11_isName_1 20 rfl rfl)
theorem dX11_isName_44 : decode cX11_isName 44 = .ok (.goto 4, 3) := dk_167 0 4 (dk_at dksX11_isName_1 21 rfl rfl)
theorem dX11_isName_47 : decode cX11_isName 47 = .ok (.iconst 0, 1) := dk_3 (dk_at dksX11_isName_2 0 rfl rfl)
theorem dX11_isName_48 : decode cX11_isName 48 = .ok (.ireturn, 1) := dk_172 (dk_at dksX11_isName_2 1 rfl rfl)
abbrev cX11_breaks : ByteArray := prog_6_method_5_code
def yX11_breaks : MethodName := ⟨RX11, "breaks", "()V"⟩
def dkwX11_breaks_3 : List UInt8 := [182, 0, 64, 42, 180, 0, 14, 180, 0, 117, 42, 180, 0, 111, 4, 100, 27, 79, 42, 182, 0, 49, 177]
abbrev dktX11_breaks_3 : List UInt8 := dkwX11_breaks_3 ++ []
def dkwX11_breaks_2 : List UInt8 := [180, 0, 14, 180, 0, 117, 42, 180, 0, 111, 4, 100, 46, 154, 0, 7, 4, 167, 0, 4, 3, 6]
abbrev dktX11_breaks_2 : List UInt8 := dkwX11_breaks_2 ++ dktX11_breaks_3
def dkwX11_breaks_1 : List UInt8 := [167, 0, 4, 3, 4, 182, 0, 64, 42, 42, 180, 0, 111, 4, 6, 184, 0, 113, 5, 182, 0, 64, 42, 42]
abbrev dktX11_breaks_1 : List UInt8 := dkwX11_breaks_1 ++ dktX11_breaks_2
def dkwX11_breaks_0 : List UInt8 := [42, 182, 0, 49, 42, 4, 16, 20, 182, 0, 91, 60, 42, 42, 180, 0, 20, 6, 160, 0, 7, 4]
abbrev dktX11_breaks_0 : List UInt8 := dkwX11_breaks_0 ++ dktX11_breaks_1
theorem dksX11_breaks_0 : cX11_breaks.data.toList.drop 0 = dktX11_breaks_0 := by decide +kernel
theorem dksX11_breaks_1 : cX11_breaks.data.toList.drop 22 = dktX11_breaks_1 := dk_seg dksX11_breaks_0 22 rfl rfl
theorem dksX11_breaks_2 : cX11_breaks.data.toList.drop 46 = dktX11_breaks_2 := dk_seg dksX11_breaks_1 24 rfl rfl
theorem dksX11_breaks_3 : cX11_breaks.data.toList.drop 68 = dktX11_breaks_3 := dk_seg dksX11_breaks_2 22 rfl rfl
theorem dX11_breaks_0 : decode cX11_breaks 0 = .ok (.aload_n 0, 1) := dk_42 (dk_at dksX11_breaks_0 0 rfl rfl)
theorem dX11_breaks_1 : decode cX11_breaks 1 = .ok (.invokevirtual 49, 3) := dk_182 0 49 (dk_at dksX11_breaks_0 1 rfl rfl)
theorem dX11_breaks_4 : decode cX11_breaks 4 = .ok (.aload_n 0, 1) := dk_42 (dk_at dksX11_breaks_0 4 rfl rfl)
theorem dX11_breaks_5 : decode cX11_breaks 5 = .ok (.iconst 1, 1) := dk_4 (dk_at dksX11_breaks_0 5 rfl rfl)
theorem dX11_breaks_6 : decode cX11_breaks 6 = .ok (.bipush 20, 2) := dk_16 20 (dk_at dksX11_breaks_0 6 rfl rfl)
theorem dX11_breaks_8 : decode cX11_breaks 8 = .ok (.invokevirtual 91, 3) := dk_182 0 91 (dk_at dksX11_breaks_0 8 rfl rfl)
theorem dX11_breaks_11 : decode cX11_breaks 11 = .ok (.istore_n 1, 1) := dk_60 (dk_at dksX11_breaks_0 11 rfl rfl)
theorem dX11_breaks_12 : decode cX11_breaks 12 = .ok (.aload_n 0, 1) := dk_42 (dk_at dksX11_breaks_0 12 rfl rfl)
theorem dX11_breaks_13 : decode cX11_breaks 13 = .ok (.aload_n 0, 1) := dk_42 (dk_at dksX11_breaks_0 13 rfl rfl)
theorem dX11_breaks_14 : decode cX11_breaks 14 = .ok (.getfield 20, 3) := dk_180 0 20 (dk_at dksX11_breaks_0 14 rfl rfl)
theorem dX11_breaks_17 : decode cX11_breaks 17 = .ok (.iconst 3, 1) := dk_6 (dk_at dksX11_breaks_0 17 rfl rfl)
theorem dX11_breaks_18 : decode cX11_breaks 18 = .ok (.if_icmp .ne 7, 3) := dk_160 0 7 (dk_at dksX11_breaks_0 18 rfl rfl)
theorem dX11_breaks_21 : decode cX11_breaks 21 = .ok (.iconst 1, 1) := dk_4 (dk_at dksX11_breaks_0 21 rfl rfl)
theorem dX11_breaks_22 : decode cX11_breaks 22 = .ok (.goto 4, 3) := dk_167 0 4 (dk_at dksX11_breaks_1 0 rfl rfl)
theorem dX11_breaks_25 : decode cX11_breaks 25 = .ok (.iconst 0, 1) := dk_3 (dk_at dksX11_breaks_1 3 rfl rfl)
theorem dX11_breaks_26 : decode cX11_breaks 26 = .ok (.iconst 1, 1) := dk_4 (dk_at dksX11_breaks_1 4 rfl rfl)
theorem dX11_breaks_27 : decode cX11_breaks 27 = .ok (.invokevirtual 64, 3) := dk_182 0 64 (dk_at dksX11_breaks_1 5 rfl rfl)
theorem dX11_breaks_30 : decode cX11_breaks 30 = .ok (.aload_n 0, 1) := dk_42 (dk_at dksX11_breaks_1 8 rfl rfl)
theorem dX11_breaks_31 : decode cX11_breaks 31 = .ok (.aload_n 0, 1) := dk_42 (dk_at dksX11_breaks_1 9 rfl rfl)
theorem dX11_breaks_32 : decode cX11_breaks 32 = .ok (.getfield 111, 3) := dk_180 0 111 (dk_at dksX11_breaks_1 10 rfl rfl)
theorem dX11_breaks_35 : decode cX11_breaks 35 = .ok (.iconst 1, 1) := dk_4 (dk_at dksX11_breaks_1 13 rfl rfl)
theorem dX11_breaks_36 : decode cX11_breaks 36 = .ok (.iconst 3, 1) := dk_6 (dk_at dksX11_breaks_1 14 rfl rfl)
theorem dX11_breaks_37 : decode cX11_breaks 37 = .ok (.invokestatic 113, 3) := dk_184 0 113 (dk_at dksX11_breaks_1 15 rfl rfl)
theorem dX11_breaks_40 : decode cX11_breaks 40 = .ok (.iconst 2, 1) := dk_5 (dk_at dksX11_breaks_1 18 rfl rfl)
theorem dX11_breaks_41 : decode cX11_breaks 41 = .ok (.invokevirtual 64, 3) := dk_182 0 64 (dk_at dksX11_breaks_1 19 rfl rfl)
theorem dX11_breaks_44 : decode cX11_breaks 44 = .ok (.aload_n 0, 1) := dk_42 (dk_at dksX11_breaks_1 22 rfl rfl)
theorem dX11_breaks_45 : decode cX11_breaks 45 = .ok (.aload_n 0, 1) := dk_42 (dk_at dksX11_breaks_1 23 rfl rfl)
theorem dX11_breaks_46 : decode cX11_breaks 46 = .ok (.getfield 14, 3) := dk_180 0 14 (dk_at dksX11_breaks_2 0 rfl rfl)
theorem dX11_breaks_49 : decode cX11_breaks 49 = .ok (.getfield 117, 3) := dk_180 0 117 (dk_at dksX11_breaks_2 3 rfl rfl)
theorem dX11_breaks_52 : decode cX11_breaks 52 = .ok (.aload_n 0, 1) := dk_42 (dk_at dksX11_breaks_2 6 rfl rfl)
theorem dX11_breaks_53 : decode cX11_breaks 53 = .ok (.getfield 111, 3) := dk_180 0 111 (dk_at dksX11_breaks_2 7 rfl rfl)
theorem dX11_breaks_56 : decode cX11_breaks 56 = .ok (.iconst 1, 1) := dk_4 (dk_at dksX11_breaks_2 10 rfl rfl)
theorem dX11_breaks_57 : decode cX11_breaks 57 = .ok (.isub, 1) := dk_100 (dk_at dksX11_breaks_2 11 rfl rfl)
theorem dX11_breaks_58 : decode cX11_breaks 58 = .ok (.iaload, 1) := dk_46 (dk_at dksX11_breaks_2 12 rfl rfl)
theorem dX11_breaks_59 : decode cX11_breaks 59 = .ok (.ifCond .ne 7, 3) := dk_154 0 7 (dk_at dksX11_breaks_2 13 rfl rfl)
theorem dX11_breaks_62 : decode cX11_breaks 62 = .ok (.iconst 1, 1) := dk_4 (dk_at dksX11_breaks_2 16 rfl rfl)
theorem dX11_breaks_63 : decode cX11_breaks 63 = .ok (.goto 4, 3) := dk_167 0 4 (dk_at dksX11_breaks_2 17 rfl rfl)
theorem dX11_breaks_66 : decode cX11_breaks 66 = .ok (.iconst 0, 1) := dk_3 (dk_at dksX11_breaks_2 20 rfl rfl)
theorem dX11_breaks_67 : decode cX11_breaks 67 = .ok (.iconst 3, 1) := dk_6 (dk_at dksX11_breaks_2 21 rfl rfl)
theorem dX11_breaks_68 : decode cX11_breaks 68 = .ok (.invokevirtual 64, 3) := dk_182 0 64 (dk_at dksX11_breaks_3 0 rfl rfl)
theorem dX11_breaks_71 : decode cX11_breaks 71 = .ok (.aload_n 0, 1) := dk_42 (dk_at dksX11_breaks_3 3 rfl rfl)
theorem dX11_breaks_72 : decode cX11_breaks 72 = .ok (.getfield 14, 3) := dk_180 0 14 (dk_at dksX11_breaks_3 4 rfl rfl)
theorem dX11_breaks_75 : decode cX11_breaks 75 = .ok (.getfield 117, 3) := dk_180 0 117 (dk_at dksX11_breaks_3 7 rfl rfl)
theorem dX11_breaks_78 : decode cX11_breaks 78 = .ok (.aload_n 0, 1) := dk_42 (dk_at dksX11_breaks_3 10 rfl rfl)
theorem dX11_breaks_79 : decode cX11_breaks 79 = .ok (.getfield 111, 3) := dk_180 0 111 (dk_at dksX11_breaks_3 11 rfl rfl)
theorem dX11_breaks_82 : decode cX11_breaks 82 = .ok (.iconst 1, 1) := dk_4 (dk_at dksX11_breaks_3 14 rfl rfl)
theorem dX11_breaks_83 : decode cX11_breaks 83 = .ok (.isub, 1) := dk_100 (dk_at dksX11_breaks_3 15 rfl rfl)
theorem dX11_breaks_84 : decode cX11_breaks 84 = .ok (.iload_n 1, 1) := dk_27 (dk_at dksX11_breaks_3 16 rfl rfl)
theorem dX11_breaks_85 : decode cX11_breaks 85 = .ok (.iastore, 1) := dk_79 (dk_at dksX11_breaks_3 17 rfl rfl)
theorem dX11_breaks_86 : decode cX11_breaks 86 = .ok (.aload_n 0, 1) := dk_42 (dk_at dksX11_breaks_3 18 rfl rfl)
theorem dX11_breaks_87 : decode cX11_breaks 87 = .ok (.invokevirtual 49, 3) := dk_182 0 49 (dk_at dksX11_breaks_3 19 rfl rfl)
theorem dX11_breaks_90 : decode cX11_breaks 90 = .ok (.return_, 1) := dk_177 (dk_at dksX11_breaks_3 22 rfl rfl)
abbrev cX11_want : ByteArray := prog_6_method_6_code
def yX11_want : MethodName := ⟨RX11, "want", "(Z)V"⟩
def dkwX11_want_7 : List UInt8 := [182, 0, 91, 79, 42, 180, 0, 14, 89, 180, 0, 119, 4, 96, 181, 0, 119, 177]
abbrev dktX11_want_7 : List UInt8 := dkwX11_want_7 ++ []
def dkwX11_want_6 : List UInt8 := [18, 130, 182, 0, 54, 153, 0, 23, 42, 182, 0, 49, 42, 180, 0, 14, 180, 0, 132, 28, 42, 4, 16, 20]
abbrev dktX11_want_6 : List UInt8 := dkwX11_want_6 ++ dktX11_want_7
def dkwX11_want_5 : List UInt8 := [182, 0, 91, 79, 42, 180, 0, 14, 180, 0, 127, 28, 42, 4, 6, 182, 0, 91, 79, 27, 153, 0, 32, 42]
abbrev dktX11_want_5 : List UInt8 := dkwX11_want_5 ++ dktX11_want_6
def dkwX11_want_4 : List UInt8 := [167, 0, 4, 3, 6, 182, 0, 64, 42, 182, 0, 49, 42, 180, 0, 14, 180, 0, 124, 28, 42, 4, 16, 6]
abbrev dktX11_want_4 : List UInt8 := dkwX11_want_4 ++ dktX11_want_5
def dkwX11_want_3 : List UInt8 := [42, 180, 0, 35, 182, 0, 88, 79, 42, 42, 180, 0, 14, 180, 0, 122, 28, 46, 2, 159, 0, 7, 4]
abbrev dktX11_want_3 : List UInt8 := dkwX11_want_3 ++ dktX11_want_4
def dkwX11_want_2 : List UInt8 := [153, 0, 59, 42, 42, 182, 0, 84, 4, 182, 0, 64, 42, 180, 0, 14, 180, 0, 122, 28, 42, 180, 0, 14]
abbrev dktX11_want_2 : List UInt8 := dkwX11_want_2 ++ dktX11_want_3
def dkwX11_want_1 : List UInt8 := [182, 0, 49, 42, 180, 0, 14, 180, 0, 119, 61, 42, 180, 0, 14, 180, 0, 122, 28, 2, 79, 27]
abbrev dktX11_want_1 : List UInt8 := dkwX11_want_1 ++ dktX11_want_2
def dkwX11_want_0 : List UInt8 := [42, 42, 180, 0, 14, 180, 0, 119, 16, 8, 162, 0, 7, 4, 167, 0, 4, 3, 7, 182, 0, 64, 42]
abbrev dktX11_want_0 : List UInt8 := dkwX11_want_0 ++ dktX11_want_1
theorem dksX11_want_0 : cX11_want.data.toList.drop 0 = dktX11_want_0 := by decide +kernel
theorem dksX11_want_1 : cX11_want.data.toList.drop 23 = dktX11_want_1 := dk_seg dksX11_want_0 23 rfl rfl
theorem dksX11_want_2 : cX11_want.data.toList.drop 45 = dktX11_want_2 := dk_seg dksX11_want_1 22 rfl rfl
theorem dksX11_want_3 : cX11_want.data.toList.drop 69 = dktX11_want_3 := dk_seg dksX11_want_2 24 rfl rfl
theorem dksX11_want_4 : cX11_want.data.toList.drop 92 = dktX11_want_4 := dk_seg dksX11_want_3 23 rfl rfl
theorem dksX11_want_5 : cX11_want.data.toList.drop 116 = dktX11_want_5 := dk_seg dksX11_want_4 24 rfl rfl
theorem dksX11_want_6 : cX11_want.data.toList.drop 140 = dktX11_want_6 := dk_seg dksX11_want_5 24 rfl rfl
theorem dksX11_want_7 : cX11_want.data.toList.drop 164 = dktX11_want_7 := dk_seg dksX11_want_6 24 rfl rfl
theorem dX11_want_0 : decode cX11_want 0 = .ok (.aload_n 0, 1) := dk_42 (dk_at dksX11_want_0 0 rfl rfl)
theorem dX11_want_1 : decode cX11_want 1 = .ok (.aload_n 0, 1) := dk_42 (dk_at dksX11_want_0 1 rfl rfl)
theorem dX11_want_2 : decode cX11_want 2 = .ok (.getfield 14, 3) := dk_180 0 14 (dk_at dksX11_want_0 2 rfl rfl)
theorem dX11_want_5 : decode cX11_want 5 = .ok (.getfield 119, 3) := dk_180 0 119 (dk_at dksX11_want_0 5 rfl rfl)
theorem dX11_want_8 : decode cX11_want 8 = .ok (.bipush 8, 2) := dk_16 8 (dk_at dksX11_want_0 8 rfl rfl)
theorem dX11_want_10 : decode cX11_want 10 = .ok (.if_icmp .ge 7, 3) := dk_162 0 7 (dk_at dksX11_want_0 10 rfl rfl)
theorem dX11_want_13 : decode cX11_want 13 = .ok (.iconst 1, 1) := dk_4 (dk_at dksX11_want_0 13 rfl rfl)
theorem dX11_want_14 : decode cX11_want 14 = .ok (.goto 4, 3) := dk_167 0 4 (dk_at dksX11_want_0 14 rfl rfl)
theorem dX11_want_17 : decode cX11_want 17 = .ok (.iconst 0, 1) := dk_3 (dk_at dksX11_want_0 17 rfl rfl)
theorem dX11_want_18 : decode cX11_want 18 = .ok (.iconst 4, 1) := dk_7 (dk_at dksX11_want_0 18 rfl rfl)
theorem dX11_want_19 : decode cX11_want 19 = .ok (.invokevirtual 64, 3) := dk_182 0 64 (dk_at dksX11_want_0 19 rfl rfl)
theorem dX11_want_22 : decode cX11_want 22 = .ok (.aload_n 0, 1) := dk_42 (dk_at dksX11_want_0 22 rfl rfl)
theorem dX11_want_23 : decode cX11_want 23 = .ok (.invokevirtual 49, 3) := dk_182 0 49 (dk_at dksX11_want_1 0 rfl rfl)
theorem dX11_want_26 : decode cX11_want 26 = .ok (.aload_n 0, 1) := dk_42 (dk_at dksX11_want_1 3 rfl rfl)
theorem dX11_want_27 : decode cX11_want 27 = .ok (.getfield 14, 3) := dk_180 0 14 (dk_at dksX11_want_1 4 rfl rfl)
theorem dX11_want_30 : decode cX11_want 30 = .ok (.getfield 119, 3) := dk_180 0 119 (dk_at dksX11_want_1 7 rfl rfl)
theorem dX11_want_33 : decode cX11_want 33 = .ok (.istore_n 2, 1) := dk_61 (dk_at dksX11_want_1 10 rfl rfl)
theorem dX11_want_34 : decode cX11_want 34 = .ok (.aload_n 0, 1) := dk_42 (dk_at dksX11_want_1 11 rfl rfl)
theorem dX11_want_35 : decode cX11_want 35 = .ok (.getfield 14, 3) := dk_180 0 14 (dk_at dksX11_want_1 12 rfl rfl)
theorem dX11_want_38 : decode cX11_want 38 = .ok (.getfield 122, 3) := dk_180 0 122 (dk_at dksX11_want_1 15 rfl rfl)
theorem dX11_want_41 : decode cX11_want 41 = .ok (.iload_n 2, 1) := dk_28 (dk_at dksX11_want_1 18 rfl rfl)
theorem dX11_want_42 : decode cX11_want 42 = .ok (.iconst (-1), 1) := dk_2 (dk_at dksX11_want_1 19 rfl rfl)
theorem dX11_want_43 : decode cX11_want 43 = .ok (.iastore, 1) := dk_79 (dk_at dksX11_want_1 20 rfl rfl)
theorem dX11_want_44 : decode cX11_want 44 = .ok (.iload_n 1, 1) := dk_27 (dk_at dksX11_want_1 21 rfl rfl)
theorem dX11_want_45 : decode cX11_want 45 = .ok (.ifCond .eq 59, 3) := dk_153 0 59 (dk_at dksX11_want_2 0 rfl rfl)
theorem dX11_want_48 : decode cX11_want 48 = .ok (.aload_n 0, 1) := dk_42 (dk_at dksX11_want_2 3 rfl rfl)
theorem dX11_want_49 : decode cX11_want 49 = .ok (.aload_n 0, 1) := dk_42 (dk_at dksX11_want_2 4 rfl rfl)
theorem dX11_want_50 : decode cX11_want 50 = .ok (.invokevirtual 84, 3) := dk_182 0 84 (dk_at dksX11_want_2 5 rfl rfl)
theorem dX11_want_53 : decode cX11_want 53 = .ok (.iconst 1, 1) := dk_4 (dk_at dksX11_want_2 8 rfl rfl)
theorem dX11_want_54 : decode cX11_want 54 = .ok (.invokevirtual 64, 3) := dk_182 0 64 (dk_at dksX11_want_2 9 rfl rfl)
theorem dX11_want_57 : decode cX11_want 57 = .ok (.aload_n 0, 1) := dk_42 (dk_at dksX11_want_2 12 rfl rfl)
theorem dX11_want_58 : decode cX11_want 58 = .ok (.getfield 14, 3) := dk_180 0 14 (dk_at dksX11_want_2 13 rfl rfl)
theorem dX11_want_61 : decode cX11_want 61 = .ok (.getfield 122, 3) := dk_180 0 122 (dk_at dksX11_want_2 16 rfl rfl)
theorem dX11_want_64 : decode cX11_want 64 = .ok (.iload_n 2, 1) := dk_28 (dk_at dksX11_want_2 19 rfl rfl)
theorem dX11_want_65 : decode cX11_want 65 = .ok (.aload_n 0, 1) := dk_42 (dk_at dksX11_want_2 20 rfl rfl)
theorem dX11_want_66 : decode cX11_want 66 = .ok (.getfield 14, 3) := dk_180 0 14 (dk_at dksX11_want_2 21 rfl rfl)
theorem dX11_want_69 : decode cX11_want 69 = .ok (.aload_n 0, 1) := dk_42 (dk_at dksX11_want_3 0 rfl rfl)
theorem dX11_want_70 : decode cX11_want 70 = .ok (.getfield 35, 3) := dk_180 0 35 (dk_at dksX11_want_3 1 rfl rfl)
theorem dX11_want_73 : decode cX11_want 73 = .ok (.invokevirtual 88, 3) := dk_182 0 88 (dk_at dksX11_want_3 4 rfl rfl)
theorem dX11_want_76 : decode cX11_want 76 = .ok (.iastore, 1) := dk_79 (dk_at dksX11_want_3 7 rfl rfl)
theorem dX11_want_77 : decode cX11_want 77 = .ok (.aload_n 0, 1) := dk_42 (dk_at dksX11_want_3 8 rfl rfl)
theorem dX11_want_78 : decode cX11_want 78 = .ok (.aload_n 0, 1) := dk_42 (dk_at dksX11_want_3 9 rfl rfl)
theorem dX11_want_79 : decode cX11_want 79 = .ok (.getfield 14, 3) := dk_180 0 14 (dk_at dksX11_want_3 10 rfl rfl)
theorem dX11_want_82 : decode cX11_want 82 = .ok (.getfield 122, 3) := dk_180 0 122 (dk_at dksX11_want_3 13 rfl rfl)
theorem dX11_want_85 : decode cX11_want 85 = .ok (.iload_n 2, 1) := dk_28 (dk_at dksX11_want_3 16 rfl rfl)
theorem dX11_want_86 : decode cX11_want 86 = .ok (.iaload, 1) := dk_46 (dk_at dksX11_want_3 17 rfl rfl)
theorem dX11_want_87 : decode cX11_want 87 = .ok (.iconst (-1), 1) := dk_2 (dk_at dksX11_want_3 18 rfl rfl)
theorem dX11_want_88 : decode cX11_want 88 = .ok (.if_icmp .eq 7, 3) := dk_159 0 7 (dk_at dksX11_want_3 19 rfl rfl)
theorem dX11_want_91 : decode cX11_want 91 = .ok (.iconst 1, 1) := dk_4 (dk_at dksX11_want_3 22 rfl rfl)
theorem dX11_want_92 : decode cX11_want 92 = .ok (.goto 4, 3) := dk_167 0 4 (dk_at dksX11_want_4 0 rfl rfl)
theorem dX11_want_95 : decode cX11_want 95 = .ok (.iconst 0, 1) := dk_3 (dk_at dksX11_want_4 3 rfl rfl)
theorem dX11_want_96 : decode cX11_want 96 = .ok (.iconst 3, 1) := dk_6 (dk_at dksX11_want_4 4 rfl rfl)
theorem dX11_want_97 : decode cX11_want 97 = .ok (.invokevirtual 64, 3) := dk_182 0 64 (dk_at dksX11_want_4 5 rfl rfl)
theorem dX11_want_100 : decode cX11_want 100 = .ok (.aload_n 0, 1) := dk_42 (dk_at dksX11_want_4 8 rfl rfl)
theorem dX11_want_101 : decode cX11_want 101 = .ok (.invokevirtual 49, 3) := dk_182 0 49 (dk_at dksX11_want_4 9 rfl rfl)
theorem dX11_want_104 : decode cX11_want 104 = .ok (.aload_n 0, 1) := dk_42 (dk_at dksX11_want_4 12 rfl rfl)
theorem dX11_want_105 : decode cX11_want 105 = .ok (.getfield 14, 3) := dk_180 0 14 (dk_at dksX11_want_4 13 rfl rfl)
theorem dX11_want_108 : decode cX11_want 108 = .ok (.getfield 124, 3) := dk_180 0 124 (dk_at dksX11_want_4 16 rfl rfl)
theorem dX11_want_111 : decode cX11_want 111 = .ok (.iload_n 2, 1) := dk_28 (dk_at dksX11_want_4 19 rfl rfl)
theorem dX11_want_112 : decode cX11_want 112 = .ok (.aload_n 0, 1) := dk_42 (dk_at dksX11_want_4 20 rfl rfl)
theorem dX11_want_113 : decode cX11_want 113 = .ok (.iconst 1, 1) := dk_4 (dk_at dksX11_want_4 21 rfl rfl)
theorem dX11_want_114 : decode cX11_want 114 = .ok (.bipush 6, 2) := dk_16 6 (dk_at dksX11_want_4 22 rfl rfl)
theorem dX11_want_116 : decode cX11_want 116 = .ok (.invokevirtual 91, 3) := dk_182 0 91 (dk_at dksX11_want_5 0 rfl rfl)
theorem dX11_want_119 : decode cX11_want 119 = .ok (.iastore, 1) := dk_79 (dk_at dksX11_want_5 3 rfl rfl)
theorem dX11_want_120 : decode cX11_want 120 = .ok (.aload_n 0, 1) := dk_42 (dk_at dksX11_want_5 4 rfl rfl)
theorem dX11_want_121 : decode cX11_want 121 = .ok (.getfield 14, 3) := dk_180 0 14 (dk_at dksX11_want_5 5 rfl rfl)
theorem dX11_want_124 : decode cX11_want 124 = .ok (.getfield 127, 3) := dk_180 0 127 (dk_at dksX11_want_5 8 rfl rfl)
theorem dX11_want_127 : decode cX11_want 127 = .ok (.iload_n 2, 1) := dk_28 (dk_at dksX11_want_5 11 rfl rfl)
theorem dX11_want_128 : decode cX11_want 128 = .ok (.aload_n 0, 1) := dk_42 (dk_at dksX11_want_5 12 rfl rfl)
theorem dX11_want_129 : decode cX11_want 129 = .ok (.iconst 1, 1) := dk_4 (dk_at dksX11_want_5 13 rfl rfl)
theorem dX11_want_130 : decode cX11_want 130 = .ok (.iconst 3, 1) := dk_6 (dk_at dksX11_want_5 14 rfl rfl)
theorem dX11_want_131 : decode cX11_want 131 = .ok (.invokevirtual 91, 3) := dk_182 0 91 (dk_at dksX11_want_5 15 rfl rfl)
theorem dX11_want_134 : decode cX11_want 134 = .ok (.iastore, 1) := dk_79 (dk_at dksX11_want_5 18 rfl rfl)
theorem dX11_want_135 : decode cX11_want 135 = .ok (.iload_n 1, 1) := dk_27 (dk_at dksX11_want_5 19 rfl rfl)
theorem dX11_want_136 : decode cX11_want 136 = .ok (.ifCond .eq 32, 3) := dk_153 0 32 (dk_at dksX11_want_5 20 rfl rfl)
theorem dX11_want_139 : decode cX11_want 139 = .ok (.aload_n 0, 1) := dk_42 (dk_at dksX11_want_5 23 rfl rfl)
theorem dX11_want_140 : decode cX11_want 140 = .ok (.ldc 130, 2) := dk_18 130 (dk_at dksX11_want_6 0 rfl rfl)
theorem dX11_want_142 : decode cX11_want 142 = .ok (.invokevirtual 54, 3) := dk_182 0 54 (dk_at dksX11_want_6 2 rfl rfl)
theorem dX11_want_145 : decode cX11_want 145 = .ok (.ifCond .eq 23, 3) := dk_153 0 23 (dk_at dksX11_want_6 5 rfl rfl)
theorem dX11_want_148 : decode cX11_want 148 = .ok (.aload_n 0, 1) := dk_42 (dk_at dksX11_want_6 8 rfl rfl)
theorem dX11_want_149 : decode cX11_want 149 = .ok (.invokevirtual 49, 3) := dk_182 0 49 (dk_at dksX11_want_6 9 rfl rfl)
theorem dX11_want_152 : decode cX11_want 152 = .ok (.aload_n 0, 1) := dk_42 (dk_at dksX11_want_6 12 rfl rfl)
theorem dX11_want_153 : decode cX11_want 153 = .ok (.getfield 14, 3) := dk_180 0 14 (dk_at dksX11_want_6 13 rfl rfl)
theorem dX11_want_156 : decode cX11_want 156 = .ok (.getfield 132, 3) := dk_180 0 132 (dk_at dksX11_want_6 16 rfl rfl)
theorem dX11_want_159 : decode cX11_want 159 = .ok (.iload_n 2, 1) := dk_28 (dk_at dksX11_want_6 19 rfl rfl)
theorem dX11_want_160 : decode cX11_want 160 = .ok (.aload_n 0, 1) := dk_42 (dk_at dksX11_want_6 20 rfl rfl)
theorem dX11_want_161 : decode cX11_want 161 = .ok (.iconst 1, 1) := dk_4 (dk_at dksX11_want_6 21 rfl rfl)
theorem dX11_want_162 : decode cX11_want 162 = .ok (.bipush 20, 2) := dk_16 20 (dk_at dksX11_want_6 22 rfl rfl)
theorem dX11_want_164 : decode cX11_want 164 = .ok (.invokevirtual 91, 3) := dk_182 0 91 (dk_at dksX11_want_7 0 rfl rfl)
theorem dX11_want_167 : decode cX11_want 167 = .ok (.iastore, 1) := dk_79 (dk_at dksX11_want_7 3 rfl rfl)
theorem dX11_want_168 : decode cX11_want 168 = .ok (.aload_n 0, 1) := dk_42 (dk_at dksX11_want_7 4 rfl rfl)
theorem dX11_want_169 : decode cX11_want 169 = .ok (.getfield 14, 3) := dk_180 0 14 (dk_at dksX11_want_7 5 rfl rfl)
theorem dX11_want_172 : decode cX11_want 172 = .ok (.dup, 1) := dk_89 (dk_at dksX11_want_7 8 rfl rfl)
theorem dX11_want_173 : decode cX11_want 173 = .ok (.getfield 119, 3) := dk_180 0 119 (dk_at dksX11_want_7 9 rfl rfl)
theorem dX11_want_176 : decode cX11_want 176 = .ok (.iconst 1, 1) := dk_4 (dk_at dksX11_want_7 12 rfl rfl)
theorem dX11_want_177 : decode cX11_want 177 = .ok (.iadd, 1) := dk_96 (dk_at dksX11_want_7 13 rfl rfl)
theorem dX11_want_178 : decode cX11_want 178 = .ok (.putfield 119, 3) := dk_181 0 119 (dk_at dksX11_want_7 14 rfl rfl)
theorem dX11_want_181 : decode cX11_want 181 = .ok (.return_, 1) := dk_177 (dk_at dksX11_want_7 17 rfl rfl)
abbrev cX12_init : ByteArray := prog_8_method_1_code
def yX12_init : MethodName := ⟨RX12, "<init>", "(LPlugHall$Job;)V"⟩
def dkwX12_init_1 : List UInt8 := [188, 10, 181, 0, 22, 42, 4, 181, 0, 25, 42, 43, 181, 0, 29, 177]
abbrev dktX12_init_1 : List UInt8 := dkwX12_init_1 ++ []
def dkwX12_init_0 : List UInt8 := [42, 183, 0, 3, 42, 187, 0, 9, 89, 183, 0, 11, 181, 0, 12, 42, 7, 188, 10, 181, 0, 18, 42, 7]
abbrev dktX12_init_0 : List UInt8 := dkwX12_init_0 ++ dktX12_init_1
theorem dksX12_init_0 : cX12_init.data.toList.drop 0 = dktX12_init_0 := by decide +kernel
theorem dksX12_init_1 : cX12_init.data.toList.drop 24 = dktX12_init_1 := dk_seg dksX12_init_0 24 rfl rfl
theorem dX12_init_0 : decode cX12_init 0 = .ok (.aload_n 0, 1) := dk_42 (dk_at dksX12_init_0 0 rfl rfl)
theorem dX12_init_1 : decode cX12_init 1 = .ok (.invokespecial 3, 3) := dk_183 0 3 (dk_at dksX12_init_0 1 rfl rfl)
theorem dX12_init_4 : decode cX12_init 4 = .ok (.aload_n 0, 1) := dk_42 (dk_at dksX12_init_0 4 rfl rfl)
theorem dX12_init_5 : decode cX12_init 5 = .ok (.new 9, 3) := dk_187 0 9 (dk_at dksX12_init_0 5 rfl rfl)
theorem dX12_init_8 : decode cX12_init 8 = .ok (.dup, 1) := dk_89 (dk_at dksX12_init_0 8 rfl rfl)
theorem dX12_init_9 : decode cX12_init 9 = .ok (.invokespecial 11, 3) := dk_183 0 11 (dk_at dksX12_init_0 9 rfl rfl)
theorem dX12_init_12 : decode cX12_init 12 = .ok (.putfield 12, 3) := dk_181 0 12 (dk_at dksX12_init_0 12 rfl rfl)
theorem dX12_init_15 : decode cX12_init 15 = .ok (.aload_n 0, 1) := dk_42 (dk_at dksX12_init_0 15 rfl rfl)
theorem dX12_init_16 : decode cX12_init 16 = .ok (.iconst 4, 1) := dk_7 (dk_at dksX12_init_0 16 rfl rfl)
theorem dX12_init_17 : decode cX12_init 17 = .ok (.newarray .int, 2) := dk_188_10 (dk_at dksX12_init_0 17 rfl rfl)
theorem dX12_init_19 : decode cX12_init 19 = .ok (.putfield 18, 3) := dk_181 0 18 (dk_at dksX12_init_0 19 rfl rfl)
theorem dX12_init_22 : decode cX12_init 22 = .ok (.aload_n 0, 1) := dk_42 (dk_at dksX12_init_0 22 rfl rfl)
theorem dX12_init_23 : decode cX12_init 23 = .ok (.iconst 4, 1) := dk_7 (dk_at dksX12_init_0 23 rfl rfl)
theorem dX12_init_24 : decode cX12_init 24 = .ok (.newarray .int, 2) := dk_188_10 (dk_at dksX12_init_1 0 rfl rfl)
theorem dX12_init_26 : decode cX12_init 26 = .ok (.putfield 22, 3) := dk_181 0 22 (dk_at dksX12_init_1 2 rfl rfl)
theorem dX12_init_29 : decode cX12_init 29 = .ok (.aload_n 0, 1) := dk_42 (dk_at dksX12_init_1 5 rfl rfl)
theorem dX12_init_30 : decode cX12_init 30 = .ok (.iconst 1, 1) := dk_4 (dk_at dksX12_init_1 6 rfl rfl)
theorem dX12_init_31 : decode cX12_init 31 = .ok (.putfield 25, 3) := dk_181 0 25 (dk_at dksX12_init_1 7 rfl rfl)
theorem dX12_init_34 : decode cX12_init 34 = .ok (.aload_n 0, 1) := dk_42 (dk_at dksX12_init_1 10 rfl rfl)
theorem dX12_init_35 : decode cX12_init 35 = .ok (.aload_n 1, 1) := dk_43 (dk_at dksX12_init_1 11 rfl rfl)
theorem dX12_init_36 : decode cX12_init 36 = .ok (.putfield 29, 3) := dk_181 0 29 (dk_at dksX12_init_1 12 rfl rfl)
theorem dX12_init_39 : decode cX12_init 39 = .ok (.return_, 1) := dk_177 (dk_at dksX12_init_1 15 rfl rfl)
abbrev cX12_make : ByteArray := prog_8_method_4_code
def yX12_make : MethodName := ⟨RX12, "make", "(I)LPlugHall$Board;"⟩
def dkwX12_make_9 : List UInt8 := [176]
abbrev dktX12_make_9 : List UInt8 := dkwX12_make_9 ++ []
def dkwX12_make_8 : List UInt8 := [42, 180, 0, 25, 153, 0, 19, 42, 180, 0, 59, 16, 12, 163, 0, 10, 42, 180, 0, 12, 167, 0, 4, 1]
abbrev dktX12_make_8 : List UInt8 := dkwX12_make_8 ++ dktX12_make_9
def dkwX12_make_7 : List UInt8 := [4, 126, 154, 0, 6, 167, 0, 13, 42, 21, 4, 29, 182, 0, 56, 132, 3, 1, 132, 4, 1, 167, 255, 219]
abbrev dktX12_make_7 : List UInt8 := dkwX12_make_7 ++ dktX12_make_8
def dkwX12_make_6 : List UInt8 := [167, 255, 212, 3, 62, 3, 54, 4, 21, 4, 42, 180, 0, 29, 180, 0, 50, 162, 0, 31, 27, 21, 4, 122]
abbrev dktX12_make_6 : List UInt8 := dkwX12_make_6 ++ dktX12_make_7
def dkwX12_make_5 : List UInt8 := [167, 0, 20, 29, 7, 160, 0, 5, 1, 176, 42, 21, 4, 29, 182, 0, 53, 132, 3, 1, 132, 4, 1]
abbrev dktX12_make_5 : List UInt8 := dkwX12_make_5 ++ dktX12_make_6
def dkwX12_make_4 : List UInt8 := [54, 4, 21, 4, 42, 180, 0, 29, 180, 0, 50, 162, 0, 38, 27, 21, 4, 122, 4, 126, 154, 0, 6]
abbrev dktX12_make_4 : List UInt8 := dkwX12_make_4 ++ dktX12_make_5
def dkwX12_make_3 : List UInt8 := [16, 61, 28, 96, 17, 0, 156, 29, 96, 182, 0, 41, 132, 2, 1, 132, 3, 1, 167, 255, 172, 3, 62, 3]
abbrev dktX12_make_3 : List UInt8 := dkwX12_make_3 ++ dktX12_make_4
def dkwX12_make_2 : List UInt8 := [16, 20, 42, 180, 0, 29, 180, 0, 45, 29, 46, 96, 4, 100, 17, 0, 152, 28, 96, 182, 0, 41, 42]
abbrev dktX12_make_2 : List UInt8 := dkwX12_make_2 ++ dktX12_make_3
def dkwX12_make_1 : List UInt8 := [42, 3, 42, 180, 0, 29, 180, 0, 45, 29, 46, 96, 4, 100, 17, 0, 148, 28, 96, 182, 0, 41, 42]
abbrev dktX12_make_1 : List UInt8 := dkwX12_make_1 ++ dktX12_make_2
def dkwX12_make_0 : List UInt8 := [3, 61, 3, 62, 29, 6, 162, 0, 85, 42, 180, 0, 29, 180, 0, 45, 29, 46, 154, 0, 6, 167, 0, 64]
abbrev dktX12_make_0 : List UInt8 := dkwX12_make_0 ++ dktX12_make_1
theorem dksX12_make_0 : cX12_make.data.toList.drop 0 = dktX12_make_0 := by decide +kernel
theorem dksX12_make_1 : cX12_make.data.toList.drop 24 = dktX12_make_1 := dk_seg dksX12_make_0 24 rfl rfl
theorem dksX12_make_2 : cX12_make.data.toList.drop 47 = dktX12_make_2 := dk_seg dksX12_make_1 23 rfl rfl
theorem dksX12_make_3 : cX12_make.data.toList.drop 70 = dktX12_make_3 := dk_seg dksX12_make_2 23 rfl rfl
theorem dksX12_make_4 : cX12_make.data.toList.drop 94 = dktX12_make_4 := dk_seg dksX12_make_3 24 rfl rfl
theorem dksX12_make_5 : cX12_make.data.toList.drop 117 = dktX12_make_5 := dk_seg dksX12_make_4 23 rfl rfl
theorem dksX12_make_6 : cX12_make.data.toList.drop 140 = dktX12_make_6 := dk_seg dksX12_make_5 23 rfl rfl
theorem dksX12_make_7 : cX12_make.data.toList.drop 164 = dktX12_make_7 := dk_seg dksX12_make_6 24 rfl rfl
theorem dksX12_make_8 : cX12_make.data.toList.drop 188 = dktX12_make_8 := dk_seg dksX12_make_7 24 rfl rfl
theorem dksX12_make_9 : cX12_make.data.toList.drop 212 = dktX12_make_9 := dk_seg dksX12_make_8 24 rfl rfl
theorem dX12_make_0 : decode cX12_make 0 = .ok (.iconst 0, 1) := dk_3 (dk_at dksX12_make_0 0 rfl rfl)
theorem dX12_make_1 : decode cX12_make 1 = .ok (.istore_n 2, 1) := dk_61 (dk_at dksX12_make_0 1 rfl rfl)
theorem dX12_make_2 : decode cX12_make 2 = .ok (.iconst 0, 1) := dk_3 (dk_at dksX12_make_0 2 rfl rfl)
theorem dX12_make_3 : decode cX12_make 3 = .ok (.istore_n 3, 1) := dk_62 (dk_at dksX12_make_0 3 rfl rfl)
theorem dX12_make_4 : decode cX12_make 4 = .ok (.iload_n 3, 1) := dk_29 (dk_at dksX12_make_0 4 rfl rfl)
theorem dX12_make_5 : decode cX12_make 5 = .ok (.iconst 3, 1) := dk_6 (dk_at dksX12_make_0 5 rfl rfl)
theorem dX12_make_6 : decode cX12_make 6 = .ok (.if_icmp .ge 85, 3) := dk_162 0 85 (dk_at dksX12_make_0 6 rfl rfl)
theorem dX12_make_9 : decode cX12_make 9 = .ok (.aload_n 0, 1) := dk_42 (dk_at dksX12_make_0 9 rfl rfl)
theorem dX12_make_10 : decode cX12_make 10 = .ok (.getfield 29, 3) := dk_180 0 29 (dk_at dksX12_make_0 10 rfl rfl)
theorem dX12_make_13 : decode cX12_make 13 = .ok (.getfield 45, 3) := dk_180 0 45 (dk_at dksX12_make_0 13 rfl rfl)
theorem dX12_make_16 : decode cX12_make 16 = .ok (.iload_n 3, 1) := dk_29 (dk_at dksX12_make_0 16 rfl rfl)
theorem dX12_make_17 : decode cX12_make 17 = .ok (.iaload, 1) := dk_46 (dk_at dksX12_make_0 17 rfl rfl)
theorem dX12_make_18 : decode cX12_make 18 = .ok (.ifCond .ne 6, 3) := dk_154 0 6 (dk_at dksX12_make_0 18 rfl rfl)
theorem dX12_make_21 : decode cX12_make 21 = .ok (.goto 64, 3) := dk_167 0 64 (dk_at dksX12_make_0 21 rfl rfl)
theorem dX12_make_24 : decode cX12_make 24 = .ok (.aload_n 0, 1) := dk_42 (dk_at dksX12_make_1 0 rfl rfl)
theorem dX12_make_25 : decode cX12_make 25 = .ok (.iconst 0, 1) := dk_3 (dk_at dksX12_make_1 1 rfl rfl)
theorem dX12_make_26 : decode cX12_make 26 = .ok (.aload_n 0, 1) := dk_42 (dk_at dksX12_make_1 2 rfl rfl)
theorem dX12_make_27 : decode cX12_make 27 = .ok (.getfield 29, 3) := dk_180 0 29 (dk_at dksX12_make_1 3 rfl rfl)
theorem dX12_make_30 : decode cX12_make 30 = .ok (.getfield 45, 3) := dk_180 0 45 (dk_at dksX12_make_1 6 rfl rfl)
theorem dX12_make_33 : decode cX12_make 33 = .ok (.iload_n 3, 1) := dk_29 (dk_at dksX12_make_1 9 rfl rfl)
theorem dX12_make_34 : decode cX12_make 34 = .ok (.iaload, 1) := dk_46 (dk_at dksX12_make_1 10 rfl rfl)
theorem dX12_make_35 : decode cX12_make 35 = .ok (.iadd, 1) := dk_96 (dk_at dksX12_make_1 11 rfl rfl)
theorem dX12_make_36 : decode cX12_make 36 = .ok (.iconst 1, 1) := dk_4 (dk_at dksX12_make_1 12 rfl rfl)
theorem dX12_make_37 : decode cX12_make 37 = .ok (.isub, 1) := dk_100 (dk_at dksX12_make_1 13 rfl rfl)
theorem dX12_make_38 : decode cX12_make 38 = .ok (.sipush 148, 3) := dk_17 0 148 (dk_at dksX12_make_1 14 rfl rfl)
theorem dX12_make_41 : decode cX12_make 41 = .ok (.iload_n 2, 1) := dk_28 (dk_at dksX12_make_1 17 rfl rfl)
theorem dX12_make_42 : decode cX12_make 42 = .ok (.iadd, 1) := dk_96 (dk_at dksX12_make_1 18 rfl rfl)
theorem dX12_make_43 : decode cX12_make 43 = .ok (.invokevirtual 41, 3) := dk_182 0 41 (dk_at dksX12_make_1 19 rfl rfl)
theorem dX12_make_46 : decode cX12_make 46 = .ok (.aload_n 0, 1) := dk_42 (dk_at dksX12_make_1 22 rfl rfl)
theorem dX12_make_47 : decode cX12_make 47 = .ok (.bipush 20, 2) := dk_16 20 (dk_at dksX12_make_2 0 rfl rfl)
theorem dX12_make_49 : decode cX12_make 49 = .ok (.aload_n 0, 1) := dk_42 (dk_at dksX12_make_2 2 rfl rfl)
theorem dX12_make_50 : decode cX12_make 50 = .ok (.getfield 29, 3) := dk_180 0 29 (dk_at dksX12_make_2 3 rfl rfl)
theorem dX12_make_53 : decode cX12_make 53 = .ok (.getfield 45, 3) := dk_180 0 45 (dk_at dksX12_make_2 6 rfl rfl)
theorem dX12_make_56 : decode cX12_make 56 = .ok (.iload_n 3, 1) := dk_29 (dk_at dksX12_make_2 9 rfl rfl)
theorem dX12_make_57 : decode cX12_make 57 = .ok (.iaload, 1) := dk_46 (dk_at dksX12_make_2 10 rfl rfl)
theorem dX12_make_58 : decode cX12_make 58 = .ok (.iadd, 1) := dk_96 (dk_at dksX12_make_2 11 rfl rfl)
theorem dX12_make_59 : decode cX12_make 59 = .ok (.iconst 1, 1) := dk_4 (dk_at dksX12_make_2 12 rfl rfl)
theorem dX12_make_60 : decode cX12_make 60 = .ok (.isub, 1) := dk_100 (dk_at dksX12_make_2 13 rfl rfl)
theorem dX12_make_61 : decode cX12_make 61 = .ok (.sipush 152, 3) := dk_17 0 152 (dk_at dksX12_make_2 14 rfl rfl)
theorem dX12_make_64 : decode cX12_make 64 = .ok (.iload_n 2, 1) := dk_28 (dk_at dksX12_make_2 17 rfl rfl)
theorem dX12_make_65 : decode cX12_make 65 = .ok (.iadd, 1) := dk_96 (dk_at dksX12_make_2 18 rfl rfl)
theorem dX12_make_66 : decode cX12_make 66 = .ok (.invokevirtual 41, 3) := dk_182 0 41 (dk_at dksX12_make_2 19 rfl rfl)
theorem dX12_make_69 : decode cX12_make 69 = .ok (.aload_n 0, 1) := dk_42 (dk_at dksX12_make_2 22 rfl rfl)
theorem dX12_make_70 : decode cX12_make 70 = .ok (.bipush 61, 2) := dk_16 61 (dk_at dksX12_make_3 0 rfl rfl)
theorem dX12_make_72 : decode cX12_make 72 = .ok (.iload_n 2, 1) := dk_28 (dk_at dksX12_make_3 2 rfl rfl)
theorem dX12_make_73 : decode cX12_make 73 = .ok (.iadd, 1) := dk_96 (dk_at dksX12_make_3 3 rfl rfl)
theorem dX12_make_74 : decode cX12_make 74 = .ok (.sipush 156, 3) := dk_17 0 156 (dk_at dksX12_make_3 4 rfl rfl)
theorem dX12_make_77 : decode cX12_make 77 = .ok (.iload_n 3, 1) := dk_29 (dk_at dksX12_make_3 7 rfl rfl)
theorem dX12_make_78 : decode cX12_make 78 = .ok (.iadd, 1) := dk_96 (dk_at dksX12_make_3 8 rfl rfl)
theorem dX12_make_79 : decode cX12_make 79 = .ok (.invokevirtual 41, 3) := dk_182 0 41 (dk_at dksX12_make_3 9 rfl rfl)
theorem dX12_make_82 : decode cX12_make 82 = .ok (.iinc 2 1, 3) := dk_132 2 1 (dk_at dksX12_make_3 12 rfl rfl)
theorem dX12_make_85 : decode cX12_make 85 = .ok (.iinc 3 1, 3) := dk_132 3 1 (dk_at dksX12_make_3 15 rfl rfl)
theorem dX12_make_88 : decode cX12_make 88 = .ok (.goto (-84), 3) := dk_167 255 172 (dk_at dksX12_make_3 18 rfl rfl)
theorem dX12_make_91 : decode cX12_make 91 = .ok (.iconst 0, 1) := dk_3 (dk_at dksX12_make_3 21 rfl rfl)
theorem dX12_make_92 : decode cX12_make 92 = .ok (.istore_n 3, 1) := dk_62 (dk_at dksX12_make_3 22 rfl rfl)
theorem dX12_make_93 : decode cX12_make 93 = .ok (.iconst 0, 1) := dk_3 (dk_at dksX12_make_3 23 rfl rfl)
theorem dX12_make_94 : decode cX12_make 94 = .ok (.istore 4, 2) := dk_54 4 (dk_at dksX12_make_4 0 rfl rfl)
theorem dX12_make_96 : decode cX12_make 96 = .ok (.iload 4, 2) := dk_21 4 (dk_at dksX12_make_4 2 rfl rfl)
theorem dX12_make_98 : decode cX12_make 98 = .ok (.aload_n 0, 1) := dk_42 (dk_at dksX12_make_4 4 rfl rfl)
theorem dX12_make_99 : decode cX12_make 99 = .ok (.getfield 29, 3) := dk_180 0 29 (dk_at dksX12_make_4 5 rfl rfl)
theorem dX12_make_102 : decode cX12_make 102 = .ok (.getfield 50, 3) := dk_180 0 50 (dk_at dksX12_make_4 8 rfl rfl)
theorem dX12_make_105 : decode cX12_make 105 = .ok (.if_icmp .ge 38, 3) := dk_162 0 38 (dk_at dksX12_make_4 11 rfl rfl)
theorem dX12_make_108 : decode cX12_make 108 = .ok (.iload_n 1, 1) := dk_27 (dk_at dksX12_make_4 14 rfl rfl)
theorem dX12_make_109 : decode cX12_make 109 = .ok (.iload 4, 2) := dk_21 4 (dk_at dksX12_make_4 15 rfl rfl)
theorem dX12_make_111 : decode cX12_make 111 = .ok (.ishr, 1) := dk_122 (dk_at dksX12_make_4 17 rfl rfl)
theorem dX12_make_112 : decode cX12_make 112 = .ok (.iconst 1, 1) := dk_4 (dk_at dksX12_make_4 18 rfl rfl)
theorem dX12_make_113 : decode cX12_make 113 = .ok (.iand, 1) := dk_126 (dk_at dksX12_make_4 19 rfl rfl)
theorem dX12_make_114 : decode cX12_make 114 = .ok (.ifCond .ne 6, 3) := dk_154 0 6 (dk_at dksX12_make_4 20 rfl rfl)
theorem dX12_make_117 : decode cX12_make 117 = .ok (.goto 20, 3) := dk_167 0 20 (dk_at dksX12_make_5 0 rfl rfl)
theorem dX12_make_120 : decode cX12_make 120 = .ok (.iload_n 3, 1) := dk_29 (dk_at dksX12_make_5 3 rfl rfl)
theorem dX12_make_121 : decode cX12_make 121 = .ok (.iconst 4, 1) := dk_7 (dk_at dksX12_make_5 4 rfl rfl)
theorem dX12_make_122 : decode cX12_make 122 = .ok (.if_icmp .ne 5, 3) := dk_160 0 5 (dk_at dksX12_make_5 5 rfl rfl)
theorem dX12_make_125 : decode cX12_make 125 = .ok (.aconst_null, 1) := dk_1 (dk_at dksX12_make_5 8 rfl rfl)
theorem dX12_make_126 : decode cX12_make 126 = .ok (.areturn, 1) := dk_176 (dk_at dksX12_make_5 9 rfl rfl)
theorem dX12_make_127 : decode cX12_make 127 = .ok (.aload_n 0, 1) := dk_42 (dk_at dksX12_make_5 10 rfl rfl)
theorem dX12_make_128 : decode cX12_make 128 = .ok (.iload 4, 2) := dk_21 4 (dk_at dksX12_make_5 11 rfl rfl)
theorem dX12_make_130 : decode cX12_make 130 = .ok (.iload_n 3, 1) := dk_29 (dk_at dksX12_make_5 13 rfl rfl)
theorem dX12_make_131 : decode cX12_make 131 = .ok (.invokevirtual 53, 3) := dk_182 0 53 (dk_at dksX12_make_5 14 rfl rfl)
theorem dX12_make_134 : decode cX12_make 134 = .ok (.iinc 3 1, 3) := dk_132 3 1 (dk_at dksX12_make_5 17 rfl rfl)
theorem dX12_make_137 : decode cX12_make 137 = .ok (.iinc 4 1, 3) := dk_132 4 1 (dk_at dksX12_make_5 20 rfl rfl)
theorem dX12_make_140 : decode cX12_make 140 = .ok (.goto (-44), 3) := dk_167 255 212 (dk_at dksX12_make_6 0 rfl rfl)
theorem dX12_make_143 : decode cX12_make 143 = .ok (.iconst 0, 1) := dk_3 (dk_at dksX12_make_6 3 rfl rfl)
theorem dX12_make_144 : decode cX12_make 144 = .ok (.istore_n 3, 1) := dk_62 (dk_at dksX12_make_6 4 rfl rfl)
theorem dX12_make_145 : decode cX12_make 145 = .ok (.iconst 0, 1) := dk_3 (dk_at dksX12_make_6 5 rfl rfl)
theorem dX12_make_146 : decode cX12_make 146 = .ok (.istore 4, 2) := dk_54 4 (dk_at dksX12_make_6 6 rfl rfl)
theorem dX12_make_148 : decode cX12_make 148 = .ok (.iload 4, 2) := dk_21 4 (dk_at dksX12_make_6 8 rfl rfl)
theorem dX12_make_150 : decode cX12_make 150 = .ok (.aload_n 0, 1) := dk_42 (dk_at dksX12_make_6 10 rfl rfl)
theorem dX12_make_151 : decode cX12_make 151 = .ok (.getfield 29, 3) := dk_180 0 29 (dk_at dksX12_make_6 11 rfl rfl)
theorem dX12_make_154 : decode cX12_make 154 = .ok (.getfield 50, 3) := dk_180 0 50 (dk_at dksX12_make_6 14 rfl rfl)
theorem dX12_make_157 : decode cX12_make 157 = .ok (.if_icmp .ge 31, 3) := dk_162 0 31 (dk_at dksX12_make_6 17 rfl rfl)
theorem dX12_make_160 : decode cX12_make 160 = .ok (.iload_n 1, 1) := dk_27 (dk_at dksX12_make_6 20 rfl rfl)
theorem dX12_make_161 : decode cX12_make 161 = .ok (.iload 4, 2) := dk_21 4 (dk_at dksX12_make_6 21 rfl rfl)
theorem dX12_make_163 : decode cX12_make 163 = .ok (.ishr, 1) := dk_122 (dk_at dksX12_make_6 23 rfl rfl)
theorem dX12_make_164 : decode cX12_make 164 = .ok (.iconst 1, 1) := dk_4 (dk_at dksX12_make_7 0 rfl rfl)
theorem dX12_make_165 : decode cX12_make 165 = .ok (.iand, 1) := dk_126 (dk_at dksX12_make_7 1 rfl rfl)
theorem dX12_make_166 : decode cX12_make 166 = .ok (.ifCond .ne 6, 3) := dk_154 0 6 (dk_at dksX12_make_7 2 rfl rfl)
theorem dX12_make_169 : decode cX12_make 169 = .ok (.goto 13, 3) := dk_167 0 13 (dk_at dksX12_make_7 5 rfl rfl)
theorem dX12_make_172 : decode cX12_make 172 = .ok (.aload_n 0, 1) := dk_42 (dk_at dksX12_make_7 8 rfl rfl)
theorem dX12_make_173 : decode cX12_make 173 = .ok (.iload 4, 2) := dk_21 4 (dk_at dksX12_make_7 9 rfl rfl)
theorem dX12_make_175 : decode cX12_make 175 = .ok (.iload_n 3, 1) := dk_29 (dk_at dksX12_make_7 11 rfl rfl)
theorem dX12_make_176 : decode cX12_make 176 = .ok (.invokevirtual 56, 3) := dk_182 0 56 (dk_at dksX12_make_7 12 rfl rfl)
theorem dX12_make_179 : decode cX12_make 179 = .ok (.iinc 3 1, 3) := dk_132 3 1 (dk_at dksX12_make_7 15 rfl rfl)
theorem dX12_make_182 : decode cX12_make 182 = .ok (.iinc 4 1, 3) := dk_132 4 1 (dk_at dksX12_make_7 18 rfl rfl)
theorem dX12_make_185 : decode cX12_make 185 = .ok (.goto (-37), 3) := dk_167 255 219 (dk_at dksX12_make_7 21 rfl rfl)
theorem dX12_make_188 : decode cX12_make 188 = .ok (.aload_n 0, 1) := dk_42 (dk_at dksX12_make_8 0 rfl rfl)
theorem dX12_make_189 : decode cX12_make 189 = .ok (.getfield 25, 3) := dk_180 0 25 (dk_at dksX12_make_8 1 rfl rfl)
theorem dX12_make_192 : decode cX12_make 192 = .ok (.ifCond .eq 19, 3) := dk_153 0 19 (dk_at dksX12_make_8 4 rfl rfl)
theorem dX12_make_195 : decode cX12_make 195 = .ok (.aload_n 0, 1) := dk_42 (dk_at dksX12_make_8 7 rfl rfl)
theorem dX12_make_196 : decode cX12_make 196 = .ok (.getfield 59, 3) := dk_180 0 59 (dk_at dksX12_make_8 8 rfl rfl)
theorem dX12_make_199 : decode cX12_make 199 = .ok (.bipush 12, 2) := dk_16 12 (dk_at dksX12_make_8 11 rfl rfl)
theorem dX12_make_201 : decode cX12_make 201 = .ok (.if_icmp .gt 10, 3) := dk_163 0 10 (dk_at dksX12_make_8 13 rfl rfl)
theorem dX12_make_204 : decode cX12_make 204 = .ok (.aload_n 0, 1) := dk_42 (dk_at dksX12_make_8 16 rfl rfl)
theorem dX12_make_205 : decode cX12_make 205 = .ok (.getfield 12, 3) := dk_180 0 12 (dk_at dksX12_make_8 17 rfl rfl)
theorem dX12_make_208 : decode cX12_make 208 = .ok (.goto 4, 3) := dk_167 0 4 (dk_at dksX12_make_8 20 rfl rfl)
theorem dX12_make_211 : decode cX12_make 211 = .ok (.aconst_null, 1) := dk_1 (dk_at dksX12_make_8 23 rfl rfl)
theorem dX12_make_212 : decode cX12_make 212 = .ok (.areturn, 1) := dk_176 (dk_at dksX12_make_9 0 rfl rfl)
abbrev cX12_wire : ByteArray := prog_8_method_2_code
def yX12_wire : MethodName := ⟨RX12, "wire", "(II)V"⟩
def dkwX12_wire_1 : List UInt8 := [3, 181, 0, 25, 177]
abbrev dktX12_wire_1 : List UInt8 := dkwX12_wire_1 ++ []
def dkwX12_wire_0 : List UInt8 := [42, 42, 180, 0, 25, 153, 0, 19, 42, 180, 0, 12, 27, 28, 182, 0, 33, 153, 0, 7, 4, 167, 0, 4]
abbrev dktX12_wire_0 : List UInt8 := dkwX12_wire_0 ++ dktX12_wire_1
theorem dksX12_wire_0 : cX12_wire.data.toList.drop 0 = dktX12_wire_0 := by decide +kernel
theorem dksX12_wire_1 : cX12_wire.data.toList.drop 24 = dktX12_wire_1 := dk_seg dksX12_wire_0 24 rfl rfl
theorem dX12_wire_0 : decode cX12_wire 0 = .ok (.aload_n 0, 1) := dk_42 (dk_at dksX12_wire_0 0 rfl rfl)
theorem dX12_wire_1 : decode cX12_wire 1 = .ok (.aload_n 0, 1) := dk_42 (dk_at dksX12_wire_0 1 rfl rfl)
theorem dX12_wire_2 : decode cX12_wire 2 = .ok (.getfield 25, 3) := dk_180 0 25 (dk_at dksX12_wire_0 2 rfl rfl)
theorem dX12_wire_5 : decode cX12_wire 5 = .ok (.ifCond .eq 19, 3) := dk_153 0 19 (dk_at dksX12_wire_0 5 rfl rfl)
theorem dX12_wire_8 : decode cX12_wire 8 = .ok (.aload_n 0, 1) := dk_42 (dk_at dksX12_wire_0 8 rfl rfl)
theorem dX12_wire_9 : decode cX12_wire 9 = .ok (.getfield 12, 3) := dk_180 0 12 (dk_at dksX12_wire_0 9 rfl rfl)
theorem dX12_wire_12 : decode cX12_wire 12 = .ok (.iload_n 1, 1) := dk_27 (dk_at dksX12_wire_0 12 rfl rfl)
theorem dX12_wire_13 : decode cX12_wire 13 = .ok (.iload_n 2, 1) := dk_28 (dk_at dksX12_wire_0 13 rfl rfl)
theorem dX12_wire_14 : decode cX12_wire 14 = .ok (.invokevirtual 33, 3) := dk_182 0 33 (dk_at dksX12_wire_0 14 rfl rfl)
theorem dX12_wire_17 : decode cX12_wire 17 = .ok (.ifCond .eq 7, 3) := dk_153 0 7 (dk_at dksX12_wire_0 17 rfl rfl)
theorem dX12_wire_20 : decode cX12_wire 20 = .ok (.iconst 1, 1) := dk_4 (dk_at dksX12_wire_0 20 rfl rfl)
theorem dX12_wire_21 : decode cX12_wire 21 = .ok (.goto 4, 3) := dk_167 0 4 (dk_at dksX12_wire_0 21 rfl rfl)
theorem dX12_wire_24 : decode cX12_wire 24 = .ok (.iconst 0, 1) := dk_3 (dk_at dksX12_wire_1 0 rfl rfl)
theorem dX12_wire_25 : decode cX12_wire 25 = .ok (.putfield 25, 3) := dk_181 0 25 (dk_at dksX12_wire_1 1 rfl rfl)
theorem dX12_wire_28 : decode cX12_wire 28 = .ok (.return_, 1) := dk_177 (dk_at dksX12_wire_1 4 rfl rfl)
abbrev cX12_takesIn : ByteArray := prog_8_method_5_code
def yX12_takesIn : MethodName := ⟨RX12, "takesIn", "(II)V"⟩
def dkwX12_takesIn_7 : List UInt8 := [16, 120, 28, 96, 182, 0, 41, 42, 17, 0, 205, 21, 4, 96, 16, 124, 28, 96, 182, 0, 41, 177]
abbrev dktX12_takesIn_7 : List UInt8 := dkwX12_takesIn_7 ++ []
def dkwX12_takesIn_6 : List UInt8 := [160, 0, 4, 177, 42, 16, 60, 17, 0, 181, 21, 4, 96, 182, 0, 41, 42, 17, 0, 193, 21, 4, 96]
abbrev dktX12_takesIn_6 : List UInt8 := dkwX12_takesIn_6 ++ dktX12_takesIn_7
def dkwX12_takesIn_5 : List UInt8 := [16, 40, 42, 180, 0, 29, 180, 0, 71, 27, 46, 96, 4, 100, 182, 0, 74, 54, 4, 21, 4, 2]
abbrev dktX12_takesIn_5 : List UInt8 := dkwX12_takesIn_5 ++ dktX12_takesIn_6
def dkwX12_takesIn_4 : List UInt8 := [42, 180, 0, 29, 180, 0, 71, 27, 46, 154, 0, 14, 42, 16, 60, 16, 120, 28, 96, 182, 0, 41, 177, 42]
abbrev dktX12_takesIn_4 : List UInt8 := dkwX12_takesIn_4 ++ dktX12_takesIn_5
def dkwX12_takesIn_3 : List UInt8 := [4, 100, 21, 4, 100, 16, 96, 16, 6, 28, 104, 96, 21, 4, 96, 182, 0, 41, 132, 4, 1, 167, 255, 194]
abbrev dktX12_takesIn_3 : List UInt8 := dkwX12_takesIn_3 ++ dktX12_takesIn_4
def dkwX12_takesIn_2 : List UInt8 := [180, 0, 29, 180, 0, 68, 29, 46, 100, 163, 0, 39, 42, 3, 42, 180, 0, 29, 180, 0, 65, 29, 46, 96]
abbrev dktX12_takesIn_2 : List UInt8 := dkwX12_takesIn_2 ++ dktX12_takesIn_3
def dkwX12_takesIn_1 : List UInt8 := [96, 182, 0, 41, 3, 54, 4, 29, 2, 159, 0, 63, 21, 4, 42, 180, 0, 29, 180, 0, 65, 29, 46, 42]
abbrev dktX12_takesIn_1 : List UInt8 := dkwX12_takesIn_1 ++ dktX12_takesIn_2
def dkwX12_takesIn_0 : List UInt8 := [42, 180, 0, 29, 180, 0, 62, 27, 46, 62, 29, 2, 160, 0, 16, 42, 16, 60, 16, 96, 16, 6, 28, 104]
abbrev dktX12_takesIn_0 : List UInt8 := dkwX12_takesIn_0 ++ dktX12_takesIn_1
theorem dksX12_takesIn_0 : cX12_takesIn.data.toList.drop 0 = dktX12_takesIn_0 := by decide +kernel
theorem dksX12_takesIn_1 : cX12_takesIn.data.toList.drop 24 = dktX12_takesIn_1 := dk_seg dksX12_takesIn_0 24 rfl rfl
theorem dksX12_takesIn_2 : cX12_takesIn.data.toList.drop 48 = dktX12_takesIn_2 := dk_seg dksX12_takesIn_1 24 rfl rfl
theorem dksX12_takesIn_3 : cX12_takesIn.data.toList.drop 72 = dktX12_takesIn_3 := dk_seg dksX12_takesIn_2 24 rfl rfl
theorem dksX12_takesIn_4 : cX12_takesIn.data.toList.drop 96 = dktX12_takesIn_4 := dk_seg dksX12_takesIn_3 24 rfl rfl
theorem dksX12_takesIn_5 : cX12_takesIn.data.toList.drop 120 = dktX12_takesIn_5 := dk_seg dksX12_takesIn_4 24 rfl rfl
theorem dksX12_takesIn_6 : cX12_takesIn.data.toList.drop 142 = dktX12_takesIn_6 := dk_seg dksX12_takesIn_5 22 rfl rfl
theorem dksX12_takesIn_7 : cX12_takesIn.data.toList.drop 165 = dktX12_takesIn_7 := dk_seg dksX12_takesIn_6 23 rfl rfl
theorem dX12_takesIn_0 : decode cX12_takesIn 0 = .ok (.aload_n 0, 1) := dk_42 (dk_at dksX12_takesIn_0 0 rfl rfl)
theorem dX12_takesIn_1 : decode cX12_takesIn 1 = .ok (.getfield 29, 3) := dk_180 0 29 (dk_at dksX12_takesIn_0 1 rfl rfl)
theorem dX12_takesIn_4 : decode cX12_takesIn 4 = .ok (.getfield 62, 3) := dk_180 0 62 (dk_at dksX12_takesIn_0 4 rfl rfl)
theorem dX12_takesIn_7 : decode cX12_takesIn 7 = .ok (.iload_n 1, 1) := dk_27 (dk_at dksX12_takesIn_0 7 rfl rfl)
theorem dX12_takesIn_8 : decode cX12_takesIn 8 = .ok (.iaload, 1) := dk_46 (dk_at dksX12_takesIn_0 8 rfl rfl)
theorem dX12_takesIn_9 : decode cX12_takesIn 9 = .ok (.istore_n 3, 1) := dk_62 (dk_at dksX12_takesIn_0 9 rfl rfl)
theorem dX12_takesIn_10 : decode cX12_takesIn 10 = .ok (.iload_n 3, 1) := dk_29 (dk_at dksX12_takesIn_0 10 rfl rfl)
theorem dX12_takesIn_11 : decode cX12_takesIn 11 = .ok (.iconst (-1), 1) := dk_2 (dk_at dksX12_takesIn_0 11 rfl rfl)
theorem dX12_takesIn_12 : decode cX12_takesIn 12 = .ok (.if_icmp .ne 16, 3) := dk_160 0 16 (dk_at dksX12_takesIn_0 12 rfl rfl)
theorem dX12_takesIn_15 : decode cX12_takesIn 15 = .ok (.aload_n 0, 1) := dk_42 (dk_at dksX12_takesIn_0 15 rfl rfl)
theorem dX12_takesIn_16 : decode cX12_takesIn 16 = .ok (.bipush 60, 2) := dk_16 60 (dk_at dksX12_takesIn_0 16 rfl rfl)
theorem dX12_takesIn_18 : decode cX12_takesIn 18 = .ok (.bipush 96, 2) := dk_16 96 (dk_at dksX12_takesIn_0 18 rfl rfl)
theorem dX12_takesIn_20 : decode cX12_takesIn 20 = .ok (.bipush 6, 2) := dk_16 6 (dk_at dksX12_takesIn_0 20 rfl rfl)
theorem dX12_takesIn_22 : decode cX12_takesIn 22 = .ok (.iload_n 2, 1) := dk_28 (dk_at dksX12_takesIn_0 22 rfl rfl)
theorem dX12_takesIn_23 : decode cX12_takesIn 23 = .ok (.imul, 1) := dk_104 (dk_at dksX12_takesIn_0 23 rfl rfl)
theorem dX12_takesIn_24 : decode cX12_takesIn 24 = .ok (.iadd, 1) := dk_96 (dk_at dksX12_takesIn_1 0 rfl rfl)
theorem dX12_takesIn_25 : decode cX12_takesIn 25 = .ok (.invokevirtual 41, 3) := dk_182 0 41 (dk_at dksX12_takesIn_1 1 rfl rfl)
theorem dX12_takesIn_28 : decode cX12_takesIn 28 = .ok (.iconst 0, 1) := dk_3 (dk_at dksX12_takesIn_1 4 rfl rfl)
theorem dX12_takesIn_29 : decode cX12_takesIn 29 = .ok (.istore 4, 2) := dk_54 4 (dk_at dksX12_takesIn_1 5 rfl rfl)
theorem dX12_takesIn_31 : decode cX12_takesIn 31 = .ok (.iload_n 3, 1) := dk_29 (dk_at dksX12_takesIn_1 7 rfl rfl)
theorem dX12_takesIn_32 : decode cX12_takesIn 32 = .ok (.iconst (-1), 1) := dk_2 (dk_at dksX12_takesIn_1 8 rfl rfl)
theorem dX12_takesIn_33 : decode cX12_takesIn 33 = .ok (.if_icmp .eq 63, 3) := dk_159 0 63 (dk_at dksX12_takesIn_1 9 rfl rfl)
theorem dX12_takesIn_36 : decode cX12_takesIn 36 = .ok (.iload 4, 2) := dk_21 4 (dk_at dksX12_takesIn_1 12 rfl rfl)
theorem dX12_takesIn_38 : decode cX12_takesIn 38 = .ok (.aload_n 0, 1) := dk_42 (dk_at dksX12_takesIn_1 14 rfl rfl)
theorem dX12_takesIn_39 : decode cX12_takesIn 39 = .ok (.getfield 29, 3) := dk_180 0 29 (dk_at dksX12_takesIn_1 15 rfl rfl)
theorem dX12_takesIn_42 : decode cX12_takesIn 42 = .ok (.getfield 65, 3) := dk_180 0 65 (dk_at dksX12_takesIn_1 18 rfl rfl)
theorem dX12_takesIn_45 : decode cX12_takesIn 45 = .ok (.iload_n 3, 1) := dk_29 (dk_at dksX12_takesIn_1 21 rfl rfl)
theorem dX12_takesIn_46 : decode cX12_takesIn 46 = .ok (.iaload, 1) := dk_46 (dk_at dksX12_takesIn_1 22 rfl rfl)
theorem dX12_takesIn_47 : decode cX12_takesIn 47 = .ok (.aload_n 0, 1) := dk_42 (dk_at dksX12_takesIn_1 23 rfl rfl)
theorem dX12_takesIn_48 : decode cX12_takesIn 48 = .ok (.getfield 29, 3) := dk_180 0 29 (dk_at dksX12_takesIn_2 0 rfl rfl)
theorem dX12_takesIn_51 : decode cX12_takesIn 51 = .ok (.getfield 68, 3) := dk_180 0 68 (dk_at dksX12_takesIn_2 3 rfl rfl)
theorem dX12_takesIn_54 : decode cX12_takesIn 54 = .ok (.iload_n 3, 1) := dk_29 (dk_at dksX12_takesIn_2 6 rfl rfl)
theorem dX12_takesIn_55 : decode cX12_takesIn 55 = .ok (.iaload, 1) := dk_46 (dk_at dksX12_takesIn_2 7 rfl rfl)
theorem dX12_takesIn_56 : decode cX12_takesIn 56 = .ok (.isub, 1) := dk_100 (dk_at dksX12_takesIn_2 8 rfl rfl)
theorem dX12_takesIn_57 : decode cX12_takesIn 57 = .ok (.if_icmp .gt 39, 3) := dk_163 0 39 (dk_at dksX12_takesIn_2 9 rfl rfl)
theorem dX12_takesIn_60 : decode cX12_takesIn 60 = .ok (.aload_n 0, 1) := dk_42 (dk_at dksX12_takesIn_2 12 rfl rfl)
theorem dX12_takesIn_61 : decode cX12_takesIn 61 = .ok (.iconst 0, 1) := dk_3 (dk_at dksX12_takesIn_2 13 rfl rfl)
theorem dX12_takesIn_62 : decode cX12_takesIn 62 = .ok (.aload_n 0, 1) := dk_42 (dk_at dksX12_takesIn_2 14 rfl rfl)
theorem dX12_takesIn_63 : decode cX12_takesIn 63 = .ok (.getfield 29, 3) := dk_180 0 29 (dk_at dksX12_takesIn_2 15 rfl rfl)
theorem dX12_takesIn_66 : decode cX12_takesIn 66 = .ok (.getfield 65, 3) := dk_180 0 65 (dk_at dksX12_takesIn_2 18 rfl rfl)
theorem dX12_takesIn_69 : decode cX12_takesIn 69 = .ok (.iload_n 3, 1) := dk_29 (dk_at dksX12_takesIn_2 21 rfl rfl)
theorem dX12_takesIn_70 : decode cX12_takesIn 70 = .ok (.iaload, 1) := dk_46 (dk_at dksX12_takesIn_2 22 rfl rfl)
theorem dX12_takesIn_71 : decode cX12_takesIn 71 = .ok (.iadd, 1) := dk_96 (dk_at dksX12_takesIn_2 23 rfl rfl)
theorem dX12_takesIn_72 : decode cX12_takesIn 72 = .ok (.iconst 1, 1) := dk_4 (dk_at dksX12_takesIn_3 0 rfl rfl)
theorem dX12_takesIn_73 : decode cX12_takesIn 73 = .ok (.isub, 1) := dk_100 (dk_at dksX12_takesIn_3 1 rfl rfl)
theorem dX12_takesIn_74 : decode cX12_takesIn 74 = .ok (.iload 4, 2) := dk_21 4 (dk_at dksX12_takesIn_3 2 rfl rfl)
theorem dX12_takesIn_76 : decode cX12_takesIn 76 = .ok (.isub, 1) := dk_100 (dk_at dksX12_takesIn_3 4 rfl rfl)
theorem dX12_takesIn_77 : decode cX12_takesIn 77 = .ok (.bipush 96, 2) := dk_16 96 (dk_at dksX12_takesIn_3 5 rfl rfl)
theorem dX12_takesIn_79 : decode cX12_takesIn 79 = .ok (.bipush 6, 2) := dk_16 6 (dk_at dksX12_takesIn_3 7 rfl rfl)
theorem dX12_takesIn_81 : decode cX12_takesIn 81 = .ok (.iload_n 2, 1) := dk_28 (dk_at dksX12_takesIn_3 9 rfl rfl)
theorem dX12_takesIn_82 : decode cX12_takesIn 82 = .ok (.imul, 1) := dk_104 (dk_at dksX12_takesIn_3 10 rfl rfl)
theorem dX12_takesIn_83 : decode cX12_takesIn 83 = .ok (.iadd, 1) := dk_96 (dk_at dksX12_takesIn_3 11 rfl rfl)
theorem dX12_takesIn_84 : decode cX12_takesIn 84 = .ok (.iload 4, 2) := dk_21 4 (dk_at dksX12_takesIn_3 12 rfl rfl)
theorem dX12_takesIn_86 : decode cX12_takesIn 86 = .ok (.iadd, 1) := dk_96 (dk_at dksX12_takesIn_3 14 rfl rfl)
theorem dX12_takesIn_87 : decode cX12_takesIn 87 = .ok (.invokevirtual 41, 3) := dk_182 0 41 (dk_at dksX12_takesIn_3 15 rfl rfl)
theorem dX12_takesIn_90 : decode cX12_takesIn 90 = .ok (.iinc 4 1, 3) := dk_132 4 1 (dk_at dksX12_takesIn_3 18 rfl rfl)
theorem dX12_takesIn_93 : decode cX12_takesIn 93 = .ok (.goto (-62), 3) := dk_167 255 194 (dk_at dksX12_takesIn_3 21 rfl rfl)
theorem dX12_takesIn_96 : decode cX12_takesIn 96 = .ok (.aload_n 0, 1) := dk_42 (dk_at dksX12_takesIn_4 0 rfl rfl)
theorem dX12_takesIn_97 : decode cX12_takesIn 97 = .ok (.getfield 29, 3) := dk_180 0 29 (dk_at dksX12_takesIn_4 1 rfl rfl)
theorem dX12_takesIn_100 : decode cX12_takesIn 100 = .ok (.getfield 71, 3) := dk_180 0 71 (dk_at dksX12_takesIn_4 4 rfl rfl)
theorem dX12_takesIn_103 : decode cX12_takesIn 103 = .ok (.iload_n 1, 1) := dk_27 (dk_at dksX12_takesIn_4 7 rfl rfl)
theorem dX12_takesIn_104 : decode cX12_takesIn 104 = .ok (.iaload, 1) := dk_46 (dk_at dksX12_takesIn_4 8 rfl rfl)
theorem dX12_takesIn_105 : decode cX12_takesIn 105 = .ok (.ifCond .ne 14, 3) := dk_154 0 14 (dk_at dksX12_takesIn_4 9 rfl rfl)
theorem dX12_takesIn_108 : decode cX12_takesIn 108 = .ok (.aload_n 0, 1) := dk_42 (dk_at dksX12_takesIn_4 12 rfl rfl)
theorem dX12_takesIn_109 : decode cX12_takesIn 109 = .ok (.bipush 60, 2) := dk_16 60 (dk_at dksX12_takesIn_4 13 rfl rfl)
theorem dX12_takesIn_111 : decode cX12_takesIn 111 = .ok (.bipush 120, 2) := dk_16 120 (dk_at dksX12_takesIn_4 15 rfl rfl)
theorem dX12_takesIn_113 : decode cX12_takesIn 113 = .ok (.iload_n 2, 1) := dk_28 (dk_at dksX12_takesIn_4 17 rfl rfl)
theorem dX12_takesIn_114 : decode cX12_takesIn 114 = .ok (.iadd, 1) := dk_96 (dk_at dksX12_takesIn_4 18 rfl rfl)
theorem dX12_takesIn_115 : decode cX12_takesIn 115 = .ok (.invokevirtual 41, 3) := dk_182 0 41 (dk_at dksX12_takesIn_4 19 rfl rfl)
theorem dX12_takesIn_118 : decode cX12_takesIn 118 = .ok (.return_, 1) := dk_177 (dk_at dksX12_takesIn_4 22 rfl rfl)
theorem dX12_takesIn_119 : decode cX12_takesIn 119 = .ok (.aload_n 0, 1) := dk_42 (dk_at dksX12_takesIn_4 23 rfl rfl)
theorem dX12_takesIn_120 : decode cX12_takesIn 120 = .ok (.bipush 40, 2) := dk_16 40 (dk_at dksX12_takesIn_5 0 rfl rfl)
theorem dX12_takesIn_122 : decode cX12_takesIn 122 = .ok (.aload_n 0, 1) := dk_42 (dk_at dksX12_takesIn_5 2 rfl rfl)
theorem dX12_takesIn_123 : decode cX12_takesIn 123 = .ok (.getfield 29, 3) := dk_180 0 29 (dk_at dksX12_takesIn_5 3 rfl rfl)
theorem dX12_takesIn_126 : decode cX12_takesIn 126 = .ok (.getfield 71, 3) := dk_180 0 71 (dk_at dksX12_takesIn_5 6 rfl rfl)
theorem dX12_takesIn_129 : decode cX12_takesIn 129 = .ok (.iload_n 1, 1) := dk_27 (dk_at dksX12_takesIn_5 9 rfl rfl)
theorem dX12_takesIn_130 : decode cX12_takesIn 130 = .ok (.iaload, 1) := dk_46 (dk_at dksX12_takesIn_5 10 rfl rfl)
theorem dX12_takesIn_131 : decode cX12_takesIn 131 = .ok (.iadd, 1) := dk_96 (dk_at dksX12_takesIn_5 11 rfl rfl)
theorem dX12_takesIn_132 : decode cX12_takesIn 132 = .ok (.iconst 1, 1) := dk_4 (dk_at dksX12_takesIn_5 12 rfl rfl)
theorem dX12_takesIn_133 : decode cX12_takesIn 133 = .ok (.isub, 1) := dk_100 (dk_at dksX12_takesIn_5 13 rfl rfl)
theorem dX12_takesIn_134 : decode cX12_takesIn 134 = .ok (.invokevirtual 74, 3) := dk_182 0 74 (dk_at dksX12_takesIn_5 14 rfl rfl)
theorem dX12_takesIn_137 : decode cX12_takesIn 137 = .ok (.istore 4, 2) := dk_54 4 (dk_at dksX12_takesIn_5 17 rfl rfl)
theorem dX12_takesIn_139 : decode cX12_takesIn 139 = .ok (.iload 4, 2) := dk_21 4 (dk_at dksX12_takesIn_5 19 rfl rfl)
theorem dX12_takesIn_141 : decode cX12_takesIn 141 = .ok (.iconst (-1), 1) := dk_2 (dk_at dksX12_takesIn_5 21 rfl rfl)
theorem dX12_takesIn_142 : decode cX12_takesIn 142 = .ok (.if_icmp .ne 4, 3) := dk_160 0 4 (dk_at dksX12_takesIn_6 0 rfl rfl)
theorem dX12_takesIn_145 : decode cX12_takesIn 145 = .ok (.return_, 1) := dk_177 (dk_at dksX12_takesIn_6 3 rfl rfl)
theorem dX12_takesIn_146 : decode cX12_takesIn 146 = .ok (.aload_n 0, 1) := dk_42 (dk_at dksX12_takesIn_6 4 rfl rfl)
theorem dX12_takesIn_147 : decode cX12_takesIn 147 = .ok (.bipush 60, 2) := dk_16 60 (dk_at dksX12_takesIn_6 5 rfl rfl)
theorem dX12_takesIn_149 : decode cX12_takesIn 149 = .ok (.sipush 181, 3) := dk_17 0 181 (dk_at dksX12_takesIn_6 7 rfl rfl)
theorem dX12_takesIn_152 : decode cX12_takesIn 152 = .ok (.iload 4, 2) := dk_21 4 (dk_at dksX12_takesIn_6 10 rfl rfl)
theorem dX12_takesIn_154 : decode cX12_takesIn 154 = .ok (.iadd, 1) := dk_96 (dk_at dksX12_takesIn_6 12 rfl rfl)
theorem dX12_takesIn_155 : decode cX12_takesIn 155 = .ok (.invokevirtual 41, 3) := dk_182 0 41 (dk_at dksX12_takesIn_6 13 rfl rfl)
theorem dX12_takesIn_158 : decode cX12_takesIn 158 = .ok (.aload_n 0, 1) := dk_42 (dk_at dksX12_takesIn_6 16 rfl rfl)
theorem dX12_takesIn_159 : decode cX12_takesIn 159 = .ok (.sipush 193, 3) := dk_17 0 193 (dk_at dksX12_takesIn_6 17 rfl rfl)
theorem dX12_takesIn_162 : decode cX12_takesIn 162 = .ok (.iload 4, 2) := dk_21 4 (dk_at dksX12_takesIn_6 20 rfl rfl)
theorem dX12_takesIn_164 : decode cX12_takesIn 164 = .ok (.iadd, 1) := dk_96 (dk_at dksX12_takesIn_6 22 rfl rfl)
theorem dX12_takesIn_165 : decode cX12_takesIn 165 = .ok (.bipush 120, 2) := dk_16 120 (dk_at dksX12_takesIn_7 0 rfl rfl)
theorem dX12_takesIn_167 : decode cX12_takesIn 167 = .ok (.iload_n 2, 1) := dk_28 (dk_at dksX12_takesIn_7 2 rfl rfl)
theorem dX12_takesIn_168 : decode cX12_takesIn 168 = .ok (.iadd, 1) := dk_96 (dk_at dksX12_takesIn_7 3 rfl rfl)
theorem dX12_takesIn_169 : decode cX12_takesIn 169 = .ok (.invokevirtual 41, 3) := dk_182 0 41 (dk_at dksX12_takesIn_7 4 rfl rfl)
theorem dX12_takesIn_172 : decode cX12_takesIn 172 = .ok (.aload_n 0, 1) := dk_42 (dk_at dksX12_takesIn_7 7 rfl rfl)
theorem dX12_takesIn_173 : decode cX12_takesIn 173 = .ok (.sipush 205, 3) := dk_17 0 205 (dk_at dksX12_takesIn_7 8 rfl rfl)
theorem dX12_takesIn_176 : decode cX12_takesIn 176 = .ok (.iload 4, 2) := dk_21 4 (dk_at dksX12_takesIn_7 11 rfl rfl)
theorem dX12_takesIn_178 : decode cX12_takesIn 178 = .ok (.iadd, 1) := dk_96 (dk_at dksX12_takesIn_7 13 rfl rfl)
theorem dX12_takesIn_179 : decode cX12_takesIn 179 = .ok (.bipush 124, 2) := dk_16 124 (dk_at dksX12_takesIn_7 14 rfl rfl)
theorem dX12_takesIn_181 : decode cX12_takesIn 181 = .ok (.iload_n 2, 1) := dk_28 (dk_at dksX12_takesIn_7 16 rfl rfl)
theorem dX12_takesIn_182 : decode cX12_takesIn 182 = .ok (.iadd, 1) := dk_96 (dk_at dksX12_takesIn_7 17 rfl rfl)
theorem dX12_takesIn_183 : decode cX12_takesIn 183 = .ok (.invokevirtual 41, 3) := dk_182 0 41 (dk_at dksX12_takesIn_7 18 rfl rfl)
theorem dX12_takesIn_186 : decode cX12_takesIn 186 = .ok (.return_, 1) := dk_177 (dk_at dksX12_takesIn_7 21 rfl rfl)
abbrev cX12_point : ByteArray := prog_8_method_3_code
def yX12_point : MethodName := ⟨RX12, "point", "(I)I"⟩
def dkwX12_point_4 : List UInt8 := [46, 4, 96, 79, 6, 28, 104, 42, 180, 0, 22, 28, 46, 96, 4, 100, 172]
abbrev dktX12_point_4 : List UInt8 := dkwX12_point_4 ++ []
def dkwX12_point_3 : List UInt8 := [79, 42, 180, 0, 22, 28, 3, 79, 42, 27, 17, 0, 144, 28, 96, 182, 0, 41, 42, 180, 0, 22, 28, 92]
abbrev dktX12_point_3 : List UInt8 := dkwX12_point_3 ++ dktX12_point_4
def dkwX12_point_2 : List UInt8 := [28, 42, 180, 0, 37, 160, 0, 37, 42, 89, 180, 0, 37, 4, 96, 181, 0, 37, 42, 180, 0, 18, 28, 27]
abbrev dktX12_point_2 : List UInt8 := dkwX12_point_2 ++ dktX12_point_3
def dkwX12_point_1 : List UInt8 := [28, 46, 6, 160, 0, 9, 132, 2, 1, 167, 255, 225, 28, 7, 160, 0, 10, 42, 3, 181, 0, 25, 2, 172]
abbrev dktX12_point_1 : List UInt8 := dkwX12_point_1 ++ dktX12_point_2
def dkwX12_point_0 : List UInt8 := [3, 61, 28, 42, 180, 0, 37, 162, 0, 29, 42, 180, 0, 18, 28, 46, 27, 160, 0, 13, 42, 180, 0, 22]
abbrev dktX12_point_0 : List UInt8 := dkwX12_point_0 ++ dktX12_point_1
theorem dksX12_point_0 : cX12_point.data.toList.drop 0 = dktX12_point_0 := by decide +kernel
theorem dksX12_point_1 : cX12_point.data.toList.drop 24 = dktX12_point_1 := dk_seg dksX12_point_0 24 rfl rfl
theorem dksX12_point_2 : cX12_point.data.toList.drop 48 = dktX12_point_2 := dk_seg dksX12_point_1 24 rfl rfl
theorem dksX12_point_3 : cX12_point.data.toList.drop 72 = dktX12_point_3 := dk_seg dksX12_point_2 24 rfl rfl
theorem dksX12_point_4 : cX12_point.data.toList.drop 96 = dktX12_point_4 := dk_seg dksX12_point_3 24 rfl rfl
theorem dX12_point_0 : decode cX12_point 0 = .ok (.iconst 0, 1) := dk_3 (dk_at dksX12_point_0 0 rfl rfl)
theorem dX12_point_1 : decode cX12_point 1 = .ok (.istore_n 2, 1) := dk_61 (dk_at dksX12_point_0 1 rfl rfl)
theorem dX12_point_2 : decode cX12_point 2 = .ok (.iload_n 2, 1) := dk_28 (dk_at dksX12_point_0 2 rfl rfl)
theorem dX12_point_3 : decode cX12_point 3 = .ok (.aload_n 0, 1) := dk_42 (dk_at dksX12_point_0 3 rfl rfl)
theorem dX12_point_4 : decode cX12_point 4 = .ok (.getfield 37, 3) := dk_180 0 37 (dk_at dksX12_point_0 4 rfl rfl)
theorem dX12_point_7 : decode cX12_point 7 = .ok (.if_icmp .ge 29, 3) := dk_162 0 29 (dk_at dksX12_point_0 7 rfl rfl)
theorem dX12_point_10 : decode cX12_point 10 = .ok (.aload_n 0, 1) := dk_42 (dk_at dksX12_point_0 10 rfl rfl)
theorem dX12_point_11 : decode cX12_point 11 = .ok (.getfield 18, 3) := dk_180 0 18 (dk_at dksX12_point_0 11 rfl rfl)
theorem dX12_point_14 : decode cX12_point 14 = .ok (.iload_n 2, 1) := dk_28 (dk_at dksX12_point_0 14 rfl rfl)
theorem dX12_point_15 : decode cX12_point 15 = .ok (.iaload, 1) := dk_46 (dk_at dksX12_point_0 15 rfl rfl)
theorem dX12_point_16 : decode cX12_point 16 = .ok (.iload_n 1, 1) := dk_27 (dk_at dksX12_point_0 16 rfl rfl)
theorem dX12_point_17 : decode cX12_point 17 = .ok (.if_icmp .ne 13, 3) := dk_160 0 13 (dk_at dksX12_point_0 17 rfl rfl)
theorem dX12_point_20 : decode cX12_point 20 = .ok (.aload_n 0, 1) := dk_42 (dk_at dksX12_point_0 20 rfl rfl)
theorem dX12_point_21 : decode cX12_point 21 = .ok (.getfield 22, 3) := dk_180 0 22 (dk_at dksX12_point_0 21 rfl rfl)
theorem dX12_point_24 : decode cX12_point 24 = .ok (.iload_n 2, 1) := dk_28 (dk_at dksX12_point_1 0 rfl rfl)
theorem dX12_point_25 : decode cX12_point 25 = .ok (.iaload, 1) := dk_46 (dk_at dksX12_point_1 1 rfl rfl)
theorem dX12_point_26 : decode cX12_point 26 = .ok (.iconst 3, 1) := dk_6 (dk_at dksX12_point_1 2 rfl rfl)
theorem dX12_point_27 : decode cX12_point 27 = .ok (.if_icmp .ne 9, 3) := dk_160 0 9 (dk_at dksX12_point_1 3 rfl rfl)
theorem dX12_point_30 : decode cX12_point 30 = .ok (.iinc 2 1, 3) := dk_132 2 1 (dk_at dksX12_point_1 6 rfl rfl)
theorem dX12_point_33 : decode cX12_point 33 = .ok (.goto (-31), 3) := dk_167 255 225 (dk_at dksX12_point_1 9 rfl rfl)
theorem dX12_point_36 : decode cX12_point 36 = .ok (.iload_n 2, 1) := dk_28 (dk_at dksX12_point_1 12 rfl rfl)
theorem dX12_point_37 : decode cX12_point 37 = .ok (.iconst 4, 1) := dk_7 (dk_at dksX12_point_1 13 rfl rfl)
theorem dX12_point_38 : decode cX12_point 38 = .ok (.if_icmp .ne 10, 3) := dk_160 0 10 (dk_at dksX12_point_1 14 rfl rfl)
theorem dX12_point_41 : decode cX12_point 41 = .ok (.aload_n 0, 1) := dk_42 (dk_at dksX12_point_1 17 rfl rfl)
theorem dX12_point_42 : decode cX12_point 42 = .ok (.iconst 0, 1) := dk_3 (dk_at dksX12_point_1 18 rfl rfl)
theorem dX12_point_43 : decode cX12_point 43 = .ok (.putfield 25, 3) := dk_181 0 25 (dk_at dksX12_point_1 19 rfl rfl)
theorem dX12_point_46 : decode cX12_point 46 = .ok (.iconst (-1), 1) := dk_2 (dk_at dksX12_point_1 22 rfl rfl)
theorem dX12_point_47 : decode cX12_point 47 = .ok (.ireturn, 1) := dk_172 (dk_at dksX12_point_1 23 rfl rfl)
theorem dX12_point_48 : decode cX12_point 48 = .ok (.iload_n 2, 1) := dk_28 (dk_at dksX12_point_2 0 rfl rfl)
theorem dX12_point_49 : decode cX12_point 49 = .ok (.aload_n 0, 1) := dk_42 (dk_at dksX12_point_2 1 rfl rfl)
theorem dX12_point_50 : decode cX12_point 50 = .ok (.getfield 37, 3) := dk_180 0 37 (dk_at dksX12_point_2 2 rfl rfl)
theorem dX12_point_53 : decode cX12_point 53 = .ok (.if_icmp .ne 37, 3) := dk_160 0 37 (dk_at dksX12_point_2 5 rfl rfl)
theorem dX12_point_56 : decode cX12_point 56 = .ok (.aload_n 0, 1) := dk_42 (dk_at dksX12_point_2 8 rfl rfl)
theorem dX12_point_57 : decode cX12_point 57 = .ok (.dup, 1) := dk_89 (dk_at dksX12_point_2 9 rfl rfl)
theorem dX12_point_58 : decode cX12_point 58 = .ok (.getfield 37, 3) := dk_180 0 37 (dk_at dksX12_point_2 10 rfl rfl)
theorem dX12_point_61 : decode cX12_point 61 = .ok (.iconst 1, 1) := dk_4 (dk_at dksX12_point_2 13 rfl rfl)
theorem dX12_point_62 : decode cX12_point 62 = .ok (.iadd, 1) := dk_96 (dk_at dksX12_point_2 14 rfl rfl)
theorem dX12_point_63 : decode cX12_point 63 = .ok (.putfield 37, 3) := dk_181 0 37 (dk_at dksX12_point_2 15 rfl rfl)
theorem dX12_point_66 : decode cX12_point 66 = .ok (.aload_n 0, 1) := dk_42 (dk_at dksX12_point_2 18 rfl rfl)
theorem dX12_point_67 : decode cX12_point 67 = .ok (.getfield 18, 3) := dk_180 0 18 (dk_at dksX12_point_2 19 rfl rfl)
theorem dX12_point_70 : decode cX12_point 70 = .ok (.iload_n 2, 1) := dk_28 (dk_at dksX12_point_2 22 rfl rfl)
theorem dX12_point_71 : decode cX12_point 71 = .ok (.iload_n 1, 1) := dk_27 (dk_at dksX12_point_2 23 rfl rfl)
theorem dX12_point_72 : decode cX12_point 72 = .ok (.iastore, 1) := dk_79 (dk_at dksX12_point_3 0 rfl rfl)
theorem dX12_point_73 : decode cX12_point 73 = .ok (.aload_n 0, 1) := dk_42 (dk_at dksX12_point_3 1 rfl rfl)
theorem dX12_point_74 : decode cX12_point 74 = .ok (.getfield 22, 3) := dk_180 0 22 (dk_at dksX12_point_3 2 rfl rfl)
theorem dX12_point_77 : decode cX12_point 77 = .ok (.iload_n 2, 1) := dk_28 (dk_at dksX12_point_3 5 rfl rfl)
theorem dX12_point_78 : decode cX12_point 78 = .ok (.iconst 0, 1) := dk_3 (dk_at dksX12_point_3 6 rfl rfl)
theorem dX12_point_79 : decode cX12_point 79 = .ok (.iastore, 1) := dk_79 (dk_at dksX12_point_3 7 rfl rfl)
theorem dX12_point_80 : decode cX12_point 80 = .ok (.aload_n 0, 1) := dk_42 (dk_at dksX12_point_3 8 rfl rfl)
theorem dX12_point_81 : decode cX12_point 81 = .ok (.iload_n 1, 1) := dk_27 (dk_at dksX12_point_3 9 rfl rfl)
theorem dX12_point_82 : decode cX12_point 82 = .ok (.sipush 144, 3) := dk_17 0 144 (dk_at dksX12_point_3 10 rfl rfl)
theorem dX12_point_85 : decode cX12_point 85 = .ok (.iload_n 2, 1) := dk_28 (dk_at dksX12_point_3 13 rfl rfl)
theorem dX12_point_86 : decode cX12_point 86 = .ok (.iadd, 1) := dk_96 (dk_at dksX12_point_3 14 rfl rfl)
theorem dX12_point_87 : decode cX12_point 87 = .ok (.invokevirtual 41, 3) := dk_182 0 41 (dk_at dksX12_point_3 15 rfl rfl)
theorem dX12_point_90 : decode cX12_point 90 = .ok (.aload_n 0, 1) := dk_42 (dk_at dksX12_point_3 18 rfl rfl)
theorem dX12_point_91 : decode cX12_point 91 = .ok (.getfield 22, 3) := dk_180 0 22 (dk_at dksX12_point_3 19 rfl rfl)
theorem dX12_point_94 : decode cX12_point 94 = .ok (.iload_n 2, 1) := dk_28 (dk_at dksX12_point_3 22 rfl rfl)
theorem dX12_point_95 : decode cX12_point 95 = .ok (.dup2, 1) := dk_92 (dk_at dksX12_point_3 23 rfl rfl)
theorem dX12_point_96 : decode cX12_point 96 = .ok (.iaload, 1) := dk_46 (dk_at dksX12_point_4 0 rfl rfl)
theorem dX12_point_97 : decode cX12_point 97 = .ok (.iconst 1, 1) := dk_4 (dk_at dksX12_point_4 1 rfl rfl)
theorem dX12_point_98 : decode cX12_point 98 = .ok (.iadd, 1) := dk_96 (dk_at dksX12_point_4 2 rfl rfl)
theorem dX12_point_99 : decode cX12_point 99 = .ok (.iastore, 1) := dk_79 (dk_at dksX12_point_4 3 rfl rfl)
theorem dX12_point_100 : decode cX12_point 100 = .ok (.iconst 3, 1) := dk_6 (dk_at dksX12_point_4 4 rfl rfl)
theorem dX12_point_101 : decode cX12_point 101 = .ok (.iload_n 2, 1) := dk_28 (dk_at dksX12_point_4 5 rfl rfl)
theorem dX12_point_102 : decode cX12_point 102 = .ok (.imul, 1) := dk_104 (dk_at dksX12_point_4 6 rfl rfl)
theorem dX12_point_103 : decode cX12_point 103 = .ok (.aload_n 0, 1) := dk_42 (dk_at dksX12_point_4 7 rfl rfl)
theorem dX12_point_104 : decode cX12_point 104 = .ok (.getfield 22, 3) := dk_180 0 22 (dk_at dksX12_point_4 8 rfl rfl)
theorem dX12_point_107 : decode cX12_point 107 = .ok (.iload_n 2, 1) := dk_28 (dk_at dksX12_point_4 11 rfl rfl)
theorem dX12_point_108 : decode cX12_point 108 = .ok (.iaload, 1) := dk_46 (dk_at dksX12_point_4 12 rfl rfl)
theorem dX12_point_109 : decode cX12_point 109 = .ok (.iadd, 1) := dk_96 (dk_at dksX12_point_4 13 rfl rfl)
theorem dX12_point_110 : decode cX12_point 110 = .ok (.iconst 1, 1) := dk_4 (dk_at dksX12_point_4 14 rfl rfl)
theorem dX12_point_111 : decode cX12_point 111 = .ok (.isub, 1) := dk_100 (dk_at dksX12_point_4 15 rfl rfl)
theorem dX12_point_112 : decode cX12_point 112 = .ok (.ireturn, 1) := dk_172 (dk_at dksX12_point_4 16 rfl rfl)
abbrev cX12_prints : ByteArray := prog_8_method_6_code
def yX12_prints : MethodName := ⟨RX12, "prints", "(II)V"⟩
def dkwX12_prints_5 : List UInt8 := [167, 255, 169, 42, 29, 17, 0, 128, 28, 96, 182, 0, 41, 177]
abbrev dktX12_prints_5 : List UInt8 := dkwX12_prints_5 ++ []
def dkwX12_prints_4 : List UInt8 := [17, 0, 205, 21, 5, 96, 17, 0, 132, 42, 180, 0, 59, 96, 4, 100, 182, 0, 41, 132, 4, 255]
abbrev dktX12_prints_4 : List UInt8 := dkwX12_prints_4 ++ dktX12_prints_5
def dkwX12_prints_3 : List UInt8 := [167, 0, 43, 42, 16, 68, 16, 6, 28, 104, 96, 21, 4, 96, 17, 0, 181, 21, 5, 96, 182, 0, 41, 42]
abbrev dktX12_prints_3 : List UInt8 := dkwX12_prints_3 ++ dktX12_prints_4
def dkwX12_prints_2 : List UInt8 := [167, 0, 4, 2, 54, 5, 42, 89, 180, 0, 59, 4, 96, 181, 0, 59, 21, 5, 2, 160, 0, 6]
abbrev dktX12_prints_2 : List UInt8 := dkwX12_prints_2 ++ dktX12_prints_3
def dkwX12_prints_1 : List UInt8 := [4, 100, 54, 4, 21, 4, 155, 0, 88, 42, 180, 0, 59, 16, 12, 162, 0, 11, 42, 29, 182, 0, 74]
abbrev dktX12_prints_1 : List UInt8 := dkwX12_prints_1 ++ dktX12_prints_2
def dkwX12_prints_0 : List UInt8 := [16, 65, 42, 180, 0, 29, 180, 0, 78, 27, 46, 96, 4, 100, 62, 42, 180, 0, 29, 180, 0, 81, 27, 46]
abbrev dktX12_prints_0 : List UInt8 := dkwX12_prints_0 ++ dktX12_prints_1
theorem dksX12_prints_0 : cX12_prints.data.toList.drop 0 = dktX12_prints_0 := by decide +kernel
theorem dksX12_prints_1 : cX12_prints.data.toList.drop 24 = dktX12_prints_1 := dk_seg dksX12_prints_0 24 rfl rfl
theorem dksX12_prints_2 : cX12_prints.data.toList.drop 47 = dktX12_prints_2 := dk_seg dksX12_prints_1 23 rfl rfl
theorem dksX12_prints_3 : cX12_prints.data.toList.drop 69 = dktX12_prints_3 := dk_seg dksX12_prints_2 22 rfl rfl
theorem dksX12_prints_4 : cX12_prints.data.toList.drop 93 = dktX12_prints_4 := dk_seg dksX12_prints_3 24 rfl rfl
theorem dksX12_prints_5 : cX12_prints.data.toList.drop 115 = dktX12_prints_5 := dk_seg dksX12_prints_4 22 rfl rfl
theorem dX12_prints_0 : decode cX12_prints 0 = .ok (.bipush 65, 2) := dk_16 65 (dk_at dksX12_prints_0 0 rfl rfl)
theorem dX12_prints_2 : decode cX12_prints 2 = .ok (.aload_n 0, 1) := dk_42 (dk_at dksX12_prints_0 2 rfl rfl)
theorem dX12_prints_3 : decode cX12_prints 3 = .ok (.getfield 29, 3) := dk_180 0 29 (dk_at dksX12_prints_0 3 rfl rfl)
theorem dX12_prints_6 : decode cX12_prints 6 = .ok (.getfield 78, 3) := dk_180 0 78 (dk_at dksX12_prints_0 6 rfl rfl)
theorem dX12_prints_9 : decode cX12_prints 9 = .ok (.iload_n 1, 1) := dk_27 (dk_at dksX12_prints_0 9 rfl rfl)
theorem dX12_prints_10 : decode cX12_prints 10 = .ok (.iaload, 1) := dk_46 (dk_at dksX12_prints_0 10 rfl rfl)
theorem dX12_prints_11 : decode cX12_prints 11 = .ok (.iadd, 1) := dk_96 (dk_at dksX12_prints_0 11 rfl rfl)
theorem dX12_prints_12 : decode cX12_prints 12 = .ok (.iconst 1, 1) := dk_4 (dk_at dksX12_prints_0 12 rfl rfl)
theorem dX12_prints_13 : decode cX12_prints 13 = .ok (.isub, 1) := dk_100 (dk_at dksX12_prints_0 13 rfl rfl)
theorem dX12_prints_14 : decode cX12_prints 14 = .ok (.istore_n 3, 1) := dk_62 (dk_at dksX12_prints_0 14 rfl rfl)
theorem dX12_prints_15 : decode cX12_prints 15 = .ok (.aload_n 0, 1) := dk_42 (dk_at dksX12_prints_0 15 rfl rfl)
theorem dX12_prints_16 : decode cX12_prints 16 = .ok (.getfield 29, 3) := dk_180 0 29 (dk_at dksX12_prints_0 16 rfl rfl)
theorem dX12_prints_19 : decode cX12_prints 19 = .ok (.getfield 81, 3) := dk_180 0 81 (dk_at dksX12_prints_0 19 rfl rfl)
theorem dX12_prints_22 : decode cX12_prints 22 = .ok (.iload_n 1, 1) := dk_27 (dk_at dksX12_prints_0 22 rfl rfl)
theorem dX12_prints_23 : decode cX12_prints 23 = .ok (.iaload, 1) := dk_46 (dk_at dksX12_prints_0 23 rfl rfl)
theorem dX12_prints_24 : decode cX12_prints 24 = .ok (.iconst 1, 1) := dk_4 (dk_at dksX12_prints_1 0 rfl rfl)
theorem dX12_prints_25 : decode cX12_prints 25 = .ok (.isub, 1) := dk_100 (dk_at dksX12_prints_1 1 rfl rfl)
theorem dX12_prints_26 : decode cX12_prints 26 = .ok (.istore 4, 2) := dk_54 4 (dk_at dksX12_prints_1 2 rfl rfl)
theorem dX12_prints_28 : decode cX12_prints 28 = .ok (.iload 4, 2) := dk_21 4 (dk_at dksX12_prints_1 4 rfl rfl)
theorem dX12_prints_30 : decode cX12_prints 30 = .ok (.ifCond .lt 88, 3) := dk_155 0 88 (dk_at dksX12_prints_1 6 rfl rfl)
theorem dX12_prints_33 : decode cX12_prints 33 = .ok (.aload_n 0, 1) := dk_42 (dk_at dksX12_prints_1 9 rfl rfl)
theorem dX12_prints_34 : decode cX12_prints 34 = .ok (.getfield 59, 3) := dk_180 0 59 (dk_at dksX12_prints_1 10 rfl rfl)
theorem dX12_prints_37 : decode cX12_prints 37 = .ok (.bipush 12, 2) := dk_16 12 (dk_at dksX12_prints_1 13 rfl rfl)
theorem dX12_prints_39 : decode cX12_prints 39 = .ok (.if_icmp .ge 11, 3) := dk_162 0 11 (dk_at dksX12_prints_1 15 rfl rfl)
theorem dX12_prints_42 : decode cX12_prints 42 = .ok (.aload_n 0, 1) := dk_42 (dk_at dksX12_prints_1 18 rfl rfl)
theorem dX12_prints_43 : decode cX12_prints 43 = .ok (.iload_n 3, 1) := dk_29 (dk_at dksX12_prints_1 19 rfl rfl)
theorem dX12_prints_44 : decode cX12_prints 44 = .ok (.invokevirtual 74, 3) := dk_182 0 74 (dk_at dksX12_prints_1 20 rfl rfl)
theorem dX12_prints_47 : decode cX12_prints 47 = .ok (.goto 4, 3) := dk_167 0 4 (dk_at dksX12_prints_2 0 rfl rfl)
theorem dX12_prints_50 : decode cX12_prints 50 = .ok (.iconst (-1), 1) := dk_2 (dk_at dksX12_prints_2 3 rfl rfl)
theorem dX12_prints_51 : decode cX12_prints 51 = .ok (.istore 5, 2) := dk_54 5 (dk_at dksX12_prints_2 4 rfl rfl)
theorem dX12_prints_53 : decode cX12_prints 53 = .ok (.aload_n 0, 1) := dk_42 (dk_at dksX12_prints_2 6 rfl rfl)
theorem dX12_prints_54 : decode cX12_prints 54 = .ok (.dup, 1) := dk_89 (dk_at dksX12_prints_2 7 rfl rfl)
theorem dX12_prints_55 : decode cX12_prints 55 = .ok (.getfield 59, 3) := dk_180 0 59 (dk_at dksX12_prints_2 8 rfl rfl)
theorem dX12_prints_58 : decode cX12_prints 58 = .ok (.iconst 1, 1) := dk_4 (dk_at dksX12_prints_2 11 rfl rfl)
theorem dX12_prints_59 : decode cX12_prints 59 = .ok (.iadd, 1) := dk_96 (dk_at dksX12_prints_2 12 rfl rfl)
theorem dX12_prints_60 : decode cX12_prints 60 = .ok (.putfield 59, 3) := dk_181 0 59 (dk_at dksX12_prints_2 13 rfl rfl)
theorem dX12_prints_63 : decode cX12_prints 63 = .ok (.iload 5, 2) := dk_21 5 (dk_at dksX12_prints_2 16 rfl rfl)
theorem dX12_prints_65 : decode cX12_prints 65 = .ok (.iconst (-1), 1) := dk_2 (dk_at dksX12_prints_2 18 rfl rfl)
theorem dX12_prints_66 : decode cX12_prints 66 = .ok (.if_icmp .ne 6, 3) := dk_160 0 6 (dk_at dksX12_prints_2 19 rfl rfl)
theorem dX12_prints_69 : decode cX12_prints 69 = .ok (.goto 43, 3) := dk_167 0 43 (dk_at dksX12_prints_3 0 rfl rfl)
theorem dX12_prints_72 : decode cX12_prints 72 = .ok (.aload_n 0, 1) := dk_42 (dk_at dksX12_prints_3 3 rfl rfl)
theorem dX12_prints_73 : decode cX12_prints 73 = .ok (.bipush 68, 2) := dk_16 68 (dk_at dksX12_prints_3 4 rfl rfl)
theorem dX12_prints_75 : decode cX12_prints 75 = .ok (.bipush 6, 2) := dk_16 6 (dk_at dksX12_prints_3 6 rfl rfl)
theorem dX12_prints_77 : decode cX12_prints 77 = .ok (.iload_n 2, 1) := dk_28 (dk_at dksX12_prints_3 8 rfl rfl)
theorem dX12_prints_78 : decode cX12_prints 78 = .ok (.imul, 1) := dk_104 (dk_at dksX12_prints_3 9 rfl rfl)
theorem dX12_prints_79 : decode cX12_prints 79 = .ok (.iadd, 1) := dk_96 (dk_at dksX12_prints_3 10 rfl rfl)
theorem dX12_prints_80 : decode cX12_prints 80 = .ok (.iload 4, 2) := dk_21 4 (dk_at dksX12_prints_3 11 rfl rfl)
theorem dX12_prints_82 : decode cX12_prints 82 = .ok (.iadd, 1) := dk_96 (dk_at dksX12_prints_3 13 rfl rfl)
theorem dX12_prints_83 : decode cX12_prints 83 = .ok (.sipush 181, 3) := dk_17 0 181 (dk_at dksX12_prints_3 14 rfl rfl)
theorem dX12_prints_86 : decode cX12_prints 86 = .ok (.iload 5, 2) := dk_21 5 (dk_at dksX12_prints_3 17 rfl rfl)
theorem dX12_prints_88 : decode cX12_prints 88 = .ok (.iadd, 1) := dk_96 (dk_at dksX12_prints_3 19 rfl rfl)
theorem dX12_prints_89 : decode cX12_prints 89 = .ok (.invokevirtual 41, 3) := dk_182 0 41 (dk_at dksX12_prints_3 20 rfl rfl)
theorem dX12_prints_92 : decode cX12_prints 92 = .ok (.aload_n 0, 1) := dk_42 (dk_at dksX12_prints_3 23 rfl rfl)
theorem dX12_prints_93 : decode cX12_prints 93 = .ok (.sipush 205, 3) := dk_17 0 205 (dk_at dksX12_prints_4 0 rfl rfl)
theorem dX12_prints_96 : decode cX12_prints 96 = .ok (.iload 5, 2) := dk_21 5 (dk_at dksX12_prints_4 3 rfl rfl)
theorem dX12_prints_98 : decode cX12_prints 98 = .ok (.iadd, 1) := dk_96 (dk_at dksX12_prints_4 5 rfl rfl)
theorem dX12_prints_99 : decode cX12_prints 99 = .ok (.sipush 132, 3) := dk_17 0 132 (dk_at dksX12_prints_4 6 rfl rfl)
theorem dX12_prints_102 : decode cX12_prints 102 = .ok (.aload_n 0, 1) := dk_42 (dk_at dksX12_prints_4 9 rfl rfl)
theorem dX12_prints_103 : decode cX12_prints 103 = .ok (.getfield 59, 3) := dk_180 0 59 (dk_at dksX12_prints_4 10 rfl rfl)
theorem dX12_prints_106 : decode cX12_prints 106 = .ok (.iadd, 1) := dk_96 (dk_at dksX12_prints_4 13 rfl rfl)
theorem dX12_prints_107 : decode cX12_prints 107 = .ok (.iconst 1, 1) := dk_4 (dk_at dksX12_prints_4 14 rfl rfl)
theorem dX12_prints_108 : decode cX12_prints 108 = .ok (.isub, 1) := dk_100 (dk_at dksX12_prints_4 15 rfl rfl)
theorem dX12_prints_109 : decode cX12_prints 109 = .ok (.invokevirtual 41, 3) := dk_182 0 41 (dk_at dksX12_prints_4 16 rfl rfl)
theorem dX12_prints_112 : decode cX12_prints 112 = .ok (.iinc 4 (-1), 3) := dk_132 4 255 (dk_at dksX12_prints_4 19 rfl rfl)
theorem dX12_prints_115 : decode cX12_prints 115 = .ok (.goto (-87), 3) := dk_167 255 169 (dk_at dksX12_prints_5 0 rfl rfl)
theorem dX12_prints_118 : decode cX12_prints 118 = .ok (.aload_n 0, 1) := dk_42 (dk_at dksX12_prints_5 3 rfl rfl)
theorem dX12_prints_119 : decode cX12_prints 119 = .ok (.iload_n 3, 1) := dk_29 (dk_at dksX12_prints_5 4 rfl rfl)
theorem dX12_prints_120 : decode cX12_prints 120 = .ok (.sipush 128, 3) := dk_17 0 128 (dk_at dksX12_prints_5 5 rfl rfl)
theorem dX12_prints_123 : decode cX12_prints 123 = .ok (.iload_n 2, 1) := dk_28 (dk_at dksX12_prints_5 8 rfl rfl)
theorem dX12_prints_124 : decode cX12_prints 124 = .ok (.iadd, 1) := dk_96 (dk_at dksX12_prints_5 9 rfl rfl)
theorem dX12_prints_125 : decode cX12_prints 125 = .ok (.invokevirtual 41, 3) := dk_182 0 41 (dk_at dksX12_prints_5 10 rfl rfl)
theorem dX12_prints_128 : decode cX12_prints 128 = .ok (.return_, 1) := dk_177 (dk_at dksX12_prints_5 13 rfl rfl)
abbrev cX2_init : ByteArray := prog_2_method_1_code
def yX2_init : MethodName := ⟨RX2, "<init>", "()V"⟩
def dkwX2_init_0 : List UInt8 := [42, 183, 0, 3, 42, 16, 60, 188, 10, 181, 0, 9, 42, 16, 60, 188, 10, 181, 0, 15, 177]
abbrev dktX2_init_0 : List UInt8 := dkwX2_init_0 ++ []
theorem dksX2_init_0 : cX2_init.data.toList.drop 0 = dktX2_init_0 := by decide +kernel
theorem dX2_init_0 : decode cX2_init 0 = .ok (.aload_n 0, 1) := dk_42 (dk_at dksX2_init_0 0 rfl rfl)
theorem dX2_init_1 : decode cX2_init 1 = .ok (.invokespecial 3, 3) := dk_183 0 3 (dk_at dksX2_init_0 1 rfl rfl)
theorem dX2_init_4 : decode cX2_init 4 = .ok (.aload_n 0, 1) := dk_42 (dk_at dksX2_init_0 4 rfl rfl)
theorem dX2_init_5 : decode cX2_init 5 = .ok (.bipush 60, 2) := dk_16 60 (dk_at dksX2_init_0 5 rfl rfl)
theorem dX2_init_7 : decode cX2_init 7 = .ok (.newarray .int, 2) := dk_188_10 (dk_at dksX2_init_0 7 rfl rfl)
theorem dX2_init_9 : decode cX2_init 9 = .ok (.putfield 9, 3) := dk_181 0 9 (dk_at dksX2_init_0 9 rfl rfl)
theorem dX2_init_12 : decode cX2_init 12 = .ok (.aload_n 0, 1) := dk_42 (dk_at dksX2_init_0 12 rfl rfl)
theorem dX2_init_13 : decode cX2_init 13 = .ok (.bipush 60, 2) := dk_16 60 (dk_at dksX2_init_0 13 rfl rfl)
theorem dX2_init_15 : decode cX2_init 15 = .ok (.newarray .int, 2) := dk_188_10 (dk_at dksX2_init_0 15 rfl rfl)
theorem dX2_init_17 : decode cX2_init 17 = .ok (.putfield 15, 3) := dk_181 0 15 (dk_at dksX2_init_0 17 rfl rfl)
theorem dX2_init_20 : decode cX2_init 20 = .ok (.return_, 1) := dk_177 (dk_at dksX2_init_0 20 rfl rfl)
abbrev cX2_add : ByteArray := prog_2_method_2_code
def yX2_add : MethodName := ⟨RX2, "add", "(II)Z"⟩
def dkwX2_add_1 : List UInt8 := [180, 0, 15, 42, 180, 0, 18, 28, 79, 42, 89, 180, 0, 18, 4, 96, 181, 0, 18, 4, 172]
abbrev dktX2_add_1 : List UInt8 := dkwX2_add_1 ++ []
def dkwX2_add_0 : List UInt8 := [42, 180, 0, 18, 16, 60, 160, 0, 5, 3, 172, 42, 180, 0, 9, 42, 180, 0, 18, 27, 79, 42]
abbrev dktX2_add_0 : List UInt8 := dkwX2_add_0 ++ dktX2_add_1
theorem dksX2_add_0 : cX2_add.data.toList.drop 0 = dktX2_add_0 := by decide +kernel
theorem dksX2_add_1 : cX2_add.data.toList.drop 22 = dktX2_add_1 := dk_seg dksX2_add_0 22 rfl rfl
theorem dX2_add_0 : decode cX2_add 0 = .ok (.aload_n 0, 1) := dk_42 (dk_at dksX2_add_0 0 rfl rfl)
theorem dX2_add_1 : decode cX2_add 1 = .ok (.getfield 18, 3) := dk_180 0 18 (dk_at dksX2_add_0 1 rfl rfl)
theorem dX2_add_4 : decode cX2_add 4 = .ok (.bipush 60, 2) := dk_16 60 (dk_at dksX2_add_0 4 rfl rfl)
theorem dX2_add_6 : decode cX2_add 6 = .ok (.if_icmp .ne 5, 3) := dk_160 0 5 (dk_at dksX2_add_0 6 rfl rfl)
theorem dX2_add_9 : decode cX2_add 9 = .ok (.iconst 0, 1) := dk_3 (dk_at dksX2_add_0 9 rfl rfl)
theorem dX2_add_10 : decode cX2_add 10 = .ok (.ireturn, 1) := dk_172 (dk_at dksX2_add_0 10 rfl rfl)
theorem dX2_add_11 : decode cX2_add 11 = .ok (.aload_n 0, 1) := dk_42 (dk_at dksX2_add_0 11 rfl rfl)
theorem dX2_add_12 : decode cX2_add 12 = .ok (.getfield 9, 3) := dk_180 0 9 (dk_at dksX2_add_0 12 rfl rfl)
theorem dX2_add_15 : decode cX2_add 15 = .ok (.aload_n 0, 1) := dk_42 (dk_at dksX2_add_0 15 rfl rfl)
theorem dX2_add_16 : decode cX2_add 16 = .ok (.getfield 18, 3) := dk_180 0 18 (dk_at dksX2_add_0 16 rfl rfl)
theorem dX2_add_19 : decode cX2_add 19 = .ok (.iload_n 1, 1) := dk_27 (dk_at dksX2_add_0 19 rfl rfl)
theorem dX2_add_20 : decode cX2_add 20 = .ok (.iastore, 1) := dk_79 (dk_at dksX2_add_0 20 rfl rfl)
theorem dX2_add_21 : decode cX2_add 21 = .ok (.aload_n 0, 1) := dk_42 (dk_at dksX2_add_0 21 rfl rfl)
theorem dX2_add_22 : decode cX2_add 22 = .ok (.getfield 15, 3) := dk_180 0 15 (dk_at dksX2_add_1 0 rfl rfl)
theorem dX2_add_25 : decode cX2_add 25 = .ok (.aload_n 0, 1) := dk_42 (dk_at dksX2_add_1 3 rfl rfl)
theorem dX2_add_26 : decode cX2_add 26 = .ok (.getfield 18, 3) := dk_180 0 18 (dk_at dksX2_add_1 4 rfl rfl)
theorem dX2_add_29 : decode cX2_add 29 = .ok (.iload_n 2, 1) := dk_28 (dk_at dksX2_add_1 7 rfl rfl)
theorem dX2_add_30 : decode cX2_add 30 = .ok (.iastore, 1) := dk_79 (dk_at dksX2_add_1 8 rfl rfl)
theorem dX2_add_31 : decode cX2_add 31 = .ok (.aload_n 0, 1) := dk_42 (dk_at dksX2_add_1 9 rfl rfl)
theorem dX2_add_32 : decode cX2_add 32 = .ok (.dup, 1) := dk_89 (dk_at dksX2_add_1 10 rfl rfl)
theorem dX2_add_33 : decode cX2_add 33 = .ok (.getfield 18, 3) := dk_180 0 18 (dk_at dksX2_add_1 11 rfl rfl)
theorem dX2_add_36 : decode cX2_add 36 = .ok (.iconst 1, 1) := dk_4 (dk_at dksX2_add_1 14 rfl rfl)
theorem dX2_add_37 : decode cX2_add 37 = .ok (.iadd, 1) := dk_96 (dk_at dksX2_add_1 15 rfl rfl)
theorem dX2_add_38 : decode cX2_add 38 = .ok (.putfield 18, 3) := dk_181 0 18 (dk_at dksX2_add_1 16 rfl rfl)
theorem dX2_add_41 : decode cX2_add 41 = .ok (.iconst 1, 1) := dk_4 (dk_at dksX2_add_1 19 rfl rfl)
theorem dX2_add_42 : decode cX2_add 42 = .ok (.ireturn, 1) := dk_172 (dk_at dksX2_add_1 20 rfl rfl)
abbrev cX2_like : ByteArray := prog_2_method_3_code
def yX2_like : MethodName := ⟨RX2, "like", "(LPlugHall$Board;III)LPlugHall$Board;"⟩
def dkwX2_like_3 : List UInt8 := [167, 255, 194, 42, 176]
abbrev dktX2_like_3 : List UInt8 := dkwX2_like_3 ++ []
def dkwX2_like_2 : List UInt8 := [160, 0, 8, 21, 4, 167, 0, 10, 43, 180, 0, 15, 21, 5, 46, 182, 0, 22, 87, 132, 5, 1]
abbrev dktX2_like_2 : List UInt8 := dkwX2_like_2 ++ dktX2_like_3
def dkwX2_like_1 : List UInt8 := [29, 154, 0, 8, 21, 4, 167, 0, 10, 43, 180, 0, 9, 21, 5, 46, 21, 5, 28, 160, 0, 13, 29, 4]
abbrev dktX2_like_1 : List UInt8 := dkwX2_like_1 ++ dktX2_like_2
def dkwX2_like_0 : List UInt8 := [42, 3, 181, 0, 18, 3, 54, 5, 21, 5, 43, 180, 0, 18, 162, 0, 59, 42, 21, 5, 28, 160, 0, 12]
abbrev dktX2_like_0 : List UInt8 := dkwX2_like_0 ++ dktX2_like_1
theorem dksX2_like_0 : cX2_like.data.toList.drop 0 = dktX2_like_0 := by decide +kernel
theorem dksX2_like_1 : cX2_like.data.toList.drop 24 = dktX2_like_1 := dk_seg dksX2_like_0 24 rfl rfl
theorem dksX2_like_2 : cX2_like.data.toList.drop 48 = dktX2_like_2 := dk_seg dksX2_like_1 24 rfl rfl
theorem dksX2_like_3 : cX2_like.data.toList.drop 70 = dktX2_like_3 := dk_seg dksX2_like_2 22 rfl rfl
theorem dX2_like_0 : decode cX2_like 0 = .ok (.aload_n 0, 1) := dk_42 (dk_at dksX2_like_0 0 rfl rfl)
theorem dX2_like_1 : decode cX2_like 1 = .ok (.iconst 0, 1) := dk_3 (dk_at dksX2_like_0 1 rfl rfl)
theorem dX2_like_2 : decode cX2_like 2 = .ok (.putfield 18, 3) := dk_181 0 18 (dk_at dksX2_like_0 2 rfl rfl)
theorem dX2_like_5 : decode cX2_like 5 = .ok (.iconst 0, 1) := dk_3 (dk_at dksX2_like_0 5 rfl rfl)
theorem dX2_like_6 : decode cX2_like 6 = .ok (.istore 5, 2) := dk_54 5 (dk_at dksX2_like_0 6 rfl rfl)
theorem dX2_like_8 : decode cX2_like 8 = .ok (.iload 5, 2) := dk_21 5 (dk_at dksX2_like_0 8 rfl rfl)
theorem dX2_like_10 : decode cX2_like 10 = .ok (.aload_n 1, 1) := dk_43 (dk_at dksX2_like_0 10 rfl rfl)
theorem dX2_like_11 : decode cX2_like 11 = .ok (.getfield 18, 3) := dk_180 0 18 (dk_at dksX2_like_0 11 rfl rfl)
theorem dX2_like_14 : decode cX2_like 14 = .ok (.if_icmp .ge 59, 3) := dk_162 0 59 (dk_at dksX2_like_0 14 rfl rfl)
theorem dX2_like_17 : decode cX2_like 17 = .ok (.aload_n 0, 1) := dk_42 (dk_at dksX2_like_0 17 rfl rfl)
theorem dX2_like_18 : decode cX2_like 18 = .ok (.iload 5, 2) := dk_21 5 (dk_at dksX2_like_0 18 rfl rfl)
theorem dX2_like_20 : decode cX2_like 20 = .ok (.iload_n 2, 1) := dk_28 (dk_at dksX2_like_0 20 rfl rfl)
theorem dX2_like_21 : decode cX2_like 21 = .ok (.if_icmp .ne 12, 3) := dk_160 0 12 (dk_at dksX2_like_0 21 rfl rfl)
theorem dX2_like_24 : decode cX2_like 24 = .ok (.iload_n 3, 1) := dk_29 (dk_at dksX2_like_1 0 rfl rfl)
theorem dX2_like_25 : decode cX2_like 25 = .ok (.ifCond .ne 8, 3) := dk_154 0 8 (dk_at dksX2_like_1 1 rfl rfl)
theorem dX2_like_28 : decode cX2_like 28 = .ok (.iload 4, 2) := dk_21 4 (dk_at dksX2_like_1 4 rfl rfl)
theorem dX2_like_30 : decode cX2_like 30 = .ok (.goto 10, 3) := dk_167 0 10 (dk_at dksX2_like_1 6 rfl rfl)
theorem dX2_like_33 : decode cX2_like 33 = .ok (.aload_n 1, 1) := dk_43 (dk_at dksX2_like_1 9 rfl rfl)
theorem dX2_like_34 : decode cX2_like 34 = .ok (.getfield 9, 3) := dk_180 0 9 (dk_at dksX2_like_1 10 rfl rfl)
theorem dX2_like_37 : decode cX2_like 37 = .ok (.iload 5, 2) := dk_21 5 (dk_at dksX2_like_1 13 rfl rfl)
theorem dX2_like_39 : decode cX2_like 39 = .ok (.iaload, 1) := dk_46 (dk_at dksX2_like_1 15 rfl rfl)
theorem dX2_like_40 : decode cX2_like 40 = .ok (.iload 5, 2) := dk_21 5 (dk_at dksX2_like_1 16 rfl rfl)
theorem dX2_like_42 : decode cX2_like 42 = .ok (.iload_n 2, 1) := dk_28 (dk_at dksX2_like_1 18 rfl rfl)
theorem dX2_like_43 : decode cX2_like 43 = .ok (.if_icmp .ne 13, 3) := dk_160 0 13 (dk_at dksX2_like_1 19 rfl rfl)
theorem dX2_like_46 : decode cX2_like 46 = .ok (.iload_n 3, 1) := dk_29 (dk_at dksX2_like_1 22 rfl rfl)
theorem dX2_like_47 : decode cX2_like 47 = .ok (.iconst 1, 1) := dk_4 (dk_at dksX2_like_1 23 rfl rfl)
theorem dX2_like_48 : decode cX2_like 48 = .ok (.if_icmp .ne 8, 3) := dk_160 0 8 (dk_at dksX2_like_2 0 rfl rfl)
theorem dX2_like_51 : decode cX2_like 51 = .ok (.iload 4, 2) := dk_21 4 (dk_at dksX2_like_2 3 rfl rfl)
theorem dX2_like_53 : decode cX2_like 53 = .ok (.goto 10, 3) := dk_167 0 10 (dk_at dksX2_like_2 5 rfl rfl)
theorem dX2_like_56 : decode cX2_like 56 = .ok (.aload_n 1, 1) := dk_43 (dk_at dksX2_like_2 8 rfl rfl)
theorem dX2_like_57 : decode cX2_like 57 = .ok (.getfield 15, 3) := dk_180 0 15 (dk_at dksX2_like_2 9 rfl rfl)
theorem dX2_like_60 : decode cX2_like 60 = .ok (.iload 5, 2) := dk_21 5 (dk_at dksX2_like_2 12 rfl rfl)
theorem dX2_like_62 : decode cX2_like 62 = .ok (.iaload, 1) := dk_46 (dk_at dksX2_like_2 14 rfl rfl)
theorem dX2_like_63 : decode cX2_like 63 = .ok (.invokevirtual 22, 3) := dk_182 0 22 (dk_at dksX2_like_2 15 rfl rfl)
theorem dX2_like_66 : decode cX2_like 66 = .ok (.pop, 1) := dk_87 (dk_at dksX2_like_2 18 rfl rfl)
theorem dX2_like_67 : decode cX2_like 67 = .ok (.iinc 5 1, 3) := dk_132 5 1 (dk_at dksX2_like_2 19 rfl rfl)
theorem dX2_like_70 : decode cX2_like 70 = .ok (.goto (-62), 3) := dk_167 255 194 (dk_at dksX2_like_3 0 rfl rfl)
theorem dX2_like_73 : decode cX2_like 73 = .ok (.aload_n 0, 1) := dk_42 (dk_at dksX2_like_3 3 rfl rfl)
theorem dX2_like_74 : decode cX2_like 74 = .ok (.areturn, 1) := dk_176 (dk_at dksX2_like_3 4 rfl rfl)
abbrev cX2_apart : ByteArray := prog_2_method_6_code
def yX2_apart : MethodName := ⟨RX2, "apart", "(LPlugHall$Board;)I"⟩
def dkwX2_apart_0 : List UInt8 := [42, 43, 182, 0, 30, 43, 42, 182, 0, 30, 96, 172]
abbrev dktX2_apart_0 : List UInt8 := dkwX2_apart_0 ++ []
theorem dksX2_apart_0 : cX2_apart.data.toList.drop 0 = dktX2_apart_0 := by decide +kernel
theorem dX2_apart_0 : decode cX2_apart 0 = .ok (.aload_n 0, 1) := dk_42 (dk_at dksX2_apart_0 0 rfl rfl)
theorem dX2_apart_1 : decode cX2_apart 1 = .ok (.aload_n 1, 1) := dk_43 (dk_at dksX2_apart_0 1 rfl rfl)
theorem dX2_apart_2 : decode cX2_apart 2 = .ok (.invokevirtual 30, 3) := dk_182 0 30 (dk_at dksX2_apart_0 2 rfl rfl)
theorem dX2_apart_5 : decode cX2_apart 5 = .ok (.aload_n 1, 1) := dk_43 (dk_at dksX2_apart_0 5 rfl rfl)
theorem dX2_apart_6 : decode cX2_apart 6 = .ok (.aload_n 0, 1) := dk_42 (dk_at dksX2_apart_0 6 rfl rfl)
theorem dX2_apart_7 : decode cX2_apart 7 = .ok (.invokevirtual 30, 3) := dk_182 0 30 (dk_at dksX2_apart_0 7 rfl rfl)
theorem dX2_apart_10 : decode cX2_apart 10 = .ok (.iadd, 1) := dk_96 (dk_at dksX2_apart_0 10 rfl rfl)
theorem dX2_apart_11 : decode cX2_apart 11 = .ok (.ireturn, 1) := dk_172 (dk_at dksX2_apart_0 11 rfl rfl)
abbrev cX2_beyond : ByteArray := prog_2_method_5_code
def yX2_beyond : MethodName := ⟨RX2, "beyond", "(LPlugHall$Board;)I"⟩
def dkwX2_beyond_3 : List UInt8 := [167, 0, 10, 32, 10, 21, 6, 121, 129, 65, 132, 5, 1, 167, 255, 181, 21, 4, 172]
abbrev dktX2_beyond_3 : List UInt8 := dkwX2_beyond_3 ++ []
def dkwX2_beyond_2 : List UInt8 := [182, 0, 26, 154, 0, 9, 132, 6, 1, 167, 255, 221, 21, 6, 43, 180, 0, 18, 160, 0, 9, 132, 4, 1]
abbrev dktX2_beyond_2 : List UInt8 := dkwX2_beyond_2 ++ dktX2_beyond_3
def dkwX2_beyond_1 : List UInt8 := [180, 0, 18, 162, 0, 32, 32, 21, 6, 123, 10, 127, 10, 148, 153, 0, 15, 42, 21, 5, 43, 21, 6]
abbrev dktX2_beyond_1 : List UInt8 := dkwX2_beyond_1 ++ dktX2_beyond_2
def dkwX2_beyond_0 : List UInt8 := [9, 65, 3, 54, 4, 3, 54, 5, 21, 5, 42, 180, 0, 18, 162, 0, 72, 3, 54, 6, 21, 6, 43]
abbrev dktX2_beyond_0 : List UInt8 := dkwX2_beyond_0 ++ dktX2_beyond_1
theorem dksX2_beyond_0 : cX2_beyond.data.toList.drop 0 = dktX2_beyond_0 := by decide +kernel
theorem dksX2_beyond_1 : cX2_beyond.data.toList.drop 23 = dktX2_beyond_1 := dk_seg dksX2_beyond_0 23 rfl rfl
theorem dksX2_beyond_2 : cX2_beyond.data.toList.drop 46 = dktX2_beyond_2 := dk_seg dksX2_beyond_1 23 rfl rfl
theorem dksX2_beyond_3 : cX2_beyond.data.toList.drop 70 = dktX2_beyond_3 := dk_seg dksX2_beyond_2 24 rfl rfl
theorem dX2_beyond_0 : decode cX2_beyond 0 = .ok (.lconst 0, 1) := dk_9 (dk_at dksX2_beyond_0 0 rfl rfl)
theorem dX2_beyond_1 : decode cX2_beyond 1 = .ok (.lstore_n 2, 1) := dk_65 (dk_at dksX2_beyond_0 1 rfl rfl)
theorem dX2_beyond_2 : decode cX2_beyond 2 = .ok (.iconst 0, 1) := dk_3 (dk_at dksX2_beyond_0 2 rfl rfl)
theorem dX2_beyond_3 : decode cX2_beyond 3 = .ok (.istore 4, 2) := dk_54 4 (dk_at dksX2_beyond_0 3 rfl rfl)
theorem dX2_beyond_5 : decode cX2_beyond 5 = .ok (.iconst 0, 1) := dk_3 (dk_at dksX2_beyond_0 5 rfl rfl)
theorem dX2_beyond_6 : decode cX2_beyond 6 = .ok (.istore 5, 2) := dk_54 5 (dk_at dksX2_beyond_0 6 rfl rfl)
theorem dX2_beyond_8 : decode cX2_beyond 8 = .ok (.iload 5, 2) := dk_21 5 (dk_at dksX2_beyond_0 8 rfl rfl)
theorem dX2_beyond_10 : decode cX2_beyond 10 = .ok (.aload_n 0, 1) := dk_42 (dk_at dksX2_beyond_0 10 rfl rfl)
theorem dX2_beyond_11 : decode cX2_beyond 11 = .ok (.getfield 18, 3) := dk_180 0 18 (dk_at dksX2_beyond_0 11 rfl rfl)
theorem dX2_beyond_14 : decode cX2_beyond 14 = .ok (.if_icmp .ge 72, 3) := dk_162 0 72 (dk_at dksX2_beyond_0 14 rfl rfl)
theorem dX2_beyond_17 : decode cX2_beyond 17 = .ok (.iconst 0, 1) := dk_3 (dk_at dksX2_beyond_0 17 rfl rfl)
theorem dX2_beyond_18 : decode cX2_beyond 18 = .ok (.istore 6, 2) := dk_54 6 (dk_at dksX2_beyond_0 18 rfl rfl)
theorem dX2_beyond_20 : decode cX2_beyond 20 = .ok (.iload 6, 2) := dk_21 6 (dk_at dksX2_beyond_0 20 rfl rfl)
theorem dX2_beyond_22 : decode cX2_beyond 22 = .ok (.aload_n 1, 1) := dk_43 (dk_at dksX2_beyond_0 22 rfl rfl)
theorem dX2_beyond_23 : decode cX2_beyond 23 = .ok (.getfield 18, 3) := dk_180 0 18 (dk_at dksX2_beyond_1 0 rfl rfl)
theorem dX2_beyond_26 : decode cX2_beyond 26 = .ok (.if_icmp .ge 32, 3) := dk_162 0 32 (dk_at dksX2_beyond_1 3 rfl rfl)
theorem dX2_beyond_29 : decode cX2_beyond 29 = .ok (.lload_n 2, 1) := dk_32 (dk_at dksX2_beyond_1 6 rfl rfl)
theorem dX2_beyond_30 : decode cX2_beyond 30 = .ok (.iload 6, 2) := dk_21 6 (dk_at dksX2_beyond_1 7 rfl rfl)
theorem dX2_beyond_32 : decode cX2_beyond 32 = .ok (.lshr, 1) := dk_123 (dk_at dksX2_beyond_1 9 rfl rfl)
theorem dX2_beyond_33 : decode cX2_beyond 33 = .ok (.lconst 1, 1) := dk_10 (dk_at dksX2_beyond_1 10 rfl rfl)
theorem dX2_beyond_34 : decode cX2_beyond 34 = .ok (.land, 1) := dk_127 (dk_at dksX2_beyond_1 11 rfl rfl)
theorem dX2_beyond_35 : decode cX2_beyond 35 = .ok (.lconst 1, 1) := dk_10 (dk_at dksX2_beyond_1 12 rfl rfl)
theorem dX2_beyond_36 : decode cX2_beyond 36 = .ok (.lcmp, 1) := dk_148 (dk_at dksX2_beyond_1 13 rfl rfl)
theorem dX2_beyond_37 : decode cX2_beyond 37 = .ok (.ifCond .eq 15, 3) := dk_153 0 15 (dk_at dksX2_beyond_1 14 rfl rfl)
theorem dX2_beyond_40 : decode cX2_beyond 40 = .ok (.aload_n 0, 1) := dk_42 (dk_at dksX2_beyond_1 17 rfl rfl)
theorem dX2_beyond_41 : decode cX2_beyond 41 = .ok (.iload 5, 2) := dk_21 5 (dk_at dksX2_beyond_1 18 rfl rfl)
theorem dX2_beyond_43 : decode cX2_beyond 43 = .ok (.aload_n 1, 1) := dk_43 (dk_at dksX2_beyond_1 20 rfl rfl)
theorem dX2_beyond_44 : decode cX2_beyond 44 = .ok (.iload 6, 2) := dk_21 6 (dk_at dksX2_beyond_1 21 rfl rfl)
theorem dX2_beyond_46 : decode cX2_beyond 46 = .ok (.invokevirtual 26, 3) := dk_182 0 26 (dk_at dksX2_beyond_2 0 rfl rfl)
theorem dX2_beyond_49 : decode cX2_beyond 49 = .ok (.ifCond .ne 9, 3) := dk_154 0 9 (dk_at dksX2_beyond_2 3 rfl rfl)
theorem dX2_beyond_52 : decode cX2_beyond 52 = .ok (.iinc 6 1, 3) := dk_132 6 1 (dk_at dksX2_beyond_2 6 rfl rfl)
theorem dX2_beyond_55 : decode cX2_beyond 55 = .ok (.goto (-35), 3) := dk_167 255 221 (dk_at dksX2_beyond_2 9 rfl rfl)
theorem dX2_beyond_58 : decode cX2_beyond 58 = .ok (.iload 6, 2) := dk_21 6 (dk_at dksX2_beyond_2 12 rfl rfl)
theorem dX2_beyond_60 : decode cX2_beyond 60 = .ok (.aload_n 1, 1) := dk_43 (dk_at dksX2_beyond_2 14 rfl rfl)
theorem dX2_beyond_61 : decode cX2_beyond 61 = .ok (.getfield 18, 3) := dk_180 0 18 (dk_at dksX2_beyond_2 15 rfl rfl)
theorem dX2_beyond_64 : decode cX2_beyond 64 = .ok (.if_icmp .ne 9, 3) := dk_160 0 9 (dk_at dksX2_beyond_2 18 rfl rfl)
theorem dX2_beyond_67 : decode cX2_beyond 67 = .ok (.iinc 4 1, 3) := dk_132 4 1 (dk_at dksX2_beyond_2 21 rfl rfl)
theorem dX2_beyond_70 : decode cX2_beyond 70 = .ok (.goto 10, 3) := dk_167 0 10 (dk_at dksX2_beyond_3 0 rfl rfl)
theorem dX2_beyond_73 : decode cX2_beyond 73 = .ok (.lload_n 2, 1) := dk_32 (dk_at dksX2_beyond_3 3 rfl rfl)
theorem dX2_beyond_74 : decode cX2_beyond 74 = .ok (.lconst 1, 1) := dk_10 (dk_at dksX2_beyond_3 4 rfl rfl)
theorem dX2_beyond_75 : decode cX2_beyond 75 = .ok (.iload 6, 2) := dk_21 6 (dk_at dksX2_beyond_3 5 rfl rfl)
theorem dX2_beyond_77 : decode cX2_beyond 77 = .ok (.lshl, 1) := dk_121 (dk_at dksX2_beyond_3 7 rfl rfl)
theorem dX2_beyond_78 : decode cX2_beyond 78 = .ok (.lor, 1) := dk_129 (dk_at dksX2_beyond_3 8 rfl rfl)
theorem dX2_beyond_79 : decode cX2_beyond 79 = .ok (.lstore_n 2, 1) := dk_65 (dk_at dksX2_beyond_3 9 rfl rfl)
theorem dX2_beyond_80 : decode cX2_beyond 80 = .ok (.iinc 5 1, 3) := dk_132 5 1 (dk_at dksX2_beyond_3 10 rfl rfl)
theorem dX2_beyond_83 : decode cX2_beyond 83 = .ok (.goto (-75), 3) := dk_167 255 181 (dk_at dksX2_beyond_3 13 rfl rfl)
theorem dX2_beyond_86 : decode cX2_beyond 86 = .ok (.iload 4, 2) := dk_21 4 (dk_at dksX2_beyond_3 16 rfl rfl)
theorem dX2_beyond_88 : decode cX2_beyond 88 = .ok (.ireturn, 1) := dk_172 (dk_at dksX2_beyond_3 18 rfl rfl)
abbrev cX2_isLike : ByteArray := prog_2_method_4_code
def yX2_isLike : MethodName := ⟨RX2, "isLike", "(ILPlugHall$Board;I)Z"⟩
def dkwX2_isLike_2 : List UInt8 := [180, 0, 15, 27, 46, 44, 180, 0, 9, 29, 46, 160, 0, 7, 4, 167, 0, 4, 3, 172]
abbrev dktX2_isLike_2 : List UInt8 := dkwX2_isLike_2 ++ []
def dkwX2_isLike_1 : List UInt8 := [180, 0, 15, 29, 46, 159, 0, 33, 42, 180, 0, 9, 27, 46, 44, 180, 0, 15, 29, 46, 160, 0, 22, 42]
abbrev dktX2_isLike_1 : List UInt8 := dkwX2_isLike_1 ++ dktX2_isLike_2
def dkwX2_isLike_0 : List UInt8 := [42, 180, 0, 9, 27, 46, 44, 180, 0, 9, 29, 46, 160, 0, 18, 42, 180, 0, 15, 27, 46, 44]
abbrev dktX2_isLike_0 : List UInt8 := dkwX2_isLike_0 ++ dktX2_isLike_1
theorem dksX2_isLike_0 : cX2_isLike.data.toList.drop 0 = dktX2_isLike_0 := by decide +kernel
theorem dksX2_isLike_1 : cX2_isLike.data.toList.drop 22 = dktX2_isLike_1 := dk_seg dksX2_isLike_0 22 rfl rfl
theorem dksX2_isLike_2 : cX2_isLike.data.toList.drop 46 = dktX2_isLike_2 := dk_seg dksX2_isLike_1 24 rfl rfl
theorem dX2_isLike_0 : decode cX2_isLike 0 = .ok (.aload_n 0, 1) := dk_42 (dk_at dksX2_isLike_0 0 rfl rfl)
theorem dX2_isLike_1 : decode cX2_isLike 1 = .ok (.getfield 9, 3) := dk_180 0 9 (dk_at dksX2_isLike_0 1 rfl rfl)
theorem dX2_isLike_4 : decode cX2_isLike 4 = .ok (.iload_n 1, 1) := dk_27 (dk_at dksX2_isLike_0 4 rfl rfl)
theorem dX2_isLike_5 : decode cX2_isLike 5 = .ok (.iaload, 1) := dk_46 (dk_at dksX2_isLike_0 5 rfl rfl)
theorem dX2_isLike_6 : decode cX2_isLike 6 = .ok (.aload_n 2, 1) := dk_44 (dk_at dksX2_isLike_0 6 rfl rfl)
theorem dX2_isLike_7 : decode cX2_isLike 7 = .ok (.getfield 9, 3) := dk_180 0 9 (dk_at dksX2_isLike_0 7 rfl rfl)
theorem dX2_isLike_10 : decode cX2_isLike 10 = .ok (.iload_n 3, 1) := dk_29 (dk_at dksX2_isLike_0 10 rfl rfl)
theorem dX2_isLike_11 : decode cX2_isLike 11 = .ok (.iaload, 1) := dk_46 (dk_at dksX2_isLike_0 11 rfl rfl)
theorem dX2_isLike_12 : decode cX2_isLike 12 = .ok (.if_icmp .ne 18, 3) := dk_160 0 18 (dk_at dksX2_isLike_0 12 rfl rfl)
theorem dX2_isLike_15 : decode cX2_isLike 15 = .ok (.aload_n 0, 1) := dk_42 (dk_at dksX2_isLike_0 15 rfl rfl)
theorem dX2_isLike_16 : decode cX2_isLike 16 = .ok (.getfield 15, 3) := dk_180 0 15 (dk_at dksX2_isLike_0 16 rfl rfl)
theorem dX2_isLike_19 : decode cX2_isLike 19 = .ok (.iload_n 1, 1) := dk_27 (dk_at dksX2_isLike_0 19 rfl rfl)
theorem dX2_isLike_20 : decode cX2_isLike 20 = .ok (.iaload, 1) := dk_46 (dk_at dksX2_isLike_0 20 rfl rfl)
theorem dX2_isLike_21 : decode cX2_isLike 21 = .ok (.aload_n 2, 1) := dk_44 (dk_at dksX2_isLike_0 21 rfl rfl)
theorem dX2_isLike_22 : decode cX2_isLike 22 = .ok (.getfield 15, 3) := dk_180 0 15 (dk_at dksX2_isLike_1 0 rfl rfl)
theorem dX2_isLike_25 : decode cX2_isLike 25 = .ok (.iload_n 3, 1) := dk_29 (dk_at dksX2_isLike_1 3 rfl rfl)
theorem dX2_isLike_26 : decode cX2_isLike 26 = .ok (.iaload, 1) := dk_46 (dk_at dksX2_isLike_1 4 rfl rfl)
theorem dX2_isLike_27 : decode cX2_isLike 27 = .ok (.if_icmp .eq 33, 3) := dk_159 0 33 (dk_at dksX2_isLike_1 5 rfl rfl)
theorem dX2_isLike_30 : decode cX2_isLike 30 = .ok (.aload_n 0, 1) := dk_42 (dk_at dksX2_isLike_1 8 rfl rfl)
theorem dX2_isLike_31 : decode cX2_isLike 31 = .ok (.getfield 9, 3) := dk_180 0 9 (dk_at dksX2_isLike_1 9 rfl rfl)
theorem dX2_isLike_34 : decode cX2_isLike 34 = .ok (.iload_n 1, 1) := dk_27 (dk_at dksX2_isLike_1 12 rfl rfl)
theorem dX2_isLike_35 : decode cX2_isLike 35 = .ok (.iaload, 1) := dk_46 (dk_at dksX2_isLike_1 13 rfl rfl)
theorem dX2_isLike_36 : decode cX2_isLike 36 = .ok (.aload_n 2, 1) := dk_44 (dk_at dksX2_isLike_1 14 rfl rfl)
theorem dX2_isLike_37 : decode cX2_isLike 37 = .ok (.getfield 15, 3) := dk_180 0 15 (dk_at dksX2_isLike_1 15 rfl rfl)
theorem dX2_isLike_40 : decode cX2_isLike 40 = .ok (.iload_n 3, 1) := dk_29 (dk_at dksX2_isLike_1 18 rfl rfl)
theorem dX2_isLike_41 : decode cX2_isLike 41 = .ok (.iaload, 1) := dk_46 (dk_at dksX2_isLike_1 19 rfl rfl)
theorem dX2_isLike_42 : decode cX2_isLike 42 = .ok (.if_icmp .ne 22, 3) := dk_160 0 22 (dk_at dksX2_isLike_1 20 rfl rfl)
theorem dX2_isLike_45 : decode cX2_isLike 45 = .ok (.aload_n 0, 1) := dk_42 (dk_at dksX2_isLike_1 23 rfl rfl)
theorem dX2_isLike_46 : decode cX2_isLike 46 = .ok (.getfield 15, 3) := dk_180 0 15 (dk_at dksX2_isLike_2 0 rfl rfl)
theorem dX2_isLike_49 : decode cX2_isLike 49 = .ok (.iload_n 1, 1) := dk_27 (dk_at dksX2_isLike_2 3 rfl rfl)
theorem dX2_isLike_50 : decode cX2_isLike 50 = .ok (.iaload, 1) := dk_46 (dk_at dksX2_isLike_2 4 rfl rfl)
theorem dX2_isLike_51 : decode cX2_isLike 51 = .ok (.aload_n 2, 1) := dk_44 (dk_at dksX2_isLike_2 5 rfl rfl)
theorem dX2_isLike_52 : decode cX2_isLike 52 = .ok (.getfield 9, 3) := dk_180 0 9 (dk_at dksX2_isLike_2 6 rfl rfl)
theorem dX2_isLike_55 : decode cX2_isLike 55 = .ok (.iload_n 3, 1) := dk_29 (dk_at dksX2_isLike_2 9 rfl rfl)
theorem dX2_isLike_56 : decode cX2_isLike 56 = .ok (.iaload, 1) := dk_46 (dk_at dksX2_isLike_2 10 rfl rfl)
theorem dX2_isLike_57 : decode cX2_isLike 57 = .ok (.if_icmp .ne 7, 3) := dk_160 0 7 (dk_at dksX2_isLike_2 11 rfl rfl)
theorem dX2_isLike_60 : decode cX2_isLike 60 = .ok (.iconst 1, 1) := dk_4 (dk_at dksX2_isLike_2 14 rfl rfl)
theorem dX2_isLike_61 : decode cX2_isLike 61 = .ok (.goto 4, 3) := dk_167 0 4 (dk_at dksX2_isLike_2 15 rfl rfl)
theorem dX2_isLike_64 : decode cX2_isLike 64 = .ok (.iconst 0, 1) := dk_3 (dk_at dksX2_isLike_2 18 rfl rfl)
theorem dX2_isLike_65 : decode cX2_isLike 65 = .ok (.ireturn, 1) := dk_172 (dk_at dksX2_isLike_2 19 rfl rfl)
abbrev cX3_init : ByteArray := prog_7_method_1_code
def yX3_init : MethodName := ⟨RX3, "<init>", "()V"⟩
def dkwX3_init_1 : List UInt8 := [17, 0, 217, 188, 10, 181, 0, 18, 177]
abbrev dktX3_init_1 : List UInt8 := dkwX3_init_1 ++ []
def dkwX3_init_0 : List UInt8 := [42, 183, 0, 3, 42, 17, 0, 217, 188, 10, 181, 0, 9, 42, 16, 96, 188, 10, 181, 0, 15, 42]
abbrev dktX3_init_0 : List UInt8 := dkwX3_init_0 ++ dktX3_init_1
theorem dksX3_init_0 : cX3_init.data.toList.drop 0 = dktX3_init_0 := by decide +kernel
theorem dksX3_init_1 : cX3_init.data.toList.drop 22 = dktX3_init_1 := dk_seg dksX3_init_0 22 rfl rfl
theorem dX3_init_0 : decode cX3_init 0 = .ok (.aload_n 0, 1) := dk_42 (dk_at dksX3_init_0 0 rfl rfl)
theorem dX3_init_1 : decode cX3_init 1 = .ok (.invokespecial 3, 3) := dk_183 0 3 (dk_at dksX3_init_0 1 rfl rfl)
theorem dX3_init_4 : decode cX3_init 4 = .ok (.aload_n 0, 1) := dk_42 (dk_at dksX3_init_0 4 rfl rfl)
theorem dX3_init_5 : decode cX3_init 5 = .ok (.sipush 217, 3) := dk_17 0 217 (dk_at dksX3_init_0 5 rfl rfl)
theorem dX3_init_8 : decode cX3_init 8 = .ok (.newarray .int, 2) := dk_188_10 (dk_at dksX3_init_0 8 rfl rfl)
theorem dX3_init_10 : decode cX3_init 10 = .ok (.putfield 9, 3) := dk_181 0 9 (dk_at dksX3_init_0 10 rfl rfl)
theorem dX3_init_13 : decode cX3_init 13 = .ok (.aload_n 0, 1) := dk_42 (dk_at dksX3_init_0 13 rfl rfl)
theorem dX3_init_14 : decode cX3_init 14 = .ok (.bipush 96, 2) := dk_16 96 (dk_at dksX3_init_0 14 rfl rfl)
theorem dX3_init_16 : decode cX3_init 16 = .ok (.newarray .int, 2) := dk_188_10 (dk_at dksX3_init_0 16 rfl rfl)
theorem dX3_init_18 : decode cX3_init 18 = .ok (.putfield 15, 3) := dk_181 0 15 (dk_at dksX3_init_0 18 rfl rfl)
theorem dX3_init_21 : decode cX3_init 21 = .ok (.aload_n 0, 1) := dk_42 (dk_at dksX3_init_0 21 rfl rfl)
theorem dX3_init_22 : decode cX3_init 22 = .ok (.sipush 217, 3) := dk_17 0 217 (dk_at dksX3_init_1 0 rfl rfl)
theorem dX3_init_25 : decode cX3_init 25 = .ok (.newarray .int, 2) := dk_188_10 (dk_at dksX3_init_1 3 rfl rfl)
theorem dX3_init_27 : decode cX3_init 27 = .ok (.putfield 18, 3) := dk_181 0 18 (dk_at dksX3_init_1 5 rfl rfl)
theorem dX3_init_30 : decode cX3_init 30 = .ok (.return_, 1) := dk_177 (dk_at dksX3_init_1 8 rfl rfl)
abbrev cX3_run : ByteArray := prog_7_method_16_code
def yX3_run : MethodName := ⟨RX3, "run", "(LPlugHall$Board;I[[BIIILPlugHall$Outcome;)V"⟩
def dkwX3_run_9 : List UInt8 := [181, 0, 91, 177]
abbrev dktX3_run_9 : List UInt8 := dkwX3_run_9 ++ []
def dkwX3_run_8 : List UInt8 := [25, 7, 4, 181, 0, 91, 132, 8, 1, 167, 255, 90, 25, 7, 180, 0, 91, 2, 160, 0, 9, 25, 7, 3]
abbrev dktX3_run_8 : List UInt8 := dkwX3_run_8 ++ dktX3_run_9
def dkwX3_run_7 : List UInt8 := [177, 25, 7, 89, 180, 0, 155, 4, 96, 181, 0, 155, 132, 11, 1, 167, 255, 213, 21, 10, 153, 0, 9]
abbrev dktX3_run_7 : List UInt8 := dkwX3_run_7 ++ dktX3_run_8
def dkwX3_run_6 : List UInt8 := [163, 0, 42, 42, 21, 11, 182, 0, 151, 42, 3, 182, 0, 137, 154, 0, 10, 42, 182, 0, 145, 154, 0, 4]
abbrev dktX3_run_6 : List UInt8 := dkwX3_run_6 ++ dktX3_run_7
def dkwX3_run_5 : List UInt8 := [21, 8, 21, 5, 4, 100, 159, 0, 8, 21, 10, 153, 0, 6, 6, 54, 9, 4, 54, 11, 21, 11, 21, 9]
abbrev dktX3_run_5 : List UInt8 := dkwX3_run_5 ++ dktX3_run_6
def dkwX3_run_4 : List UInt8 := [182, 0, 84, 54, 10, 42, 182, 0, 145, 154, 0, 4, 177, 25, 7, 89, 180, 0, 148, 4, 96, 181, 0, 148]
abbrev dktX3_run_4 : List UInt8 := dkwX3_run_4 ++ dktX3_run_5
def dkwX3_run_3 : List UInt8 := [182, 0, 133, 42, 4, 182, 0, 137, 153, 0, 4, 177, 42, 182, 0, 141, 54, 9, 42, 17, 0, 180]
abbrev dktX3_run_3 : List UInt8 := dkwX3_run_3 ++ dktX3_run_4
def dkwX3_run_2 : List UInt8 := [45, 21, 8, 50, 21, 8, 4, 96, 21, 5, 162, 0, 12, 45, 21, 8, 4, 96, 50, 167, 0, 4, 1]
abbrev dktX3_run_2 : List UInt8 := dkwX3_run_2 ++ dktX3_run_3
def dkwX3_run_1 : List UInt8 := [182, 0, 130, 21, 4, 54, 8, 21, 8, 21, 5, 162, 0, 165, 25, 7, 180, 0, 91, 2, 160, 0, 156, 42]
abbrev dktX3_run_1 : List UInt8 := dkwX3_run_1 ++ dktX3_run_2
def dkwX3_run_0 : List UInt8 := [42, 43, 181, 0, 25, 42, 28, 181, 0, 35, 42, 21, 6, 181, 0, 124, 42, 25, 7, 181, 0, 63, 25, 7]
abbrev dktX3_run_0 : List UInt8 := dkwX3_run_0 ++ dktX3_run_1
theorem dksX3_run_0 : cX3_run.data.toList.drop 0 = dktX3_run_0 := by decide +kernel
theorem dksX3_run_1 : cX3_run.data.toList.drop 24 = dktX3_run_1 := dk_seg dksX3_run_0 24 rfl rfl
theorem dksX3_run_2 : cX3_run.data.toList.drop 48 = dktX3_run_2 := dk_seg dksX3_run_1 24 rfl rfl
theorem dksX3_run_3 : cX3_run.data.toList.drop 71 = dktX3_run_3 := dk_seg dksX3_run_2 23 rfl rfl
theorem dksX3_run_4 : cX3_run.data.toList.drop 93 = dktX3_run_4 := dk_seg dksX3_run_3 22 rfl rfl
theorem dksX3_run_5 : cX3_run.data.toList.drop 117 = dktX3_run_5 := dk_seg dksX3_run_4 24 rfl rfl
theorem dksX3_run_6 : cX3_run.data.toList.drop 141 = dktX3_run_6 := dk_seg dksX3_run_5 24 rfl rfl
theorem dksX3_run_7 : cX3_run.data.toList.drop 165 = dktX3_run_7 := dk_seg dksX3_run_6 24 rfl rfl
theorem dksX3_run_8 : cX3_run.data.toList.drop 188 = dktX3_run_8 := dk_seg dksX3_run_7 23 rfl rfl
theorem dksX3_run_9 : cX3_run.data.toList.drop 212 = dktX3_run_9 := dk_seg dksX3_run_8 24 rfl rfl
theorem dX3_run_0 : decode cX3_run 0 = .ok (.aload_n 0, 1) := dk_42 (dk_at dksX3_run_0 0 rfl rfl)
theorem dX3_run_1 : decode cX3_run 1 = .ok (.aload_n 1, 1) := dk_43 (dk_at dksX3_run_0 1 rfl rfl)
theorem dX3_run_2 : decode cX3_run 2 = .ok (.putfield 25, 3) := dk_181 0 25 (dk_at dksX3_run_0 2 rfl rfl)
theorem dX3_run_5 : decode cX3_run 5 = .ok (.aload_n 0, 1) := dk_42 (dk_at dksX3_run_0 5 rfl rfl)
theorem dX3_run_6 : decode cX3_run 6 = .ok (.iload_n 2, 1) := dk_28 (dk_at dksX3_run_0 6 rfl rfl)
theorem dX3_run_7 : decode cX3_run 7 = .ok (.putfield 35, 3) := dk_181 0 35 (dk_at dksX3_run_0 7 rfl rfl)
theorem dX3_run_10 : decode cX3_run 10 = .ok (.aload_n 0, 1) := dk_42 (dk_at dksX3_run_0 10 rfl rfl)
theorem dX3_run_11 : decode cX3_run 11 = .ok (.iload 6, 2) := dk_21 6 (dk_at dksX3_run_0 11 rfl rfl)
theorem dX3_run_13 : decode cX3_run 13 = .ok (.putfield 124, 3) := dk_181 0 124 (dk_at dksX3_run_0 13 rfl rfl)
theorem dX3_run_16 : decode cX3_run 16 = .ok (.aload_n 0, 1) := dk_42 (dk_at dksX3_run_0 16 rfl rfl)
theorem dX3_run_17 : decode cX3_run 17 = .ok (.aload 7, 2) := dk_25 7 (dk_at dksX3_run_0 17 rfl rfl)
theorem dX3_run_19 : decode cX3_run 19 = .ok (.putfield 63, 3) := dk_181 0 63 (dk_at dksX3_run_0 19 rfl rfl)
theorem dX3_run_22 : decode cX3_run 22 = .ok (.aload 7, 2) := dk_25 7 (dk_at dksX3_run_0 22 rfl rfl)
theorem dX3_run_24 : decode cX3_run 24 = .ok (.invokevirtual 130, 3) := dk_182 0 130 (dk_at dksX3_run_1 0 rfl rfl)
theorem dX3_run_27 : decode cX3_run 27 = .ok (.iload 4, 2) := dk_21 4 (dk_at dksX3_run_1 3 rfl rfl)
theorem dX3_run_29 : decode cX3_run 29 = .ok (.istore 8, 2) := dk_54 8 (dk_at dksX3_run_1 5 rfl rfl)
theorem dX3_run_31 : decode cX3_run 31 = .ok (.iload 8, 2) := dk_21 8 (dk_at dksX3_run_1 7 rfl rfl)
theorem dX3_run_33 : decode cX3_run 33 = .ok (.iload 5, 2) := dk_21 5 (dk_at dksX3_run_1 9 rfl rfl)
theorem dX3_run_35 : decode cX3_run 35 = .ok (.if_icmp .ge 165, 3) := dk_162 0 165 (dk_at dksX3_run_1 11 rfl rfl)
theorem dX3_run_38 : decode cX3_run 38 = .ok (.aload 7, 2) := dk_25 7 (dk_at dksX3_run_1 14 rfl rfl)
theorem dX3_run_40 : decode cX3_run 40 = .ok (.getfield 91, 3) := dk_180 0 91 (dk_at dksX3_run_1 16 rfl rfl)
theorem dX3_run_43 : decode cX3_run 43 = .ok (.iconst (-1), 1) := dk_2 (dk_at dksX3_run_1 19 rfl rfl)
theorem dX3_run_44 : decode cX3_run 44 = .ok (.if_icmp .ne 156, 3) := dk_160 0 156 (dk_at dksX3_run_1 20 rfl rfl)
theorem dX3_run_47 : decode cX3_run 47 = .ok (.aload_n 0, 1) := dk_42 (dk_at dksX3_run_1 23 rfl rfl)
theorem dX3_run_48 : decode cX3_run 48 = .ok (.aload_n 3, 1) := dk_45 (dk_at dksX3_run_2 0 rfl rfl)
theorem dX3_run_49 : decode cX3_run 49 = .ok (.iload 8, 2) := dk_21 8 (dk_at dksX3_run_2 1 rfl rfl)
theorem dX3_run_51 : decode cX3_run 51 = .ok (.aaload, 1) := dk_50 (dk_at dksX3_run_2 3 rfl rfl)
theorem dX3_run_52 : decode cX3_run 52 = .ok (.iload 8, 2) := dk_21 8 (dk_at dksX3_run_2 4 rfl rfl)
theorem dX3_run_54 : decode cX3_run 54 = .ok (.iconst 1, 1) := dk_4 (dk_at dksX3_run_2 6 rfl rfl)
theorem dX3_run_55 : decode cX3_run 55 = .ok (.iadd, 1) := dk_96 (dk_at dksX3_run_2 7 rfl rfl)
theorem dX3_run_56 : decode cX3_run 56 = .ok (.iload 5, 2) := dk_21 5 (dk_at dksX3_run_2 8 rfl rfl)
theorem dX3_run_58 : decode cX3_run 58 = .ok (.if_icmp .ge 12, 3) := dk_162 0 12 (dk_at dksX3_run_2 10 rfl rfl)
theorem dX3_run_61 : decode cX3_run 61 = .ok (.aload_n 3, 1) := dk_45 (dk_at dksX3_run_2 13 rfl rfl)
theorem dX3_run_62 : decode cX3_run 62 = .ok (.iload 8, 2) := dk_21 8 (dk_at dksX3_run_2 14 rfl rfl)
theorem dX3_run_64 : decode cX3_run 64 = .ok (.iconst 1, 1) := dk_4 (dk_at dksX3_run_2 16 rfl rfl)
theorem dX3_run_65 : decode cX3_run 65 = .ok (.iadd, 1) := dk_96 (dk_at dksX3_run_2 17 rfl rfl)
theorem dX3_run_66 : decode cX3_run 66 = .ok (.aaload, 1) := dk_50 (dk_at dksX3_run_2 18 rfl rfl)
theorem dX3_run_67 : decode cX3_run 67 = .ok (.goto 4, 3) := dk_167 0 4 (dk_at dksX3_run_2 19 rfl rfl)
theorem dX3_run_70 : decode cX3_run 70 = .ok (.aconst_null, 1) := dk_1 (dk_at dksX3_run_2 22 rfl rfl)
theorem dX3_run_71 : decode cX3_run 71 = .ok (.invokevirtual 133, 3) := dk_182 0 133 (dk_at dksX3_run_3 0 rfl rfl)
theorem dX3_run_74 : decode cX3_run 74 = .ok (.aload_n 0, 1) := dk_42 (dk_at dksX3_run_3 3 rfl rfl)
theorem dX3_run_75 : decode cX3_run 75 = .ok (.iconst 1, 1) := dk_4 (dk_at dksX3_run_3 4 rfl rfl)
theorem dX3_run_76 : decode cX3_run 76 = .ok (.invokevirtual 137, 3) := dk_182 0 137 (dk_at dksX3_run_3 5 rfl rfl)
theorem dX3_run_79 : decode cX3_run 79 = .ok (.ifCond .eq 4, 3) := dk_153 0 4 (dk_at dksX3_run_3 8 rfl rfl)
theorem dX3_run_82 : decode cX3_run 82 = .ok (.return_, 1) := dk_177 (dk_at dksX3_run_3 11 rfl rfl)
theorem dX3_run_83 : decode cX3_run 83 = .ok (.aload_n 0, 1) := dk_42 (dk_at dksX3_run_3 12 rfl rfl)
theorem dX3_run_84 : decode cX3_run 84 = .ok (.invokevirtual 141, 3) := dk_182 0 141 (dk_at dksX3_run_3 13 rfl rfl)
theorem dX3_run_87 : decode cX3_run 87 = .ok (.istore 9, 2) := dk_54 9 (dk_at dksX3_run_3 16 rfl rfl)
theorem dX3_run_89 : decode cX3_run 89 = .ok (.aload_n 0, 1) := dk_42 (dk_at dksX3_run_3 18 rfl rfl)
theorem dX3_run_90 : decode cX3_run 90 = .ok (.sipush 180, 3) := dk_17 0 180 (dk_at dksX3_run_3 19 rfl rfl)
theorem dX3_run_93 : decode cX3_run 93 = .ok (.invokevirtual 84, 3) := dk_182 0 84 (dk_at dksX3_run_4 0 rfl rfl)
theorem dX3_run_96 : decode cX3_run 96 = .ok (.istore 10, 2) := dk_54 10 (dk_at dksX3_run_4 3 rfl rfl)
theorem dX3_run_98 : decode cX3_run 98 = .ok (.aload_n 0, 1) := dk_42 (dk_at dksX3_run_4 5 rfl rfl)
theorem dX3_run_99 : decode cX3_run 99 = .ok (.invokevirtual 145, 3) := dk_182 0 145 (dk_at dksX3_run_4 6 rfl rfl)
theorem dX3_run_102 : decode cX3_run 102 = .ok (.ifCond .ne 4, 3) := dk_154 0 4 (dk_at dksX3_run_4 9 rfl rfl)
theorem dX3_run_105 : decode cX3_run 105 = .ok (.return_, 1) := dk_177 (dk_at dksX3_run_4 12 rfl rfl)
theorem dX3_run_106 : decode cX3_run 106 = .ok (.aload 7, 2) := dk_25 7 (dk_at dksX3_run_4 13 rfl rfl)
theorem dX3_run_108 : decode cX3_run 108 = .ok (.dup, 1) := dk_89 (dk_at dksX3_run_4 15 rfl rfl)
theorem dX3_run_109 : decode cX3_run 109 = .ok (.getfield 148, 3) := dk_180 0 148 (dk_at dksX3_run_4 16 rfl rfl)
theorem dX3_run_112 : decode cX3_run 112 = .ok (.iconst 1, 1) := dk_4 (dk_at dksX3_run_4 19 rfl rfl)
theorem dX3_run_113 : decode cX3_run 113 = .ok (.iadd, 1) := dk_96 (dk_at dksX3_run_4 20 rfl rfl)
theorem dX3_run_114 : decode cX3_run 114 = .ok (.putfield 148, 3) := dk_181 0 148 (dk_at dksX3_run_4 21 rfl rfl)
theorem dX3_run_117 : decode cX3_run 117 = .ok (.iload 8, 2) := dk_21 8 (dk_at dksX3_run_5 0 rfl rfl)
theorem dX3_run_119 : decode cX3_run 119 = .ok (.iload 5, 2) := dk_21 5 (dk_at dksX3_run_5 2 rfl rfl)
theorem dX3_run_121 : decode cX3_run 121 = .ok (.iconst 1, 1) := dk_4 (dk_at dksX3_run_5 4 rfl rfl)
theorem dX3_run_122 : decode cX3_run 122 = .ok (.isub, 1) := dk_100 (dk_at dksX3_run_5 5 rfl rfl)
theorem dX3_run_123 : decode cX3_run 123 = .ok (.if_icmp .eq 8, 3) := dk_159 0 8 (dk_at dksX3_run_5 6 rfl rfl)
theorem dX3_run_126 : decode cX3_run 126 = .ok (.iload 10, 2) := dk_21 10 (dk_at dksX3_run_5 9 rfl rfl)
theorem dX3_run_128 : decode cX3_run 128 = .ok (.ifCond .eq 6, 3) := dk_153 0 6 (dk_at dksX3_run_5 11 rfl rfl)
theorem dX3_run_131 : decode cX3_run 131 = .ok (.iconst 3, 1) := dk_6 (dk_at dksX3_run_5 14 rfl rfl)
theorem dX3_run_132 : decode cX3_run 132 = .ok (.istore 9, 2) := dk_54 9 (dk_at dksX3_run_5 15 rfl rfl)
theorem dX3_run_134 : decode cX3_run 134 = .ok (.iconst 1, 1) := dk_4 (dk_at dksX3_run_5 17 rfl rfl)
theorem dX3_run_135 : decode cX3_run 135 = .ok (.istore 11, 2) := dk_54 11 (dk_at dksX3_run_5 18 rfl rfl)
theorem dX3_run_137 : decode cX3_run 137 = .ok (.iload 11, 2) := dk_21 11 (dk_at dksX3_run_5 20 rfl rfl)
theorem dX3_run_139 : decode cX3_run 139 = .ok (.iload 9, 2) := dk_21 9 (dk_at dksX3_run_5 22 rfl rfl)
theorem dX3_run_141 : decode cX3_run 141 = .ok (.if_icmp .gt 42, 3) := dk_163 0 42 (dk_at dksX3_run_6 0 rfl rfl)
theorem dX3_run_144 : decode cX3_run 144 = .ok (.aload_n 0, 1) := dk_42 (dk_at dksX3_run_6 3 rfl rfl)
theorem dX3_run_145 : decode cX3_run 145 = .ok (.iload 11, 2) := dk_21 11 (dk_at dksX3_run_6 4 rfl rfl)
theorem dX3_run_147 : decode cX3_run 147 = .ok (.invokevirtual 151, 3) := dk_182 0 151 (dk_at dksX3_run_6 6 rfl rfl)
theorem dX3_run_150 : decode cX3_run 150 = .ok (.aload_n 0, 1) := dk_42 (dk_at dksX3_run_6 9 rfl rfl)
theorem dX3_run_151 : decode cX3_run 151 = .ok (.iconst 0, 1) := dk_3 (dk_at dksX3_run_6 10 rfl rfl)
theorem dX3_run_152 : decode cX3_run 152 = .ok (.invokevirtual 137, 3) := dk_182 0 137 (dk_at dksX3_run_6 11 rfl rfl)
theorem dX3_run_155 : decode cX3_run 155 = .ok (.ifCond .ne 10, 3) := dk_154 0 10 (dk_at dksX3_run_6 14 rfl rfl)
theorem dX3_run_158 : decode cX3_run 158 = .ok (.aload_n 0, 1) := dk_42 (dk_at dksX3_run_6 17 rfl rfl)
theorem dX3_run_159 : decode cX3_run 159 = .ok (.invokevirtual 145, 3) := dk_182 0 145 (dk_at dksX3_run_6 18 rfl rfl)
theorem dX3_run_162 : decode cX3_run 162 = .ok (.ifCond .ne 4, 3) := dk_154 0 4 (dk_at dksX3_run_6 21 rfl rfl)
theorem dX3_run_165 : decode cX3_run 165 = .ok (.return_, 1) := dk_177 (dk_at dksX3_run_7 0 rfl rfl)
theorem dX3_run_166 : decode cX3_run 166 = .ok (.aload 7, 2) := dk_25 7 (dk_at dksX3_run_7 1 rfl rfl)
theorem dX3_run_168 : decode cX3_run 168 = .ok (.dup, 1) := dk_89 (dk_at dksX3_run_7 3 rfl rfl)
theorem dX3_run_169 : decode cX3_run 169 = .ok (.getfield 155, 3) := dk_180 0 155 (dk_at dksX3_run_7 4 rfl rfl)
theorem dX3_run_172 : decode cX3_run 172 = .ok (.iconst 1, 1) := dk_4 (dk_at dksX3_run_7 7 rfl rfl)
theorem dX3_run_173 : decode cX3_run 173 = .ok (.iadd, 1) := dk_96 (dk_at dksX3_run_7 8 rfl rfl)
theorem dX3_run_174 : decode cX3_run 174 = .ok (.putfield 155, 3) := dk_181 0 155 (dk_at dksX3_run_7 9 rfl rfl)
theorem dX3_run_177 : decode cX3_run 177 = .ok (.iinc 11 1, 3) := dk_132 11 1 (dk_at dksX3_run_7 12 rfl rfl)
theorem dX3_run_180 : decode cX3_run 180 = .ok (.goto (-43), 3) := dk_167 255 213 (dk_at dksX3_run_7 15 rfl rfl)
theorem dX3_run_183 : decode cX3_run 183 = .ok (.iload 10, 2) := dk_21 10 (dk_at dksX3_run_7 18 rfl rfl)
theorem dX3_run_185 : decode cX3_run 185 = .ok (.ifCond .eq 9, 3) := dk_153 0 9 (dk_at dksX3_run_7 20 rfl rfl)
theorem dX3_run_188 : decode cX3_run 188 = .ok (.aload 7, 2) := dk_25 7 (dk_at dksX3_run_8 0 rfl rfl)
theorem dX3_run_190 : decode cX3_run 190 = .ok (.iconst 1, 1) := dk_4 (dk_at dksX3_run_8 2 rfl rfl)
theorem dX3_run_191 : decode cX3_run 191 = .ok (.putfield 91, 3) := dk_181 0 91 (dk_at dksX3_run_8 3 rfl rfl)
theorem dX3_run_194 : decode cX3_run 194 = .ok (.iinc 8 1, 3) := dk_132 8 1 (dk_at dksX3_run_8 6 rfl rfl)
theorem dX3_run_197 : decode cX3_run 197 = .ok (.goto (-166), 3) := dk_167 255 90 (dk_at dksX3_run_8 9 rfl rfl)
theorem dX3_run_200 : decode cX3_run 200 = .ok (.aload 7, 2) := dk_25 7 (dk_at dksX3_run_8 12 rfl rfl)
theorem dX3_run_202 : decode cX3_run 202 = .ok (.getfield 91, 3) := dk_180 0 91 (dk_at dksX3_run_8 14 rfl rfl)
theorem dX3_run_205 : decode cX3_run 205 = .ok (.iconst (-1), 1) := dk_2 (dk_at dksX3_run_8 17 rfl rfl)
theorem dX3_run_206 : decode cX3_run 206 = .ok (.if_icmp .ne 9, 3) := dk_160 0 9 (dk_at dksX3_run_8 18 rfl rfl)
theorem dX3_run_209 : decode cX3_run 209 = .ok (.aload 7, 2) := dk_25 7 (dk_at dksX3_run_8 21 rfl rfl)
theorem dX3_run_211 : decode cX3_run 211 = .ok (.iconst 0, 1) := dk_3 (dk_at dksX3_run_8 23 rfl rfl)
theorem dX3_run_212 : decode cX3_run 212 = .ok (.putfield 91, 3) := dk_181 0 91 (dk_at dksX3_run_9 0 rfl rfl)
theorem dX3_run_215 : decode cX3_run 215 = .ok (.return_, 1) := dk_177 (dk_at dksX3_run_9 3 rfl rfl)
abbrev cX3_giveCard : ByteArray := prog_7_method_8_code
def yX3_giveCard : MethodName := ⟨RX3, "giveCard", "([B[B)V"⟩
def dkwX3_giveCard_4 : List UInt8 := [42, 180, 0, 15, 16, 60, 4, 79, 177]
abbrev dktX3_giveCard_4 : List UInt8 := dkwX3_giveCard_4 ++ []
def dkwX3_giveCard_3 : List UInt8 := [29, 51, 16, 16, 126, 153, 0, 13, 42, 180, 0, 15, 16, 40, 29, 96, 4, 79, 132, 3, 1, 167, 255, 173]
abbrev dktX3_giveCard_3 : List UInt8 := dkwX3_giveCard_3 ++ dktX3_giveCard_4
def dkwX3_giveCard_2 : List UInt8 := [16, 15, 126, 16, 15, 159, 0, 18, 42, 180, 0, 15, 16, 20, 29, 96, 44, 29, 51, 16, 15, 126, 79, 43]
abbrev dktX3_giveCard_2 : List UInt8 := dkwX3_giveCard_2 ++ dktX3_giveCard_3
def dkwX3_giveCard_1 : List UInt8 := [159, 0, 17, 42, 180, 0, 15, 3, 29, 96, 43, 29, 51, 16, 15, 126, 79, 44, 198, 0, 29, 44, 29, 51]
abbrev dktX3_giveCard_1 : List UInt8 := dkwX3_giveCard_1 ++ dktX3_giveCard_2
def dkwX3_giveCard_0 : List UInt8 := [42, 180, 0, 15, 2, 184, 0, 51, 3, 62, 29, 16, 20, 162, 0, 83, 43, 29, 51, 16, 15, 126, 16, 15]
abbrev dktX3_giveCard_0 : List UInt8 := dkwX3_giveCard_0 ++ dktX3_giveCard_1
theorem dksX3_giveCard_0 : cX3_giveCard.data.toList.drop 0 = dktX3_giveCard_0 := by decide +kernel
theorem dksX3_giveCard_1 : cX3_giveCard.data.toList.drop 24 = dktX3_giveCard_1 := dk_seg dksX3_giveCard_0 24 rfl rfl
theorem dksX3_giveCard_2 : cX3_giveCard.data.toList.drop 48 = dktX3_giveCard_2 := dk_seg dksX3_giveCard_1 24 rfl rfl
theorem dksX3_giveCard_3 : cX3_giveCard.data.toList.drop 72 = dktX3_giveCard_3 := dk_seg dksX3_giveCard_2 24 rfl rfl
theorem dksX3_giveCard_4 : cX3_giveCard.data.toList.drop 96 = dktX3_giveCard_4 := dk_seg dksX3_giveCard_3 24 rfl rfl
theorem dX3_giveCard_0 : decode cX3_giveCard 0 = .ok (.aload_n 0, 1) := dk_42 (dk_at dksX3_giveCard_0 0 rfl rfl)
theorem dX3_giveCard_1 : decode cX3_giveCard 1 = .ok (.getfield 15, 3) := dk_180 0 15 (dk_at dksX3_giveCard_0 1 rfl rfl)
theorem dX3_giveCard_4 : decode cX3_giveCard 4 = .ok (.iconst (-1), 1) := dk_2 (dk_at dksX3_giveCard_0 4 rfl rfl)
theorem dX3_giveCard_5 : decode cX3_giveCard 5 = .ok (.invokestatic 51, 3) := dk_184 0 51 (dk_at dksX3_giveCard_0 5 rfl rfl)
theorem dX3_giveCard_8 : decode cX3_giveCard 8 = .ok (.iconst 0, 1) := dk_3 (dk_at dksX3_giveCard_0 8 rfl rfl)
theorem dX3_giveCard_9 : decode cX3_giveCard 9 = .ok (.istore_n 3, 1) := dk_62 (dk_at dksX3_giveCard_0 9 rfl rfl)
theorem dX3_giveCard_10 : decode cX3_giveCard 10 = .ok (.iload_n 3, 1) := dk_29 (dk_at dksX3_giveCard_0 10 rfl rfl)
theorem dX3_giveCard_11 : decode cX3_giveCard 11 = .ok (.bipush 20, 2) := dk_16 20 (dk_at dksX3_giveCard_0 11 rfl rfl)
theorem dX3_giveCard_13 : decode cX3_giveCard 13 = .ok (.if_icmp .ge 83, 3) := dk_162 0 83 (dk_at dksX3_giveCard_0 13 rfl rfl)
theorem dX3_giveCard_16 : decode cX3_giveCard 16 = .ok (.aload_n 1, 1) := dk_43 (dk_at dksX3_giveCard_0 16 rfl rfl)
theorem dX3_giveCard_17 : decode cX3_giveCard 17 = .ok (.iload_n 3, 1) := dk_29 (dk_at dksX3_giveCard_0 17 rfl rfl)
theorem dX3_giveCard_18 : decode cX3_giveCard 18 = .ok (.baload, 1) := dk_51 (dk_at dksX3_giveCard_0 18 rfl rfl)
theorem dX3_giveCard_19 : decode cX3_giveCard 19 = .ok (.bipush 15, 2) := dk_16 15 (dk_at dksX3_giveCard_0 19 rfl rfl)
theorem dX3_giveCard_21 : decode cX3_giveCard 21 = .ok (.iand, 1) := dk_126 (dk_at dksX3_giveCard_0 21 rfl rfl)
theorem dX3_giveCard_22 : decode cX3_giveCard 22 = .ok (.bipush 15, 2) := dk_16 15 (dk_at dksX3_giveCard_0 22 rfl rfl)
theorem dX3_giveCard_24 : decode cX3_giveCard 24 = .ok (.if_icmp .eq 17, 3) := dk_159 0 17 (dk_at dksX3_giveCard_1 0 rfl rfl)
theorem dX3_giveCard_27 : decode cX3_giveCard 27 = .ok (.aload_n 0, 1) := dk_42 (dk_at dksX3_giveCard_1 3 rfl rfl)
theorem dX3_giveCard_28 : decode cX3_giveCard 28 = .ok (.getfield 15, 3) := dk_180 0 15 (dk_at dksX3_giveCard_1 4 rfl rfl)
theorem dX3_giveCard_31 : decode cX3_giveCard 31 = .ok (.iconst 0, 1) := dk_3 (dk_at dksX3_giveCard_1 7 rfl rfl)
theorem dX3_giveCard_32 : decode cX3_giveCard 32 = .ok (.iload_n 3, 1) := dk_29 (dk_at dksX3_giveCard_1 8 rfl rfl)
theorem dX3_giveCard_33 : decode cX3_giveCard 33 = .ok (.iadd, 1) := dk_96 (dk_at dksX3_giveCard_1 9 rfl rfl)
theorem dX3_giveCard_34 : decode cX3_giveCard 34 = .ok (.aload_n 1, 1) := dk_43 (dk_at dksX3_giveCard_1 10 rfl rfl)
theorem dX3_giveCard_35 : decode cX3_giveCard 35 = .ok (.iload_n 3, 1) := dk_29 (dk_at dksX3_giveCard_1 11 rfl rfl)
theorem dX3_giveCard_36 : decode cX3_giveCard 36 = .ok (.baload, 1) := dk_51 (dk_at dksX3_giveCard_1 12 rfl rfl)
theorem dX3_giveCard_37 : decode cX3_giveCard 37 = .ok (.bipush 15, 2) := dk_16 15 (dk_at dksX3_giveCard_1 13 rfl rfl)
theorem dX3_giveCard_39 : decode cX3_giveCard 39 = .ok (.iand, 1) := dk_126 (dk_at dksX3_giveCard_1 15 rfl rfl)
theorem dX3_giveCard_40 : decode cX3_giveCard 40 = .ok (.iastore, 1) := dk_79 (dk_at dksX3_giveCard_1 16 rfl rfl)
theorem dX3_giveCard_41 : decode cX3_giveCard 41 = .ok (.aload_n 2, 1) := dk_44 (dk_at dksX3_giveCard_1 17 rfl rfl)
theorem dX3_giveCard_42 : decode cX3_giveCard 42 = .ok (.ifnull 29, 3) := dk_198 0 29 (dk_at dksX3_giveCard_1 18 rfl rfl)
theorem dX3_giveCard_45 : decode cX3_giveCard 45 = .ok (.aload_n 2, 1) := dk_44 (dk_at dksX3_giveCard_1 21 rfl rfl)
theorem dX3_giveCard_46 : decode cX3_giveCard 46 = .ok (.iload_n 3, 1) := dk_29 (dk_at dksX3_giveCard_1 22 rfl rfl)
theorem dX3_giveCard_47 : decode cX3_giveCard 47 = .ok (.baload, 1) := dk_51 (dk_at dksX3_giveCard_1 23 rfl rfl)
theorem dX3_giveCard_48 : decode cX3_giveCard 48 = .ok (.bipush 15, 2) := dk_16 15 (dk_at dksX3_giveCard_2 0 rfl rfl)
theorem dX3_giveCard_50 : decode cX3_giveCard 50 = .ok (.iand, 1) := dk_126 (dk_at dksX3_giveCard_2 2 rfl rfl)
theorem dX3_giveCard_51 : decode cX3_giveCard 51 = .ok (.bipush 15, 2) := dk_16 15 (dk_at dksX3_giveCard_2 3 rfl rfl)
theorem dX3_giveCard_53 : decode cX3_giveCard 53 = .ok (.if_icmp .eq 18, 3) := dk_159 0 18 (dk_at dksX3_giveCard_2 5 rfl rfl)
theorem dX3_giveCard_56 : decode cX3_giveCard 56 = .ok (.aload_n 0, 1) := dk_42 (dk_at dksX3_giveCard_2 8 rfl rfl)
theorem dX3_giveCard_57 : decode cX3_giveCard 57 = .ok (.getfield 15, 3) := dk_180 0 15 (dk_at dksX3_giveCard_2 9 rfl rfl)
theorem dX3_giveCard_60 : decode cX3_giveCard 60 = .ok (.bipush 20, 2) := dk_16 20 (dk_at dksX3_giveCard_2 12 rfl rfl)
theorem dX3_giveCard_62 : decode cX3_giveCard 62 = .ok (.iload_n 3, 1) := dk_29 (dk_at dksX3_giveCard_2 14 rfl rfl)
theorem dX3_giveCard_63 : decode cX3_giveCard 63 = .ok (.iadd, 1) := dk_96 (dk_at dksX3_giveCard_2 15 rfl rfl)
theorem dX3_giveCard_64 : decode cX3_giveCard 64 = .ok (.aload_n 2, 1) := dk_44 (dk_at dksX3_giveCard_2 16 rfl rfl)
theorem dX3_giveCard_65 : decode cX3_giveCard 65 = .ok (.iload_n 3, 1) := dk_29 (dk_at dksX3_giveCard_2 17 rfl rfl)
theorem dX3_giveCard_66 : decode cX3_giveCard 66 = .ok (.baload, 1) := dk_51 (dk_at dksX3_giveCard_2 18 rfl rfl)
theorem dX3_giveCard_67 : decode cX3_giveCard 67 = .ok (.bipush 15, 2) := dk_16 15 (dk_at dksX3_giveCard_2 19 rfl rfl)
theorem dX3_giveCard_69 : decode cX3_giveCard 69 = .ok (.iand, 1) := dk_126 (dk_at dksX3_giveCard_2 21 rfl rfl)
theorem dX3_giveCard_70 : decode cX3_giveCard 70 = .ok (.iastore, 1) := dk_79 (dk_at dksX3_giveCard_2 22 rfl rfl)
theorem dX3_giveCard_71 : decode cX3_giveCard 71 = .ok (.aload_n 1, 1) := dk_43 (dk_at dksX3_giveCard_2 23 rfl rfl)
theorem dX3_giveCard_72 : decode cX3_giveCard 72 = .ok (.iload_n 3, 1) := dk_29 (dk_at dksX3_giveCard_3 0 rfl rfl)
theorem dX3_giveCard_73 : decode cX3_giveCard 73 = .ok (.baload, 1) := dk_51 (dk_at dksX3_giveCard_3 1 rfl rfl)
theorem dX3_giveCard_74 : decode cX3_giveCard 74 = .ok (.bipush 16, 2) := dk_16 16 (dk_at dksX3_giveCard_3 2 rfl rfl)
theorem dX3_giveCard_76 : decode cX3_giveCard 76 = .ok (.iand, 1) := dk_126 (dk_at dksX3_giveCard_3 4 rfl rfl)
theorem dX3_giveCard_77 : decode cX3_giveCard 77 = .ok (.ifCond .eq 13, 3) := dk_153 0 13 (dk_at dksX3_giveCard_3 5 rfl rfl)
theorem dX3_giveCard_80 : decode cX3_giveCard 80 = .ok (.aload_n 0, 1) := dk_42 (dk_at dksX3_giveCard_3 8 rfl rfl)
theorem dX3_giveCard_81 : decode cX3_giveCard 81 = .ok (.getfield 15, 3) := dk_180 0 15 (dk_at dksX3_giveCard_3 9 rfl rfl)
theorem dX3_giveCard_84 : decode cX3_giveCard 84 = .ok (.bipush 40, 2) := dk_16 40 (dk_at dksX3_giveCard_3 12 rfl rfl)
theorem dX3_giveCard_86 : decode cX3_giveCard 86 = .ok (.iload_n 3, 1) := dk_29 (dk_at dksX3_giveCard_3 14 rfl rfl)
theorem dX3_giveCard_87 : decode cX3_giveCard 87 = .ok (.iadd, 1) := dk_96 (dk_at dksX3_giveCard_3 15 rfl rfl)
theorem dX3_giveCard_88 : decode cX3_giveCard 88 = .ok (.iconst 1, 1) := dk_4 (dk_at dksX3_giveCard_3 16 rfl rfl)
theorem dX3_giveCard_89 : decode cX3_giveCard 89 = .ok (.iastore, 1) := dk_79 (dk_at dksX3_giveCard_3 17 rfl rfl)
theorem dX3_giveCard_90 : decode cX3_giveCard 90 = .ok (.iinc 3 1, 3) := dk_132 3 1 (dk_at dksX3_giveCard_3 18 rfl rfl)
theorem dX3_giveCard_93 : decode cX3_giveCard 93 = .ok (.goto (-83), 3) := dk_167 255 173 (dk_at dksX3_giveCard_3 21 rfl rfl)
theorem dX3_giveCard_96 : decode cX3_giveCard 96 = .ok (.aload_n 0, 1) := dk_42 (dk_at dksX3_giveCard_4 0 rfl rfl)
theorem dX3_giveCard_97 : decode cX3_giveCard 97 = .ok (.getfield 15, 3) := dk_180 0 15 (dk_at dksX3_giveCard_4 1 rfl rfl)
theorem dX3_giveCard_100 : decode cX3_giveCard 100 = .ok (.bipush 60, 2) := dk_16 60 (dk_at dksX3_giveCard_4 4 rfl rfl)
theorem dX3_giveCard_102 : decode cX3_giveCard 102 = .ok (.iconst 1, 1) := dk_4 (dk_at dksX3_giveCard_4 6 rfl rfl)
theorem dX3_giveCard_103 : decode cX3_giveCard 103 = .ok (.iastore, 1) := dk_79 (dk_at dksX3_giveCard_4 7 rfl rfl)
theorem dX3_giveCard_104 : decode cX3_giveCard 104 = .ok (.return_, 1) := dk_177 (dk_at dksX3_giveCard_4 8 rfl rfl)
abbrev cX3_settle : ByteArray := prog_7_method_10_code
def yX3_settle : MethodName := ⟨RX3, "settle", "(Z)Z"⟩
def dkwX3_settle_7 : List UInt8 := [180, 0, 63, 42, 180, 0, 57, 181, 0, 94, 42, 180, 0, 63, 42, 180, 0, 60, 181, 0, 95, 4, 172]
abbrev dktX3_settle_7 : List UInt8 := dkwX3_settle_7 ++ []
def dkwX3_settle_6 : List UInt8 := [132, 4, 1, 167, 255, 226, 42, 182, 0, 80, 154, 0, 5, 3, 172, 42, 180, 0, 63, 5, 181, 0, 91, 42]
abbrev dktX3_settle_6 : List UInt8 := dkwX3_settle_6 ++ dktX3_settle_7
def dkwX3_settle_5 : List UInt8 := [162, 0, 30, 29, 21, 4, 122, 4, 126, 4, 160, 0, 14, 42, 180, 0, 15, 16, 61, 21, 4, 96, 4, 79]
abbrev dktX3_settle_5 : List UInt8 := dkwX3_settle_5 ++ dktX3_settle_6
def dkwX3_settle_4 : List UInt8 := [159, 0, 10, 29, 4, 21, 4, 120, 128, 62, 132, 4, 1, 167, 255, 217, 3, 54, 4, 21, 4, 7]
abbrev dktX3_settle_4 : List UInt8 := dkwX3_settle_4 ++ dktX3_settle_5
def dkwX3_settle_3 : List UInt8 := [7, 162, 0, 39, 42, 17, 0, 148, 21, 4, 96, 182, 0, 88, 42, 17, 0, 152, 21, 4, 96, 182, 0, 88]
abbrev dktX3_settle_3 : List UInt8 := dkwX3_settle_3 ++ dktX3_settle_4
def dkwX3_settle_2 : List UInt8 := [28, 181, 0, 48, 42, 182, 0, 77, 42, 182, 0, 80, 87, 27, 153, 0, 86, 3, 62, 3, 54, 4, 21, 4]
abbrev dktX3_settle_2 : List UInt8 := dkwX3_settle_2 ++ dktX3_settle_3
def dkwX3_settle_1 : List UInt8 := [17, 0, 144, 29, 96, 182, 0, 84, 153, 0, 9, 28, 4, 29, 120, 128, 61, 132, 3, 1, 167, 255, 230, 42]
abbrev dktX3_settle_1 : List UInt8 := dkwX3_settle_1 ++ dktX3_settle_2
def dkwX3_settle_0 : List UInt8 := [42, 3, 181, 0, 48, 42, 182, 0, 77, 42, 182, 0, 80, 87, 3, 61, 3, 62, 29, 7, 162, 0, 27, 42]
abbrev dktX3_settle_0 : List UInt8 := dkwX3_settle_0 ++ dktX3_settle_1
theorem dksX3_settle_0 : cX3_settle.data.toList.drop 0 = dktX3_settle_0 := by decide +kernel
theorem dksX3_settle_1 : cX3_settle.data.toList.drop 24 = dktX3_settle_1 := dk_seg dksX3_settle_0 24 rfl rfl
theorem dksX3_settle_2 : cX3_settle.data.toList.drop 48 = dktX3_settle_2 := dk_seg dksX3_settle_1 24 rfl rfl
theorem dksX3_settle_3 : cX3_settle.data.toList.drop 72 = dktX3_settle_3 := dk_seg dksX3_settle_2 24 rfl rfl
theorem dksX3_settle_4 : cX3_settle.data.toList.drop 96 = dktX3_settle_4 := dk_seg dksX3_settle_3 24 rfl rfl
theorem dksX3_settle_5 : cX3_settle.data.toList.drop 118 = dktX3_settle_5 := dk_seg dksX3_settle_4 22 rfl rfl
theorem dksX3_settle_6 : cX3_settle.data.toList.drop 142 = dktX3_settle_6 := dk_seg dksX3_settle_5 24 rfl rfl
theorem dksX3_settle_7 : cX3_settle.data.toList.drop 166 = dktX3_settle_7 := dk_seg dksX3_settle_6 24 rfl rfl
theorem dX3_settle_0 : decode cX3_settle 0 = .ok (.aload_n 0, 1) := dk_42 (dk_at dksX3_settle_0 0 rfl rfl)
theorem dX3_settle_1 : decode cX3_settle 1 = .ok (.iconst 0, 1) := dk_3 (dk_at dksX3_settle_0 1 rfl rfl)
theorem dX3_settle_2 : decode cX3_settle 2 = .ok (.putfield 48, 3) := dk_181 0 48 (dk_at dksX3_settle_0 2 rfl rfl)
theorem dX3_settle_5 : decode cX3_settle 5 = .ok (.aload_n 0, 1) := dk_42 (dk_at dksX3_settle_0 5 rfl rfl)
theorem dX3_settle_6 : decode cX3_settle 6 = .ok (.invokevirtual 77, 3) := dk_182 0 77 (dk_at dksX3_settle_0 6 rfl rfl)
theorem dX3_settle_9 : decode cX3_settle 9 = .ok (.aload_n 0, 1) := dk_42 (dk_at dksX3_settle_0 9 rfl rfl)
theorem dX3_settle_10 : decode cX3_settle 10 = .ok (.invokevirtual 80, 3) := dk_182 0 80 (dk_at dksX3_settle_0 10 rfl rfl)
theorem dX3_settle_13 : decode cX3_settle 13 = .ok (.pop, 1) := dk_87 (dk_at dksX3_settle_0 13 rfl rfl)
theorem dX3_settle_14 : decode cX3_settle 14 = .ok (.iconst 0, 1) := dk_3 (dk_at dksX3_settle_0 14 rfl rfl)
theorem dX3_settle_15 : decode cX3_settle 15 = .ok (.istore_n 2, 1) := dk_61 (dk_at dksX3_settle_0 15 rfl rfl)
theorem dX3_settle_16 : decode cX3_settle 16 = .ok (.iconst 0, 1) := dk_3 (dk_at dksX3_settle_0 16 rfl rfl)
theorem dX3_settle_17 : decode cX3_settle 17 = .ok (.istore_n 3, 1) := dk_62 (dk_at dksX3_settle_0 17 rfl rfl)
theorem dX3_settle_18 : decode cX3_settle 18 = .ok (.iload_n 3, 1) := dk_29 (dk_at dksX3_settle_0 18 rfl rfl)
theorem dX3_settle_19 : decode cX3_settle 19 = .ok (.iconst 4, 1) := dk_7 (dk_at dksX3_settle_0 19 rfl rfl)
theorem dX3_settle_20 : decode cX3_settle 20 = .ok (.if_icmp .ge 27, 3) := dk_162 0 27 (dk_at dksX3_settle_0 20 rfl rfl)
theorem dX3_settle_23 : decode cX3_settle 23 = .ok (.aload_n 0, 1) := dk_42 (dk_at dksX3_settle_0 23 rfl rfl)
theorem dX3_settle_24 : decode cX3_settle 24 = .ok (.sipush 144, 3) := dk_17 0 144 (dk_at dksX3_settle_1 0 rfl rfl)
theorem dX3_settle_27 : decode cX3_settle 27 = .ok (.iload_n 3, 1) := dk_29 (dk_at dksX3_settle_1 3 rfl rfl)
theorem dX3_settle_28 : decode cX3_settle 28 = .ok (.iadd, 1) := dk_96 (dk_at dksX3_settle_1 4 rfl rfl)
theorem dX3_settle_29 : decode cX3_settle 29 = .ok (.invokevirtual 84, 3) := dk_182 0 84 (dk_at dksX3_settle_1 5 rfl rfl)
theorem dX3_settle_32 : decode cX3_settle 32 = .ok (.ifCond .eq 9, 3) := dk_153 0 9 (dk_at dksX3_settle_1 8 rfl rfl)
theorem dX3_settle_35 : decode cX3_settle 35 = .ok (.iload_n 2, 1) := dk_28 (dk_at dksX3_settle_1 11 rfl rfl)
theorem dX3_settle_36 : decode cX3_settle 36 = .ok (.iconst 1, 1) := dk_4 (dk_at dksX3_settle_1 12 rfl rfl)
theorem dX3_settle_37 : decode cX3_settle 37 = .ok (.iload_n 3, 1) := dk_29 (dk_at dksX3_settle_1 13 rfl rfl)
theorem dX3_settle_38 : decode cX3_settle 38 = .ok (.ishl, 1) := dk_120 (dk_at dksX3_settle_1 14 rfl rfl)
theorem dX3_settle_39 : decode cX3_settle 39 = .ok (.ior, 1) := dk_128 (dk_at dksX3_settle_1 15 rfl rfl)
theorem dX3_settle_40 : decode cX3_settle 40 = .ok (.istore_n 2, 1) := dk_61 (dk_at dksX3_settle_1 16 rfl rfl)
theorem dX3_settle_41 : decode cX3_settle 41 = .ok (.iinc 3 1, 3) := dk_132 3 1 (dk_at dksX3_settle_1 17 rfl rfl)
theorem dX3_settle_44 : decode cX3_settle 44 = .ok (.goto (-26), 3) := dk_167 255 230 (dk_at dksX3_settle_1 20 rfl rfl)
theorem dX3_settle_47 : decode cX3_settle 47 = .ok (.aload_n 0, 1) := dk_42 (dk_at dksX3_settle_1 23 rfl rfl)
theorem dX3_settle_48 : decode cX3_settle 48 = .ok (.iload_n 2, 1) := dk_28 (dk_at dksX3_settle_2 0 rfl rfl)
theorem dX3_settle_49 : decode cX3_settle 49 = .ok (.putfield 48, 3) := dk_181 0 48 (dk_at dksX3_settle_2 1 rfl rfl)
theorem dX3_settle_52 : decode cX3_settle 52 = .ok (.aload_n 0, 1) := dk_42 (dk_at dksX3_settle_2 4 rfl rfl)
theorem dX3_settle_53 : decode cX3_settle 53 = .ok (.invokevirtual 77, 3) := dk_182 0 77 (dk_at dksX3_settle_2 5 rfl rfl)
theorem dX3_settle_56 : decode cX3_settle 56 = .ok (.aload_n 0, 1) := dk_42 (dk_at dksX3_settle_2 8 rfl rfl)
theorem dX3_settle_57 : decode cX3_settle 57 = .ok (.invokevirtual 80, 3) := dk_182 0 80 (dk_at dksX3_settle_2 9 rfl rfl)
theorem dX3_settle_60 : decode cX3_settle 60 = .ok (.pop, 1) := dk_87 (dk_at dksX3_settle_2 12 rfl rfl)
theorem dX3_settle_61 : decode cX3_settle 61 = .ok (.iload_n 1, 1) := dk_27 (dk_at dksX3_settle_2 13 rfl rfl)
theorem dX3_settle_62 : decode cX3_settle 62 = .ok (.ifCond .eq 86, 3) := dk_153 0 86 (dk_at dksX3_settle_2 14 rfl rfl)
theorem dX3_settle_65 : decode cX3_settle 65 = .ok (.iconst 0, 1) := dk_3 (dk_at dksX3_settle_2 17 rfl rfl)
theorem dX3_settle_66 : decode cX3_settle 66 = .ok (.istore_n 3, 1) := dk_62 (dk_at dksX3_settle_2 18 rfl rfl)
theorem dX3_settle_67 : decode cX3_settle 67 = .ok (.iconst 0, 1) := dk_3 (dk_at dksX3_settle_2 19 rfl rfl)
theorem dX3_settle_68 : decode cX3_settle 68 = .ok (.istore 4, 2) := dk_54 4 (dk_at dksX3_settle_2 20 rfl rfl)
theorem dX3_settle_70 : decode cX3_settle 70 = .ok (.iload 4, 2) := dk_21 4 (dk_at dksX3_settle_2 22 rfl rfl)
theorem dX3_settle_72 : decode cX3_settle 72 = .ok (.iconst 4, 1) := dk_7 (dk_at dksX3_settle_3 0 rfl rfl)
theorem dX3_settle_73 : decode cX3_settle 73 = .ok (.if_icmp .ge 39, 3) := dk_162 0 39 (dk_at dksX3_settle_3 1 rfl rfl)
theorem dX3_settle_76 : decode cX3_settle 76 = .ok (.aload_n 0, 1) := dk_42 (dk_at dksX3_settle_3 4 rfl rfl)
theorem dX3_settle_77 : decode cX3_settle 77 = .ok (.sipush 148, 3) := dk_17 0 148 (dk_at dksX3_settle_3 5 rfl rfl)
theorem dX3_settle_80 : decode cX3_settle 80 = .ok (.iload 4, 2) := dk_21 4 (dk_at dksX3_settle_3 8 rfl rfl)
theorem dX3_settle_82 : decode cX3_settle 82 = .ok (.iadd, 1) := dk_96 (dk_at dksX3_settle_3 10 rfl rfl)
theorem dX3_settle_83 : decode cX3_settle 83 = .ok (.invokevirtual 88, 3) := dk_182 0 88 (dk_at dksX3_settle_3 11 rfl rfl)
theorem dX3_settle_86 : decode cX3_settle 86 = .ok (.aload_n 0, 1) := dk_42 (dk_at dksX3_settle_3 14 rfl rfl)
theorem dX3_settle_87 : decode cX3_settle 87 = .ok (.sipush 152, 3) := dk_17 0 152 (dk_at dksX3_settle_3 15 rfl rfl)
theorem dX3_settle_90 : decode cX3_settle 90 = .ok (.iload 4, 2) := dk_21 4 (dk_at dksX3_settle_3 18 rfl rfl)
theorem dX3_settle_92 : decode cX3_settle 92 = .ok (.iadd, 1) := dk_96 (dk_at dksX3_settle_3 20 rfl rfl)
theorem dX3_settle_93 : decode cX3_settle 93 = .ok (.invokevirtual 88, 3) := dk_182 0 88 (dk_at dksX3_settle_3 21 rfl rfl)
theorem dX3_settle_96 : decode cX3_settle 96 = .ok (.if_icmp .eq 10, 3) := dk_159 0 10 (dk_at dksX3_settle_4 0 rfl rfl)
theorem dX3_settle_99 : decode cX3_settle 99 = .ok (.iload_n 3, 1) := dk_29 (dk_at dksX3_settle_4 3 rfl rfl)
theorem dX3_settle_100 : decode cX3_settle 100 = .ok (.iconst 1, 1) := dk_4 (dk_at dksX3_settle_4 4 rfl rfl)
theorem dX3_settle_101 : decode cX3_settle 101 = .ok (.iload 4, 2) := dk_21 4 (dk_at dksX3_settle_4 5 rfl rfl)
theorem dX3_settle_103 : decode cX3_settle 103 = .ok (.ishl, 1) := dk_120 (dk_at dksX3_settle_4 7 rfl rfl)
theorem dX3_settle_104 : decode cX3_settle 104 = .ok (.ior, 1) := dk_128 (dk_at dksX3_settle_4 8 rfl rfl)
theorem dX3_settle_105 : decode cX3_settle 105 = .ok (.istore_n 3, 1) := dk_62 (dk_at dksX3_settle_4 9 rfl rfl)
theorem dX3_settle_106 : decode cX3_settle 106 = .ok (.iinc 4 1, 3) := dk_132 4 1 (dk_at dksX3_settle_4 10 rfl rfl)
theorem dX3_settle_109 : decode cX3_settle 109 = .ok (.goto (-39), 3) := dk_167 255 217 (dk_at dksX3_settle_4 13 rfl rfl)
theorem dX3_settle_112 : decode cX3_settle 112 = .ok (.iconst 0, 1) := dk_3 (dk_at dksX3_settle_4 16 rfl rfl)
theorem dX3_settle_113 : decode cX3_settle 113 = .ok (.istore 4, 2) := dk_54 4 (dk_at dksX3_settle_4 17 rfl rfl)
theorem dX3_settle_115 : decode cX3_settle 115 = .ok (.iload 4, 2) := dk_21 4 (dk_at dksX3_settle_4 19 rfl rfl)
theorem dX3_settle_117 : decode cX3_settle 117 = .ok (.iconst 4, 1) := dk_7 (dk_at dksX3_settle_4 21 rfl rfl)
theorem dX3_settle_118 : decode cX3_settle 118 = .ok (.if_icmp .ge 30, 3) := dk_162 0 30 (dk_at dksX3_settle_5 0 rfl rfl)
theorem dX3_settle_121 : decode cX3_settle 121 = .ok (.iload_n 3, 1) := dk_29 (dk_at dksX3_settle_5 3 rfl rfl)
theorem dX3_settle_122 : decode cX3_settle 122 = .ok (.iload 4, 2) := dk_21 4 (dk_at dksX3_settle_5 4 rfl rfl)
theorem dX3_settle_124 : decode cX3_settle 124 = .ok (.ishr, 1) := dk_122 (dk_at dksX3_settle_5 6 rfl rfl)
theorem dX3_settle_125 : decode cX3_settle 125 = .ok (.iconst 1, 1) := dk_4 (dk_at dksX3_settle_5 7 rfl rfl)
theorem dX3_settle_126 : decode cX3_settle 126 = .ok (.iand, 1) := dk_126 (dk_at dksX3_settle_5 8 rfl rfl)
theorem dX3_settle_127 : decode cX3_settle 127 = .ok (.iconst 1, 1) := dk_4 (dk_at dksX3_settle_5 9 rfl rfl)
theorem dX3_settle_128 : decode cX3_settle 128 = .ok (.if_icmp .ne 14, 3) := dk_160 0 14 (dk_at dksX3_settle_5 10 rfl rfl)
theorem dX3_settle_131 : decode cX3_settle 131 = .ok (.aload_n 0, 1) := dk_42 (dk_at dksX3_settle_5 13 rfl rfl)
theorem dX3_settle_132 : decode cX3_settle 132 = .ok (.getfield 15, 3) := dk_180 0 15 (dk_at dksX3_settle_5 14 rfl rfl)
theorem dX3_settle_135 : decode cX3_settle 135 = .ok (.bipush 61, 2) := dk_16 61 (dk_at dksX3_settle_5 17 rfl rfl)
theorem dX3_settle_137 : decode cX3_settle 137 = .ok (.iload 4, 2) := dk_21 4 (dk_at dksX3_settle_5 19 rfl rfl)
theorem dX3_settle_139 : decode cX3_settle 139 = .ok (.iadd, 1) := dk_96 (dk_at dksX3_settle_5 21 rfl rfl)
theorem dX3_settle_140 : decode cX3_settle 140 = .ok (.iconst 1, 1) := dk_4 (dk_at dksX3_settle_5 22 rfl rfl)
theorem dX3_settle_141 : decode cX3_settle 141 = .ok (.iastore, 1) := dk_79 (dk_at dksX3_settle_5 23 rfl rfl)
theorem dX3_settle_142 : decode cX3_settle 142 = .ok (.iinc 4 1, 3) := dk_132 4 1 (dk_at dksX3_settle_6 0 rfl rfl)
theorem dX3_settle_145 : decode cX3_settle 145 = .ok (.goto (-30), 3) := dk_167 255 226 (dk_at dksX3_settle_6 3 rfl rfl)
theorem dX3_settle_148 : decode cX3_settle 148 = .ok (.aload_n 0, 1) := dk_42 (dk_at dksX3_settle_6 6 rfl rfl)
theorem dX3_settle_149 : decode cX3_settle 149 = .ok (.invokevirtual 80, 3) := dk_182 0 80 (dk_at dksX3_settle_6 7 rfl rfl)
theorem dX3_settle_152 : decode cX3_settle 152 = .ok (.ifCond .ne 5, 3) := dk_154 0 5 (dk_at dksX3_settle_6 10 rfl rfl)
theorem dX3_settle_155 : decode cX3_settle 155 = .ok (.iconst 0, 1) := dk_3 (dk_at dksX3_settle_6 13 rfl rfl)
theorem dX3_settle_156 : decode cX3_settle 156 = .ok (.ireturn, 1) := dk_172 (dk_at dksX3_settle_6 14 rfl rfl)
theorem dX3_settle_157 : decode cX3_settle 157 = .ok (.aload_n 0, 1) := dk_42 (dk_at dksX3_settle_6 15 rfl rfl)
theorem dX3_settle_158 : decode cX3_settle 158 = .ok (.getfield 63, 3) := dk_180 0 63 (dk_at dksX3_settle_6 16 rfl rfl)
theorem dX3_settle_161 : decode cX3_settle 161 = .ok (.iconst 2, 1) := dk_5 (dk_at dksX3_settle_6 19 rfl rfl)
theorem dX3_settle_162 : decode cX3_settle 162 = .ok (.putfield 91, 3) := dk_181 0 91 (dk_at dksX3_settle_6 20 rfl rfl)
theorem dX3_settle_165 : decode cX3_settle 165 = .ok (.aload_n 0, 1) := dk_42 (dk_at dksX3_settle_6 23 rfl rfl)
theorem dX3_settle_166 : decode cX3_settle 166 = .ok (.getfield 63, 3) := dk_180 0 63 (dk_at dksX3_settle_7 0 rfl rfl)
theorem dX3_settle_169 : decode cX3_settle 169 = .ok (.aload_n 0, 1) := dk_42 (dk_at dksX3_settle_7 3 rfl rfl)
theorem dX3_settle_170 : decode cX3_settle 170 = .ok (.getfield 57, 3) := dk_180 0 57 (dk_at dksX3_settle_7 4 rfl rfl)
theorem dX3_settle_173 : decode cX3_settle 173 = .ok (.putfield 94, 3) := dk_181 0 94 (dk_at dksX3_settle_7 7 rfl rfl)
theorem dX3_settle_176 : decode cX3_settle 176 = .ok (.aload_n 0, 1) := dk_42 (dk_at dksX3_settle_7 10 rfl rfl)
theorem dX3_settle_177 : decode cX3_settle 177 = .ok (.getfield 63, 3) := dk_180 0 63 (dk_at dksX3_settle_7 11 rfl rfl)
theorem dX3_settle_180 : decode cX3_settle 180 = .ok (.aload_n 0, 1) := dk_42 (dk_at dksX3_settle_7 14 rfl rfl)
theorem dX3_settle_181 : decode cX3_settle 181 = .ok (.getfield 60, 3) := dk_180 0 60 (dk_at dksX3_settle_7 15 rfl rfl)
theorem dX3_settle_184 : decode cX3_settle 184 = .ok (.putfield 95, 3) := dk_181 0 95 (dk_at dksX3_settle_7 18 rfl rfl)
theorem dX3_settle_187 : decode cX3_settle 187 = .ok (.iconst 1, 1) := dk_4 (dk_at dksX3_settle_7 21 rfl rfl)
theorem dX3_settle_188 : decode cX3_settle 188 = .ok (.ireturn, 1) := dk_172 (dk_at dksX3_settle_7 22 rfl rfl)
abbrev cX3_joinNets : ByteArray := prog_7_method_4_code
def yX3_joinNets : MethodName := ⟨RX3, "joinNets", "()V"⟩
def dkwX3_joinNets_5 : List UInt8 := [167, 255, 211, 177]
abbrev dktX3_joinNets_5 : List UInt8 := dkwX3_joinNets_5 ++ []
def dkwX3_joinNets_4 : List UInt8 := [160, 0, 11, 17, 0, 205, 27, 96, 167, 0, 8, 17, 0, 193, 27, 96, 182, 0, 44, 132, 1, 1]
abbrev dktX3_joinNets_4 : List UInt8 := dkwX3_joinNets_4 ++ dktX3_joinNets_5
def dkwX3_joinNets_3 : List UInt8 := [60, 27, 16, 12, 162, 0, 45, 42, 17, 0, 181, 27, 96, 42, 180, 0, 48, 27, 6, 108, 122, 4, 126, 4]
abbrev dktX3_joinNets_3 : List UInt8 := dkwX3_joinNets_3 ++ dktX3_joinNets_4
def dkwX3_joinNets_2 : List UInt8 := [180, 0, 38, 27, 46, 42, 180, 0, 25, 180, 0, 41, 27, 46, 182, 0, 44, 132, 1, 1, 167, 255, 212, 3]
abbrev dktX3_joinNets_2 : List UInt8 := dkwX3_joinNets_2 ++ dktX3_joinNets_3
def dkwX3_joinNets_1 : List UInt8 := [27, 42, 180, 0, 25, 180, 0, 29, 162, 0, 39, 27, 42, 180, 0, 35, 159, 0, 25, 42, 42, 180, 0, 25]
abbrev dktX3_joinNets_1 : List UInt8 := dkwX3_joinNets_1 ++ dktX3_joinNets_2
def dkwX3_joinNets_0 : List UInt8 := [3, 60, 27, 17, 0, 217, 162, 0, 16, 42, 180, 0, 9, 27, 27, 79, 132, 1, 1, 167, 255, 239, 3, 60]
abbrev dktX3_joinNets_0 : List UInt8 := dkwX3_joinNets_0 ++ dktX3_joinNets_1
theorem dksX3_joinNets_0 : cX3_joinNets.data.toList.drop 0 = dktX3_joinNets_0 := by decide +kernel
theorem dksX3_joinNets_1 : cX3_joinNets.data.toList.drop 24 = dktX3_joinNets_1 := dk_seg dksX3_joinNets_0 24 rfl rfl
theorem dksX3_joinNets_2 : cX3_joinNets.data.toList.drop 48 = dktX3_joinNets_2 := dk_seg dksX3_joinNets_1 24 rfl rfl
theorem dksX3_joinNets_3 : cX3_joinNets.data.toList.drop 72 = dktX3_joinNets_3 := dk_seg dksX3_joinNets_2 24 rfl rfl
theorem dksX3_joinNets_4 : cX3_joinNets.data.toList.drop 96 = dktX3_joinNets_4 := dk_seg dksX3_joinNets_3 24 rfl rfl
theorem dksX3_joinNets_5 : cX3_joinNets.data.toList.drop 118 = dktX3_joinNets_5 := dk_seg dksX3_joinNets_4 22 rfl rfl
theorem dX3_joinNets_0 : decode cX3_joinNets 0 = .ok (.iconst 0, 1) := dk_3 (dk_at dksX3_joinNets_0 0 rfl rfl)
theorem dX3_joinNets_1 : decode cX3_joinNets 1 = .ok (.istore_n 1, 1) := dk_60 (dk_at dksX3_joinNets_0 1 rfl rfl)
theorem dX3_joinNets_2 : decode cX3_joinNets 2 = .ok (.iload_n 1, 1) := dk_27 (dk_at dksX3_joinNets_0 2 rfl rfl)
theorem dX3_joinNets_3 : decode cX3_joinNets 3 = .ok (.sipush 217, 3) := dk_17 0 217 (dk_at dksX3_joinNets_0 3 rfl rfl)
theorem dX3_joinNets_6 : decode cX3_joinNets 6 = .ok (.if_icmp .ge 16, 3) := dk_162 0 16 (dk_at dksX3_joinNets_0 6 rfl rfl)
theorem dX3_joinNets_9 : decode cX3_joinNets 9 = .ok (.aload_n 0, 1) := dk_42 (dk_at dksX3_joinNets_0 9 rfl rfl)
theorem dX3_joinNets_10 : decode cX3_joinNets 10 = .ok (.getfield 9, 3) := dk_180 0 9 (dk_at dksX3_joinNets_0 10 rfl rfl)
theorem dX3_joinNets_13 : decode cX3_joinNets 13 = .ok (.iload_n 1, 1) := dk_27 (dk_at dksX3_joinNets_0 13 rfl rfl)
theorem dX3_joinNets_14 : decode cX3_joinNets 14 = .ok (.iload_n 1, 1) := dk_27 (dk_at dksX3_joinNets_0 14 rfl rfl)
theorem dX3_joinNets_15 : decode cX3_joinNets 15 = .ok (.iastore, 1) := dk_79 (dk_at dksX3_joinNets_0 15 rfl rfl)
theorem dX3_joinNets_16 : decode cX3_joinNets 16 = .ok (.iinc 1 1, 3) := dk_132 1 1 (dk_at dksX3_joinNets_0 16 rfl rfl)
theorem dX3_joinNets_19 : decode cX3_joinNets 19 = .ok (.goto (-17), 3) := dk_167 255 239 (dk_at dksX3_joinNets_0 19 rfl rfl)
theorem dX3_joinNets_22 : decode cX3_joinNets 22 = .ok (.iconst 0, 1) := dk_3 (dk_at dksX3_joinNets_0 22 rfl rfl)
theorem dX3_joinNets_23 : decode cX3_joinNets 23 = .ok (.istore_n 1, 1) := dk_60 (dk_at dksX3_joinNets_0 23 rfl rfl)
theorem dX3_joinNets_24 : decode cX3_joinNets 24 = .ok (.iload_n 1, 1) := dk_27 (dk_at dksX3_joinNets_1 0 rfl rfl)
theorem dX3_joinNets_25 : decode cX3_joinNets 25 = .ok (.aload_n 0, 1) := dk_42 (dk_at dksX3_joinNets_1 1 rfl rfl)
theorem dX3_joinNets_26 : decode cX3_joinNets 26 = .ok (.getfield 25, 3) := dk_180 0 25 (dk_at dksX3_joinNets_1 2 rfl rfl)
theorem dX3_joinNets_29 : decode cX3_joinNets 29 = .ok (.getfield 29, 3) := dk_180 0 29 (dk_at dksX3_joinNets_1 5 rfl rfl)
theorem dX3_joinNets_32 : decode cX3_joinNets 32 = .ok (.if_icmp .ge 39, 3) := dk_162 0 39 (dk_at dksX3_joinNets_1 8 rfl rfl)
theorem dX3_joinNets_35 : decode cX3_joinNets 35 = .ok (.iload_n 1, 1) := dk_27 (dk_at dksX3_joinNets_1 11 rfl rfl)
theorem dX3_joinNets_36 : decode cX3_joinNets 36 = .ok (.aload_n 0, 1) := dk_42 (dk_at dksX3_joinNets_1 12 rfl rfl)
theorem dX3_joinNets_37 : decode cX3_joinNets 37 = .ok (.getfield 35, 3) := dk_180 0 35 (dk_at dksX3_joinNets_1 13 rfl rfl)
theorem dX3_joinNets_40 : decode cX3_joinNets 40 = .ok (.if_icmp .eq 25, 3) := dk_159 0 25 (dk_at dksX3_joinNets_1 16 rfl rfl)
theorem dX3_joinNets_43 : decode cX3_joinNets 43 = .ok (.aload_n 0, 1) := dk_42 (dk_at dksX3_joinNets_1 19 rfl rfl)
theorem dX3_joinNets_44 : decode cX3_joinNets 44 = .ok (.aload_n 0, 1) := dk_42 (dk_at dksX3_joinNets_1 20 rfl rfl)
theorem dX3_joinNets_45 : decode cX3_joinNets 45 = .ok (.getfield 25, 3) := dk_180 0 25 (dk_at dksX3_joinNets_1 21 rfl rfl)
theorem dX3_joinNets_48 : decode cX3_joinNets 48 = .ok (.getfield 38, 3) := dk_180 0 38 (dk_at dksX3_joinNets_2 0 rfl rfl)
theorem dX3_joinNets_51 : decode cX3_joinNets 51 = .ok (.iload_n 1, 1) := dk_27 (dk_at dksX3_joinNets_2 3 rfl rfl)
theorem dX3_joinNets_52 : decode cX3_joinNets 52 = .ok (.iaload, 1) := dk_46 (dk_at dksX3_joinNets_2 4 rfl rfl)
theorem dX3_joinNets_53 : decode cX3_joinNets 53 = .ok (.aload_n 0, 1) := dk_42 (dk_at dksX3_joinNets_2 5 rfl rfl)
theorem dX3_joinNets_54 : decode cX3_joinNets 54 = .ok (.getfield 25, 3) := dk_180 0 25 (dk_at dksX3_joinNets_2 6 rfl rfl)
theorem dX3_joinNets_57 : decode cX3_joinNets 57 = .ok (.getfield 41, 3) := dk_180 0 41 (dk_at dksX3_joinNets_2 9 rfl rfl)
theorem dX3_joinNets_60 : decode cX3_joinNets 60 = .ok (.iload_n 1, 1) := dk_27 (dk_at dksX3_joinNets_2 12 rfl rfl)
theorem dX3_joinNets_61 : decode cX3_joinNets 61 = .ok (.iaload, 1) := dk_46 (dk_at dksX3_joinNets_2 13 rfl rfl)
theorem dX3_joinNets_62 : decode cX3_joinNets 62 = .ok (.invokevirtual 44, 3) := dk_182 0 44 (dk_at dksX3_joinNets_2 14 rfl rfl)
theorem dX3_joinNets_65 : decode cX3_joinNets 65 = .ok (.iinc 1 1, 3) := dk_132 1 1 (dk_at dksX3_joinNets_2 17 rfl rfl)
theorem dX3_joinNets_68 : decode cX3_joinNets 68 = .ok (.goto (-44), 3) := dk_167 255 212 (dk_at dksX3_joinNets_2 20 rfl rfl)
theorem dX3_joinNets_71 : decode cX3_joinNets 71 = .ok (.iconst 0, 1) := dk_3 (dk_at dksX3_joinNets_2 23 rfl rfl)
theorem dX3_joinNets_72 : decode cX3_joinNets 72 = .ok (.istore_n 1, 1) := dk_60 (dk_at dksX3_joinNets_3 0 rfl rfl)
theorem dX3_joinNets_73 : decode cX3_joinNets 73 = .ok (.iload_n 1, 1) := dk_27 (dk_at dksX3_joinNets_3 1 rfl rfl)
theorem dX3_joinNets_74 : decode cX3_joinNets 74 = .ok (.bipush 12, 2) := dk_16 12 (dk_at dksX3_joinNets_3 2 rfl rfl)
theorem dX3_joinNets_76 : decode cX3_joinNets 76 = .ok (.if_icmp .ge 45, 3) := dk_162 0 45 (dk_at dksX3_joinNets_3 4 rfl rfl)
theorem dX3_joinNets_79 : decode cX3_joinNets 79 = .ok (.aload_n 0, 1) := dk_42 (dk_at dksX3_joinNets_3 7 rfl rfl)
theorem dX3_joinNets_80 : decode cX3_joinNets 80 = .ok (.sipush 181, 3) := dk_17 0 181 (dk_at dksX3_joinNets_3 8 rfl rfl)
theorem dX3_joinNets_83 : decode cX3_joinNets 83 = .ok (.iload_n 1, 1) := dk_27 (dk_at dksX3_joinNets_3 11 rfl rfl)
theorem dX3_joinNets_84 : decode cX3_joinNets 84 = .ok (.iadd, 1) := dk_96 (dk_at dksX3_joinNets_3 12 rfl rfl)
theorem dX3_joinNets_85 : decode cX3_joinNets 85 = .ok (.aload_n 0, 1) := dk_42 (dk_at dksX3_joinNets_3 13 rfl rfl)
theorem dX3_joinNets_86 : decode cX3_joinNets 86 = .ok (.getfield 48, 3) := dk_180 0 48 (dk_at dksX3_joinNets_3 14 rfl rfl)
theorem dX3_joinNets_89 : decode cX3_joinNets 89 = .ok (.iload_n 1, 1) := dk_27 (dk_at dksX3_joinNets_3 17 rfl rfl)
theorem dX3_joinNets_90 : decode cX3_joinNets 90 = .ok (.iconst 3, 1) := dk_6 (dk_at dksX3_joinNets_3 18 rfl rfl)
theorem dX3_joinNets_91 : decode cX3_joinNets 91 = .ok (.idiv, 1) := dk_108 (dk_at dksX3_joinNets_3 19 rfl rfl)
theorem dX3_joinNets_92 : decode cX3_joinNets 92 = .ok (.ishr, 1) := dk_122 (dk_at dksX3_joinNets_3 20 rfl rfl)
theorem dX3_joinNets_93 : decode cX3_joinNets 93 = .ok (.iconst 1, 1) := dk_4 (dk_at dksX3_joinNets_3 21 rfl rfl)
theorem dX3_joinNets_94 : decode cX3_joinNets 94 = .ok (.iand, 1) := dk_126 (dk_at dksX3_joinNets_3 22 rfl rfl)
theorem dX3_joinNets_95 : decode cX3_joinNets 95 = .ok (.iconst 1, 1) := dk_4 (dk_at dksX3_joinNets_3 23 rfl rfl)
theorem dX3_joinNets_96 : decode cX3_joinNets 96 = .ok (.if_icmp .ne 11, 3) := dk_160 0 11 (dk_at dksX3_joinNets_4 0 rfl rfl)
theorem dX3_joinNets_99 : decode cX3_joinNets 99 = .ok (.sipush 205, 3) := dk_17 0 205 (dk_at dksX3_joinNets_4 3 rfl rfl)
theorem dX3_joinNets_102 : decode cX3_joinNets 102 = .ok (.iload_n 1, 1) := dk_27 (dk_at dksX3_joinNets_4 6 rfl rfl)
theorem dX3_joinNets_103 : decode cX3_joinNets 103 = .ok (.iadd, 1) := dk_96 (dk_at dksX3_joinNets_4 7 rfl rfl)
theorem dX3_joinNets_104 : decode cX3_joinNets 104 = .ok (.goto 8, 3) := dk_167 0 8 (dk_at dksX3_joinNets_4 8 rfl rfl)
theorem dX3_joinNets_107 : decode cX3_joinNets 107 = .ok (.sipush 193, 3) := dk_17 0 193 (dk_at dksX3_joinNets_4 11 rfl rfl)
theorem dX3_joinNets_110 : decode cX3_joinNets 110 = .ok (.iload_n 1, 1) := dk_27 (dk_at dksX3_joinNets_4 14 rfl rfl)
theorem dX3_joinNets_111 : decode cX3_joinNets 111 = .ok (.iadd, 1) := dk_96 (dk_at dksX3_joinNets_4 15 rfl rfl)
theorem dX3_joinNets_112 : decode cX3_joinNets 112 = .ok (.invokevirtual 44, 3) := dk_182 0 44 (dk_at dksX3_joinNets_4 16 rfl rfl)
theorem dX3_joinNets_115 : decode cX3_joinNets 115 = .ok (.iinc 1 1, 3) := dk_132 1 1 (dk_at dksX3_joinNets_4 19 rfl rfl)
theorem dX3_joinNets_118 : decode cX3_joinNets 118 = .ok (.goto (-45), 3) := dk_167 255 211 (dk_at dksX3_joinNets_5 0 rfl rfl)
theorem dX3_joinNets_121 : decode cX3_joinNets 121 = .ok (.return_, 1) := dk_177 (dk_at dksX3_joinNets_5 3 rfl rfl)
abbrev cX3_join : ByteArray := prog_7_method_3_code
def yX3_join : MethodName := ⟨RX3, "join", "(II)V"⟩
def dkwX3_join_0 : List UInt8 := [42, 180, 0, 9, 42, 27, 182, 0, 21, 42, 28, 182, 0, 21, 79, 177]
abbrev dktX3_join_0 : List UInt8 := dkwX3_join_0 ++ []
theorem dksX3_join_0 : cX3_join.data.toList.drop 0 = dktX3_join_0 := by decide +kernel
theorem dX3_join_0 : decode cX3_join 0 = .ok (.aload_n 0, 1) := dk_42 (dk_at dksX3_join_0 0 rfl rfl)
theorem dX3_join_1 : decode cX3_join 1 = .ok (.getfield 9, 3) := dk_180 0 9 (dk_at dksX3_join_0 1 rfl rfl)
theorem dX3_join_4 : decode cX3_join 4 = .ok (.aload_n 0, 1) := dk_42 (dk_at dksX3_join_0 4 rfl rfl)
theorem dX3_join_5 : decode cX3_join 5 = .ok (.iload_n 1, 1) := dk_27 (dk_at dksX3_join_0 5 rfl rfl)
theorem dX3_join_6 : decode cX3_join 6 = .ok (.invokevirtual 21, 3) := dk_182 0 21 (dk_at dksX3_join_0 6 rfl rfl)
theorem dX3_join_9 : decode cX3_join 9 = .ok (.aload_n 0, 1) := dk_42 (dk_at dksX3_join_0 9 rfl rfl)
theorem dX3_join_10 : decode cX3_join 10 = .ok (.iload_n 2, 1) := dk_28 (dk_at dksX3_join_0 10 rfl rfl)
theorem dX3_join_11 : decode cX3_join 11 = .ok (.invokevirtual 21, 3) := dk_182 0 21 (dk_at dksX3_join_0 11 rfl rfl)
theorem dX3_join_14 : decode cX3_join 14 = .ok (.iastore, 1) := dk_79 (dk_at dksX3_join_0 14 rfl rfl)
theorem dX3_join_15 : decode cX3_join 15 = .ok (.return_, 1) := dk_177 (dk_at dksX3_join_0 15 rfl rfl)
abbrev cX3_root : ByteArray := prog_7_method_2_code
def yX3_root : MethodName := ⟨RX3, "root", "(I)I"⟩
def dkwX3_root_1 : List UInt8 := [180, 0, 9, 28, 46, 46, 79, 42, 180, 0, 9, 28, 46, 61, 167, 255, 222, 28, 172]
abbrev dktX3_root_1 : List UInt8 := dkwX3_root_1 ++ []
def dkwX3_root_0 : List UInt8 := [27, 61, 42, 180, 0, 9, 28, 46, 28, 159, 0, 30, 42, 180, 0, 9, 28, 42, 180, 0, 9, 42]
abbrev dktX3_root_0 : List UInt8 := dkwX3_root_0 ++ dktX3_root_1
theorem dksX3_root_0 : cX3_root.data.toList.drop 0 = dktX3_root_0 := by decide +kernel
theorem dksX3_root_1 : cX3_root.data.toList.drop 22 = dktX3_root_1 := dk_seg dksX3_root_0 22 rfl rfl
theorem dX3_root_0 : decode cX3_root 0 = .ok (.iload_n 1, 1) := dk_27 (dk_at dksX3_root_0 0 rfl rfl)
theorem dX3_root_1 : decode cX3_root 1 = .ok (.istore_n 2, 1) := dk_61 (dk_at dksX3_root_0 1 rfl rfl)
theorem dX3_root_2 : decode cX3_root 2 = .ok (.aload_n 0, 1) := dk_42 (dk_at dksX3_root_0 2 rfl rfl)
theorem dX3_root_3 : decode cX3_root 3 = .ok (.getfield 9, 3) := dk_180 0 9 (dk_at dksX3_root_0 3 rfl rfl)
theorem dX3_root_6 : decode cX3_root 6 = .ok (.iload_n 2, 1) := dk_28 (dk_at dksX3_root_0 6 rfl rfl)
theorem dX3_root_7 : decode cX3_root 7 = .ok (.iaload, 1) := dk_46 (dk_at dksX3_root_0 7 rfl rfl)
theorem dX3_root_8 : decode cX3_root 8 = .ok (.iload_n 2, 1) := dk_28 (dk_at dksX3_root_0 8 rfl rfl)
theorem dX3_root_9 : decode cX3_root 9 = .ok (.if_icmp .eq 30, 3) := dk_159 0 30 (dk_at dksX3_root_0 9 rfl rfl)
theorem dX3_root_12 : decode cX3_root 12 = .ok (.aload_n 0, 1) := dk_42 (dk_at dksX3_root_0 12 rfl rfl)
theorem dX3_root_13 : decode cX3_root 13 = .ok (.getfield 9, 3) := dk_180 0 9 (dk_at dksX3_root_0 13 rfl rfl)
theorem dX3_root_16 : decode cX3_root 16 = .ok (.iload_n 2, 1) := dk_28 (dk_at dksX3_root_0 16 rfl rfl)
theorem dX3_root_17 : decode cX3_root 17 = .ok (.aload_n 0, 1) := dk_42 (dk_at dksX3_root_0 17 rfl rfl)
theorem dX3_root_18 : decode cX3_root 18 = .ok (.getfield 9, 3) := dk_180 0 9 (dk_at dksX3_root_0 18 rfl rfl)
theorem dX3_root_21 : decode cX3_root 21 = .ok (.aload_n 0, 1) := dk_42 (dk_at dksX3_root_0 21 rfl rfl)
theorem dX3_root_22 : decode cX3_root 22 = .ok (.getfield 9, 3) := dk_180 0 9 (dk_at dksX3_root_1 0 rfl rfl)
theorem dX3_root_25 : decode cX3_root 25 = .ok (.iload_n 2, 1) := dk_28 (dk_at dksX3_root_1 3 rfl rfl)
theorem dX3_root_26 : decode cX3_root 26 = .ok (.iaload, 1) := dk_46 (dk_at dksX3_root_1 4 rfl rfl)
theorem dX3_root_27 : decode cX3_root 27 = .ok (.iaload, 1) := dk_46 (dk_at dksX3_root_1 5 rfl rfl)
theorem dX3_root_28 : decode cX3_root 28 = .ok (.iastore, 1) := dk_79 (dk_at dksX3_root_1 6 rfl rfl)
theorem dX3_root_29 : decode cX3_root 29 = .ok (.aload_n 0, 1) := dk_42 (dk_at dksX3_root_1 7 rfl rfl)
theorem dX3_root_30 : decode cX3_root 30 = .ok (.getfield 9, 3) := dk_180 0 9 (dk_at dksX3_root_1 8 rfl rfl)
theorem dX3_root_33 : decode cX3_root 33 = .ok (.iload_n 2, 1) := dk_28 (dk_at dksX3_root_1 11 rfl rfl)
theorem dX3_root_34 : decode cX3_root 34 = .ok (.iaload, 1) := dk_46 (dk_at dksX3_root_1 12 rfl rfl)
theorem dX3_root_35 : decode cX3_root 35 = .ok (.istore_n 2, 1) := dk_61 (dk_at dksX3_root_1 13 rfl rfl)
theorem dX3_root_36 : decode cX3_root 36 = .ok (.goto (-34), 3) := dk_167 255 222 (dk_at dksX3_root_1 14 rfl rfl)
theorem dX3_root_39 : decode cX3_root 39 = .ok (.iload_n 2, 1) := dk_28 (dk_at dksX3_root_1 17 rfl rfl)
theorem dX3_root_40 : decode cX3_root 40 = .ok (.ireturn, 1) := dk_172 (dk_at dksX3_root_1 18 rfl rfl)
abbrev cX3_seek : ByteArray := prog_7_method_5_code
def yX3_seek : MethodName := ⟨RX3, "seek", "()Z"⟩
def dkwX3_seek_5 : List UInt8 := [167, 0, 4, 3, 172]
abbrev dktX3_seek_5 : List UInt8 := dkwX3_seek_5 ++ []
def dkwX3_seek_4 : List UInt8 := [160, 0, 7, 2, 167, 0, 4, 27, 181, 0, 57, 42, 28, 181, 0, 60, 28, 2, 159, 0, 7, 4]
abbrev dktX3_seek_4 : List UInt8 := dkwX3_seek_4 ++ dktX3_seek_5
def dkwX3_seek_3 : List UInt8 := [162, 0, 13, 42, 180, 0, 18, 21, 4, 46, 60, 29, 61, 132, 3, 1, 167, 255, 185, 42, 28, 2]
abbrev dktX3_seek_3 : List UInt8 := dkwX3_seek_3 ++ dktX3_seek_4
def dkwX3_seek_2 : List UInt8 := [46, 2, 160, 0, 14, 42, 180, 0, 18, 21, 4, 29, 79, 167, 0, 24, 42, 180, 0, 18, 21, 4, 46, 27]
abbrev dktX3_seek_2 : List UInt8 := dkwX3_seek_2 ++ dktX3_seek_3
def dkwX3_seek_1 : List UInt8 := [180, 0, 15, 29, 46, 156, 0, 6, 167, 0, 53, 42, 29, 182, 0, 21, 54, 4, 42, 180, 0, 18, 21, 4]
abbrev dktX3_seek_1 : List UInt8 := dkwX3_seek_1 ++ dktX3_seek_2
def dkwX3_seek_0 : List UInt8 := [42, 180, 0, 18, 2, 184, 0, 51, 16, 96, 60, 2, 61, 3, 62, 29, 16, 96, 162, 0, 71, 42]
abbrev dktX3_seek_0 : List UInt8 := dkwX3_seek_0 ++ dktX3_seek_1
theorem dksX3_seek_0 : cX3_seek.data.toList.drop 0 = dktX3_seek_0 := by decide +kernel
theorem dksX3_seek_1 : cX3_seek.data.toList.drop 22 = dktX3_seek_1 := dk_seg dksX3_seek_0 22 rfl rfl
theorem dksX3_seek_2 : cX3_seek.data.toList.drop 46 = dktX3_seek_2 := dk_seg dksX3_seek_1 24 rfl rfl
theorem dksX3_seek_3 : cX3_seek.data.toList.drop 70 = dktX3_seek_3 := dk_seg dksX3_seek_2 24 rfl rfl
theorem dksX3_seek_4 : cX3_seek.data.toList.drop 92 = dktX3_seek_4 := dk_seg dksX3_seek_3 22 rfl rfl
theorem dksX3_seek_5 : cX3_seek.data.toList.drop 114 = dktX3_seek_5 := dk_seg dksX3_seek_4 22 rfl rfl
theorem dX3_seek_0 : decode cX3_seek 0 = .ok (.aload_n 0, 1) := dk_42 (dk_at dksX3_seek_0 0 rfl rfl)
theorem dX3_seek_1 : decode cX3_seek 1 = .ok (.getfield 18, 3) := dk_180 0 18 (dk_at dksX3_seek_0 1 rfl rfl)
theorem dX3_seek_4 : decode cX3_seek 4 = .ok (.iconst (-1), 1) := dk_2 (dk_at dksX3_seek_0 4 rfl rfl)
theorem dX3_seek_5 : decode cX3_seek 5 = .ok (.invokestatic 51, 3) := dk_184 0 51 (dk_at dksX3_seek_0 5 rfl rfl)
theorem dX3_seek_8 : decode cX3_seek 8 = .ok (.bipush 96, 2) := dk_16 96 (dk_at dksX3_seek_0 8 rfl rfl)
theorem dX3_seek_10 : decode cX3_seek 10 = .ok (.istore_n 1, 1) := dk_60 (dk_at dksX3_seek_0 10 rfl rfl)
theorem dX3_seek_11 : decode cX3_seek 11 = .ok (.iconst (-1), 1) := dk_2 (dk_at dksX3_seek_0 11 rfl rfl)
theorem dX3_seek_12 : decode cX3_seek 12 = .ok (.istore_n 2, 1) := dk_61 (dk_at dksX3_seek_0 12 rfl rfl)
theorem dX3_seek_13 : decode cX3_seek 13 = .ok (.iconst 0, 1) := dk_3 (dk_at dksX3_seek_0 13 rfl rfl)
theorem dX3_seek_14 : decode cX3_seek 14 = .ok (.istore_n 3, 1) := dk_62 (dk_at dksX3_seek_0 14 rfl rfl)
theorem dX3_seek_15 : decode cX3_seek 15 = .ok (.iload_n 3, 1) := dk_29 (dk_at dksX3_seek_0 15 rfl rfl)
theorem dX3_seek_16 : decode cX3_seek 16 = .ok (.bipush 96, 2) := dk_16 96 (dk_at dksX3_seek_0 16 rfl rfl)
theorem dX3_seek_18 : decode cX3_seek 18 = .ok (.if_icmp .ge 71, 3) := dk_162 0 71 (dk_at dksX3_seek_0 18 rfl rfl)
theorem dX3_seek_21 : decode cX3_seek 21 = .ok (.aload_n 0, 1) := dk_42 (dk_at dksX3_seek_0 21 rfl rfl)
theorem dX3_seek_22 : decode cX3_seek 22 = .ok (.getfield 15, 3) := dk_180 0 15 (dk_at dksX3_seek_1 0 rfl rfl)
theorem dX3_seek_25 : decode cX3_seek 25 = .ok (.iload_n 3, 1) := dk_29 (dk_at dksX3_seek_1 3 rfl rfl)
theorem dX3_seek_26 : decode cX3_seek 26 = .ok (.iaload, 1) := dk_46 (dk_at dksX3_seek_1 4 rfl rfl)
theorem dX3_seek_27 : decode cX3_seek 27 = .ok (.ifCond .ge 6, 3) := dk_156 0 6 (dk_at dksX3_seek_1 5 rfl rfl)
theorem dX3_seek_30 : decode cX3_seek 30 = .ok (.goto 53, 3) := dk_167 0 53 (dk_at dksX3_seek_1 8 rfl rfl)
theorem dX3_seek_33 : decode cX3_seek 33 = .ok (.aload_n 0, 1) := dk_42 (dk_at dksX3_seek_1 11 rfl rfl)
theorem dX3_seek_34 : decode cX3_seek 34 = .ok (.iload_n 3, 1) := dk_29 (dk_at dksX3_seek_1 12 rfl rfl)
theorem dX3_seek_35 : decode cX3_seek 35 = .ok (.invokevirtual 21, 3) := dk_182 0 21 (dk_at dksX3_seek_1 13 rfl rfl)
theorem dX3_seek_38 : decode cX3_seek 38 = .ok (.istore 4, 2) := dk_54 4 (dk_at dksX3_seek_1 16 rfl rfl)
theorem dX3_seek_40 : decode cX3_seek 40 = .ok (.aload_n 0, 1) := dk_42 (dk_at dksX3_seek_1 18 rfl rfl)
theorem dX3_seek_41 : decode cX3_seek 41 = .ok (.getfield 18, 3) := dk_180 0 18 (dk_at dksX3_seek_1 19 rfl rfl)
theorem dX3_seek_44 : decode cX3_seek 44 = .ok (.iload 4, 2) := dk_21 4 (dk_at dksX3_seek_1 22 rfl rfl)
theorem dX3_seek_46 : decode cX3_seek 46 = .ok (.iaload, 1) := dk_46 (dk_at dksX3_seek_2 0 rfl rfl)
theorem dX3_seek_47 : decode cX3_seek 47 = .ok (.iconst (-1), 1) := dk_2 (dk_at dksX3_seek_2 1 rfl rfl)
theorem dX3_seek_48 : decode cX3_seek 48 = .ok (.if_icmp .ne 14, 3) := dk_160 0 14 (dk_at dksX3_seek_2 2 rfl rfl)
theorem dX3_seek_51 : decode cX3_seek 51 = .ok (.aload_n 0, 1) := dk_42 (dk_at dksX3_seek_2 5 rfl rfl)
theorem dX3_seek_52 : decode cX3_seek 52 = .ok (.getfield 18, 3) := dk_180 0 18 (dk_at dksX3_seek_2 6 rfl rfl)
theorem dX3_seek_55 : decode cX3_seek 55 = .ok (.iload 4, 2) := dk_21 4 (dk_at dksX3_seek_2 9 rfl rfl)
theorem dX3_seek_57 : decode cX3_seek 57 = .ok (.iload_n 3, 1) := dk_29 (dk_at dksX3_seek_2 11 rfl rfl)
theorem dX3_seek_58 : decode cX3_seek 58 = .ok (.iastore, 1) := dk_79 (dk_at dksX3_seek_2 12 rfl rfl)
theorem dX3_seek_59 : decode cX3_seek 59 = .ok (.goto 24, 3) := dk_167 0 24 (dk_at dksX3_seek_2 13 rfl rfl)
theorem dX3_seek_62 : decode cX3_seek 62 = .ok (.aload_n 0, 1) := dk_42 (dk_at dksX3_seek_2 16 rfl rfl)
theorem dX3_seek_63 : decode cX3_seek 63 = .ok (.getfield 18, 3) := dk_180 0 18 (dk_at dksX3_seek_2 17 rfl rfl)
theorem dX3_seek_66 : decode cX3_seek 66 = .ok (.iload 4, 2) := dk_21 4 (dk_at dksX3_seek_2 20 rfl rfl)
theorem dX3_seek_68 : decode cX3_seek 68 = .ok (.iaload, 1) := dk_46 (dk_at dksX3_seek_2 22 rfl rfl)
theorem dX3_seek_69 : decode cX3_seek 69 = .ok (.iload_n 1, 1) := dk_27 (dk_at dksX3_seek_2 23 rfl rfl)
theorem dX3_seek_70 : decode cX3_seek 70 = .ok (.if_icmp .ge 13, 3) := dk_162 0 13 (dk_at dksX3_seek_3 0 rfl rfl)
theorem dX3_seek_73 : decode cX3_seek 73 = .ok (.aload_n 0, 1) := dk_42 (dk_at dksX3_seek_3 3 rfl rfl)
theorem dX3_seek_74 : decode cX3_seek 74 = .ok (.getfield 18, 3) := dk_180 0 18 (dk_at dksX3_seek_3 4 rfl rfl)
theorem dX3_seek_77 : decode cX3_seek 77 = .ok (.iload 4, 2) := dk_21 4 (dk_at dksX3_seek_3 7 rfl rfl)
theorem dX3_seek_79 : decode cX3_seek 79 = .ok (.iaload, 1) := dk_46 (dk_at dksX3_seek_3 9 rfl rfl)
theorem dX3_seek_80 : decode cX3_seek 80 = .ok (.istore_n 1, 1) := dk_60 (dk_at dksX3_seek_3 10 rfl rfl)
theorem dX3_seek_81 : decode cX3_seek 81 = .ok (.iload_n 3, 1) := dk_29 (dk_at dksX3_seek_3 11 rfl rfl)
theorem dX3_seek_82 : decode cX3_seek 82 = .ok (.istore_n 2, 1) := dk_61 (dk_at dksX3_seek_3 12 rfl rfl)
theorem dX3_seek_83 : decode cX3_seek 83 = .ok (.iinc 3 1, 3) := dk_132 3 1 (dk_at dksX3_seek_3 13 rfl rfl)
theorem dX3_seek_86 : decode cX3_seek 86 = .ok (.goto (-71), 3) := dk_167 255 185 (dk_at dksX3_seek_3 16 rfl rfl)
theorem dX3_seek_89 : decode cX3_seek 89 = .ok (.aload_n 0, 1) := dk_42 (dk_at dksX3_seek_3 19 rfl rfl)
theorem dX3_seek_90 : decode cX3_seek 90 = .ok (.iload_n 2, 1) := dk_28 (dk_at dksX3_seek_3 20 rfl rfl)
theorem dX3_seek_91 : decode cX3_seek 91 = .ok (.iconst (-1), 1) := dk_2 (dk_at dksX3_seek_3 21 rfl rfl)
theorem dX3_seek_92 : decode cX3_seek 92 = .ok (.if_icmp .ne 7, 3) := dk_160 0 7 (dk_at dksX3_seek_4 0 rfl rfl)
theorem dX3_seek_95 : decode cX3_seek 95 = .ok (.iconst (-1), 1) := dk_2 (dk_at dksX3_seek_4 3 rfl rfl)
theorem dX3_seek_96 : decode cX3_seek 96 = .ok (.goto 4, 3) := dk_167 0 4 (dk_at dksX3_seek_4 4 rfl rfl)
theorem dX3_seek_99 : decode cX3_seek 99 = .ok (.iload_n 1, 1) := dk_27 (dk_at dksX3_seek_4 7 rfl rfl)
theorem dX3_seek_100 : decode cX3_seek 100 = .ok (.putfield 57, 3) := dk_181 0 57 (dk_at dksX3_seek_4 8 rfl rfl)
theorem dX3_seek_103 : decode cX3_seek 103 = .ok (.aload_n 0, 1) := dk_42 (dk_at dksX3_seek_4 11 rfl rfl)
theorem dX3_seek_104 : decode cX3_seek 104 = .ok (.iload_n 2, 1) := dk_28 (dk_at dksX3_seek_4 12 rfl rfl)
theorem dX3_seek_105 : decode cX3_seek 105 = .ok (.putfield 60, 3) := dk_181 0 60 (dk_at dksX3_seek_4 13 rfl rfl)
theorem dX3_seek_108 : decode cX3_seek 108 = .ok (.iload_n 2, 1) := dk_28 (dk_at dksX3_seek_4 16 rfl rfl)
theorem dX3_seek_109 : decode cX3_seek 109 = .ok (.iconst (-1), 1) := dk_2 (dk_at dksX3_seek_4 17 rfl rfl)
theorem dX3_seek_110 : decode cX3_seek 110 = .ok (.if_icmp .eq 7, 3) := dk_159 0 7 (dk_at dksX3_seek_4 18 rfl rfl)
theorem dX3_seek_113 : decode cX3_seek 113 = .ok (.iconst 1, 1) := dk_4 (dk_at dksX3_seek_4 21 rfl rfl)
theorem dX3_seek_114 : decode cX3_seek 114 = .ok (.goto 4, 3) := dk_167 0 4 (dk_at dksX3_seek_5 0 rfl rfl)
theorem dX3_seek_117 : decode cX3_seek 117 = .ok (.iconst 0, 1) := dk_3 (dk_at dksX3_seek_5 3 rfl rfl)
theorem dX3_seek_118 : decode cX3_seek 118 = .ok (.ireturn, 1) := dk_172 (dk_at dksX3_seek_5 4 rfl rfl)
abbrev cX3_takes : ByteArray := prog_7_method_7_code
def yX3_takes : MethodName := ⟨RX3, "takes", "(I)Z"⟩
def dkwX3_takes_0 : List UInt8 := [42, 180, 0, 18, 42, 27, 182, 0, 21, 46, 2, 159, 0, 7, 4, 167, 0, 4, 3, 172]
abbrev dktX3_takes_0 : List UInt8 := dkwX3_takes_0 ++ []
theorem dksX3_takes_0 : cX3_takes.data.toList.drop 0 = dktX3_takes_0 := by decide +kernel
theorem dX3_takes_0 : decode cX3_takes 0 = .ok (.aload_n 0, 1) := dk_42 (dk_at dksX3_takes_0 0 rfl rfl)
theorem dX3_takes_1 : decode cX3_takes 1 = .ok (.getfield 18, 3) := dk_180 0 18 (dk_at dksX3_takes_0 1 rfl rfl)
theorem dX3_takes_4 : decode cX3_takes 4 = .ok (.aload_n 0, 1) := dk_42 (dk_at dksX3_takes_0 4 rfl rfl)
theorem dX3_takes_5 : decode cX3_takes 5 = .ok (.iload_n 1, 1) := dk_27 (dk_at dksX3_takes_0 5 rfl rfl)
theorem dX3_takes_6 : decode cX3_takes 6 = .ok (.invokevirtual 21, 3) := dk_182 0 21 (dk_at dksX3_takes_0 6 rfl rfl)
theorem dX3_takes_9 : decode cX3_takes 9 = .ok (.iaload, 1) := dk_46 (dk_at dksX3_takes_0 9 rfl rfl)
theorem dX3_takes_10 : decode cX3_takes 10 = .ok (.iconst (-1), 1) := dk_2 (dk_at dksX3_takes_0 10 rfl rfl)
theorem dX3_takes_11 : decode cX3_takes 11 = .ok (.if_icmp .eq 7, 3) := dk_159 0 7 (dk_at dksX3_takes_0 11 rfl rfl)
theorem dX3_takes_14 : decode cX3_takes 14 = .ok (.iconst 1, 1) := dk_4 (dk_at dksX3_takes_0 14 rfl rfl)
theorem dX3_takes_15 : decode cX3_takes 15 = .ok (.goto 4, 3) := dk_167 0 4 (dk_at dksX3_takes_0 15 rfl rfl)
theorem dX3_takes_18 : decode cX3_takes 18 = .ok (.iconst 0, 1) := dk_3 (dk_at dksX3_takes_0 18 rfl rfl)
theorem dX3_takes_19 : decode cX3_takes 19 = .ok (.ireturn, 1) := dk_172 (dk_at dksX3_takes_0 19 rfl rfl)
abbrev cX3_take : ByteArray := prog_7_method_6_code
def yX3_take : MethodName := ⟨RX3, "take", "(I)I"⟩
def dkwX3_take_1 : List UInt8 := [28, 46, 172]
abbrev dktX3_take_1 : List UInt8 := dkwX3_take_1 ++ []
def dkwX3_take_0 : List UInt8 := [42, 180, 0, 18, 42, 27, 182, 0, 21, 46, 61, 28, 2, 160, 0, 7, 2, 167, 0, 9, 42, 180, 0, 15]
abbrev dktX3_take_0 : List UInt8 := dkwX3_take_0 ++ dktX3_take_1
theorem dksX3_take_0 : cX3_take.data.toList.drop 0 = dktX3_take_0 := by decide +kernel
theorem dksX3_take_1 : cX3_take.data.toList.drop 24 = dktX3_take_1 := dk_seg dksX3_take_0 24 rfl rfl
theorem dX3_take_0 : decode cX3_take 0 = .ok (.aload_n 0, 1) := dk_42 (dk_at dksX3_take_0 0 rfl rfl)
theorem dX3_take_1 : decode cX3_take 1 = .ok (.getfield 18, 3) := dk_180 0 18 (dk_at dksX3_take_0 1 rfl rfl)
theorem dX3_take_4 : decode cX3_take 4 = .ok (.aload_n 0, 1) := dk_42 (dk_at dksX3_take_0 4 rfl rfl)
theorem dX3_take_5 : decode cX3_take 5 = .ok (.iload_n 1, 1) := dk_27 (dk_at dksX3_take_0 5 rfl rfl)
theorem dX3_take_6 : decode cX3_take 6 = .ok (.invokevirtual 21, 3) := dk_182 0 21 (dk_at dksX3_take_0 6 rfl rfl)
theorem dX3_take_9 : decode cX3_take 9 = .ok (.iaload, 1) := dk_46 (dk_at dksX3_take_0 9 rfl rfl)
theorem dX3_take_10 : decode cX3_take 10 = .ok (.istore_n 2, 1) := dk_61 (dk_at dksX3_take_0 10 rfl rfl)
theorem dX3_take_11 : decode cX3_take 11 = .ok (.iload_n 2, 1) := dk_28 (dk_at dksX3_take_0 11 rfl rfl)
theorem dX3_take_12 : decode cX3_take 12 = .ok (.iconst (-1), 1) := dk_2 (dk_at dksX3_take_0 12 rfl rfl)
theorem dX3_take_13 : decode cX3_take 13 = .ok (.if_icmp .ne 7, 3) := dk_160 0 7 (dk_at dksX3_take_0 13 rfl rfl)
theorem dX3_take_16 : decode cX3_take 16 = .ok (.iconst (-1), 1) := dk_2 (dk_at dksX3_take_0 16 rfl rfl)
theorem dX3_take_17 : decode cX3_take 17 = .ok (.goto 9, 3) := dk_167 0 9 (dk_at dksX3_take_0 17 rfl rfl)
theorem dX3_take_20 : decode cX3_take 20 = .ok (.aload_n 0, 1) := dk_42 (dk_at dksX3_take_0 20 rfl rfl)
theorem dX3_take_21 : decode cX3_take 21 = .ok (.getfield 15, 3) := dk_180 0 15 (dk_at dksX3_take_0 21 rfl rfl)
theorem dX3_take_24 : decode cX3_take 24 = .ok (.iload_n 2, 1) := dk_28 (dk_at dksX3_take_1 0 rfl rfl)
theorem dX3_take_25 : decode cX3_take 25 = .ok (.iaload, 1) := dk_46 (dk_at dksX3_take_1 1 rfl rfl)
theorem dX3_take_26 : decode cX3_take 26 = .ok (.ireturn, 1) := dk_172 (dk_at dksX3_take_1 2 rfl rfl)
abbrev cX3_breaks : ByteArray := prog_7_method_15_code
def yX3_breaks : MethodName := ⟨RX3, "breaks", "()I"⟩
def dkwX3_breaks_1 : List UInt8 := [60, 132, 2, 1, 167, 255, 232, 27, 172]
abbrev dktX3_breaks_1 : List UInt8 := dkwX3_breaks_1 ++ []
def dkwX3_breaks_0 : List UInt8 := [3, 60, 3, 61, 28, 6, 162, 0, 25, 42, 17, 0, 156, 28, 96, 182, 0, 84, 153, 0, 7, 28, 4, 96]
abbrev dktX3_breaks_0 : List UInt8 := dkwX3_breaks_0 ++ dktX3_breaks_1
theorem dksX3_breaks_0 : cX3_breaks.data.toList.drop 0 = dktX3_breaks_0 := by decide +kernel
theorem dksX3_breaks_1 : cX3_breaks.data.toList.drop 24 = dktX3_breaks_1 := dk_seg dksX3_breaks_0 24 rfl rfl
theorem dX3_breaks_0 : decode cX3_breaks 0 = .ok (.iconst 0, 1) := dk_3 (dk_at dksX3_breaks_0 0 rfl rfl)
theorem dX3_breaks_1 : decode cX3_breaks 1 = .ok (.istore_n 1, 1) := dk_60 (dk_at dksX3_breaks_0 1 rfl rfl)
theorem dX3_breaks_2 : decode cX3_breaks 2 = .ok (.iconst 0, 1) := dk_3 (dk_at dksX3_breaks_0 2 rfl rfl)
theorem dX3_breaks_3 : decode cX3_breaks 3 = .ok (.istore_n 2, 1) := dk_61 (dk_at dksX3_breaks_0 3 rfl rfl)
theorem dX3_breaks_4 : decode cX3_breaks 4 = .ok (.iload_n 2, 1) := dk_28 (dk_at dksX3_breaks_0 4 rfl rfl)
theorem dX3_breaks_5 : decode cX3_breaks 5 = .ok (.iconst 3, 1) := dk_6 (dk_at dksX3_breaks_0 5 rfl rfl)
theorem dX3_breaks_6 : decode cX3_breaks 6 = .ok (.if_icmp .ge 25, 3) := dk_162 0 25 (dk_at dksX3_breaks_0 6 rfl rfl)
theorem dX3_breaks_9 : decode cX3_breaks 9 = .ok (.aload_n 0, 1) := dk_42 (dk_at dksX3_breaks_0 9 rfl rfl)
theorem dX3_breaks_10 : decode cX3_breaks 10 = .ok (.sipush 156, 3) := dk_17 0 156 (dk_at dksX3_breaks_0 10 rfl rfl)
theorem dX3_breaks_13 : decode cX3_breaks 13 = .ok (.iload_n 2, 1) := dk_28 (dk_at dksX3_breaks_0 13 rfl rfl)
theorem dX3_breaks_14 : decode cX3_breaks 14 = .ok (.iadd, 1) := dk_96 (dk_at dksX3_breaks_0 14 rfl rfl)
theorem dX3_breaks_15 : decode cX3_breaks 15 = .ok (.invokevirtual 84, 3) := dk_182 0 84 (dk_at dksX3_breaks_0 15 rfl rfl)
theorem dX3_breaks_18 : decode cX3_breaks 18 = .ok (.ifCond .eq 7, 3) := dk_153 0 7 (dk_at dksX3_breaks_0 18 rfl rfl)
theorem dX3_breaks_21 : decode cX3_breaks 21 = .ok (.iload_n 2, 1) := dk_28 (dk_at dksX3_breaks_0 21 rfl rfl)
theorem dX3_breaks_22 : decode cX3_breaks 22 = .ok (.iconst 1, 1) := dk_4 (dk_at dksX3_breaks_0 22 rfl rfl)
theorem dX3_breaks_23 : decode cX3_breaks 23 = .ok (.iadd, 1) := dk_96 (dk_at dksX3_breaks_0 23 rfl rfl)
theorem dX3_breaks_24 : decode cX3_breaks 24 = .ok (.istore_n 1, 1) := dk_60 (dk_at dksX3_breaks_1 0 rfl rfl)
theorem dX3_breaks_25 : decode cX3_breaks 25 = .ok (.iinc 2 1, 3) := dk_132 2 1 (dk_at dksX3_breaks_1 1 rfl rfl)
theorem dX3_breaks_28 : decode cX3_breaks 28 = .ok (.goto (-24), 3) := dk_167 255 232 (dk_at dksX3_breaks_1 4 rfl rfl)
theorem dX3_breaks_31 : decode cX3_breaks 31 = .ok (.iload_n 1, 1) := dk_27 (dk_at dksX3_breaks_1 7 rfl rfl)
theorem dX3_breaks_32 : decode cX3_breaks 32 = .ok (.ireturn, 1) := dk_172 (dk_at dksX3_breaks_1 8 rfl rfl)
abbrev cX3_act : ByteArray := prog_7_method_11_code
def yX3_act : MethodName := ⟨RX3, "act", "()Z"⟩
def dkwX3_act_1 : List UInt8 := [167, 0, 4, 3, 172]
abbrev dktX3_act_1 : List UInt8 := dkwX3_act_1 ++ []
def dkwX3_act_0 : List UInt8 := [42, 182, 0, 96, 153, 0, 21, 42, 182, 0, 99, 153, 0, 14, 42, 182, 0, 102, 153, 0, 7, 4]
abbrev dktX3_act_0 : List UInt8 := dkwX3_act_0 ++ dktX3_act_1
theorem dksX3_act_0 : cX3_act.data.toList.drop 0 = dktX3_act_0 := by decide +kernel
theorem dksX3_act_1 : cX3_act.data.toList.drop 22 = dktX3_act_1 := dk_seg dksX3_act_0 22 rfl rfl
theorem dX3_act_0 : decode cX3_act 0 = .ok (.aload_n 0, 1) := dk_42 (dk_at dksX3_act_0 0 rfl rfl)
theorem dX3_act_1 : decode cX3_act 1 = .ok (.invokevirtual 96, 3) := dk_182 0 96 (dk_at dksX3_act_0 1 rfl rfl)
theorem dX3_act_4 : decode cX3_act 4 = .ok (.ifCond .eq 21, 3) := dk_153 0 21 (dk_at dksX3_act_0 4 rfl rfl)
theorem dX3_act_7 : decode cX3_act 7 = .ok (.aload_n 0, 1) := dk_42 (dk_at dksX3_act_0 7 rfl rfl)
theorem dX3_act_8 : decode cX3_act 8 = .ok (.invokevirtual 99, 3) := dk_182 0 99 (dk_at dksX3_act_0 8 rfl rfl)
theorem dX3_act_11 : decode cX3_act 11 = .ok (.ifCond .eq 14, 3) := dk_153 0 14 (dk_at dksX3_act_0 11 rfl rfl)
theorem dX3_act_14 : decode cX3_act 14 = .ok (.aload_n 0, 1) := dk_42 (dk_at dksX3_act_0 14 rfl rfl)
theorem dX3_act_15 : decode cX3_act 15 = .ok (.invokevirtual 102, 3) := dk_182 0 102 (dk_at dksX3_act_0 15 rfl rfl)
theorem dX3_act_18 : decode cX3_act 18 = .ok (.ifCond .eq 7, 3) := dk_153 0 7 (dk_at dksX3_act_0 18 rfl rfl)
theorem dX3_act_21 : decode cX3_act 21 = .ok (.iconst 1, 1) := dk_4 (dk_at dksX3_act_0 21 rfl rfl)
theorem dX3_act_22 : decode cX3_act 22 = .ok (.goto 4, 3) := dk_167 0 4 (dk_at dksX3_act_1 0 rfl rfl)
theorem dX3_act_25 : decode cX3_act 25 = .ok (.iconst 0, 1) := dk_3 (dk_at dksX3_act_1 3 rfl rfl)
theorem dX3_act_26 : decode cX3_act 26 = .ok (.ireturn, 1) := dk_172 (dk_at dksX3_act_1 4 rfl rfl)
abbrev cX3_print : ByteArray := prog_7_method_12_code
def yX3_print : MethodName := ⟨RX3, "print", "()Z"⟩
def dkwX3_print_6 : List UInt8 := [172]
abbrev dktX3_print_6 : List UInt8 := dkwX3_print_6 ++ []
def dkwX3_print_5 : List UInt8 := [16, 15, 145, 84, 132, 2, 1, 167, 255, 203, 42, 180, 0, 63, 89, 180, 0, 105, 4, 96, 181, 0, 105, 4]
abbrev dktX3_print_5 : List UInt8 := dkwX3_print_5 ++ dktX3_print_6
def dkwX3_print_4 : List UInt8 := [17, 0, 132, 28, 96, 182, 0, 84, 153, 0, 15, 42, 17, 0, 132, 28, 96, 182, 0, 88, 167, 0, 5]
abbrev dktX3_print_4 : List UInt8 := dkwX3_print_4 ++ dktX3_print_5
def dkwX3_print_3 : List UInt8 := [16, 12, 162, 0, 53, 42, 180, 0, 63, 180, 0, 108, 42, 180, 0, 63, 180, 0, 105, 50, 28, 42]
abbrev dktX3_print_3 : List UInt8 := dkwX3_print_3 ++ dktX3_print_4
def dkwX3_print_2 : List UInt8 := [180, 0, 63, 180, 0, 105, 16, 60, 160, 0, 13, 42, 180, 0, 63, 6, 181, 0, 91, 3, 172, 3, 61, 28]
abbrev dktX3_print_2 : List UInt8 := dkwX3_print_2 ++ dktX3_print_3
def dkwX3_print_1 : List UInt8 := [153, 0, 7, 4, 167, 0, 4, 3, 60, 132, 2, 1, 167, 255, 225, 27, 154, 0, 5, 4, 172, 42]
abbrev dktX3_print_1 : List UInt8 := dkwX3_print_1 ++ dktX3_print_2
def dkwX3_print_0 : List UInt8 := [3, 60, 3, 61, 28, 16, 12, 162, 0, 31, 27, 154, 0, 15, 42, 17, 0, 132, 28, 96, 182, 0, 84]
abbrev dktX3_print_0 : List UInt8 := dkwX3_print_0 ++ dktX3_print_1
theorem dksX3_print_0 : cX3_print.data.toList.drop 0 = dktX3_print_0 := by decide +kernel
theorem dksX3_print_1 : cX3_print.data.toList.drop 23 = dktX3_print_1 := dk_seg dksX3_print_0 23 rfl rfl
theorem dksX3_print_2 : cX3_print.data.toList.drop 45 = dktX3_print_2 := dk_seg dksX3_print_1 22 rfl rfl
theorem dksX3_print_3 : cX3_print.data.toList.drop 69 = dktX3_print_3 := dk_seg dksX3_print_2 24 rfl rfl
theorem dksX3_print_4 : cX3_print.data.toList.drop 91 = dktX3_print_4 := dk_seg dksX3_print_3 22 rfl rfl
theorem dksX3_print_5 : cX3_print.data.toList.drop 114 = dktX3_print_5 := dk_seg dksX3_print_4 23 rfl rfl
theorem dksX3_print_6 : cX3_print.data.toList.drop 138 = dktX3_print_6 := dk_seg dksX3_print_5 24 rfl rfl
theorem dX3_print_0 : decode cX3_print 0 = .ok (.iconst 0, 1) := dk_3 (dk_at dksX3_print_0 0 rfl rfl)
theorem dX3_print_1 : decode cX3_print 1 = .ok (.istore_n 1, 1) := dk_60 (dk_at dksX3_print_0 1 rfl rfl)
theorem dX3_print_2 : decode cX3_print 2 = .ok (.iconst 0, 1) := dk_3 (dk_at dksX3_print_0 2 rfl rfl)
theorem dX3_print_3 : decode cX3_print 3 = .ok (.istore_n 2, 1) := dk_61 (dk_at dksX3_print_0 3 rfl rfl)
theorem dX3_print_4 : decode cX3_print 4 = .ok (.iload_n 2, 1) := dk_28 (dk_at dksX3_print_0 4 rfl rfl)
theorem dX3_print_5 : decode cX3_print 5 = .ok (.bipush 12, 2) := dk_16 12 (dk_at dksX3_print_0 5 rfl rfl)
theorem dX3_print_7 : decode cX3_print 7 = .ok (.if_icmp .ge 31, 3) := dk_162 0 31 (dk_at dksX3_print_0 7 rfl rfl)
theorem dX3_print_10 : decode cX3_print 10 = .ok (.iload_n 1, 1) := dk_27 (dk_at dksX3_print_0 10 rfl rfl)
theorem dX3_print_11 : decode cX3_print 11 = .ok (.ifCond .ne 15, 3) := dk_154 0 15 (dk_at dksX3_print_0 11 rfl rfl)
theorem dX3_print_14 : decode cX3_print 14 = .ok (.aload_n 0, 1) := dk_42 (dk_at dksX3_print_0 14 rfl rfl)
theorem dX3_print_15 : decode cX3_print 15 = .ok (.sipush 132, 3) := dk_17 0 132 (dk_at dksX3_print_0 15 rfl rfl)
theorem dX3_print_18 : decode cX3_print 18 = .ok (.iload_n 2, 1) := dk_28 (dk_at dksX3_print_0 18 rfl rfl)
theorem dX3_print_19 : decode cX3_print 19 = .ok (.iadd, 1) := dk_96 (dk_at dksX3_print_0 19 rfl rfl)
theorem dX3_print_20 : decode cX3_print 20 = .ok (.invokevirtual 84, 3) := dk_182 0 84 (dk_at dksX3_print_0 20 rfl rfl)
theorem dX3_print_23 : decode cX3_print 23 = .ok (.ifCond .eq 7, 3) := dk_153 0 7 (dk_at dksX3_print_1 0 rfl rfl)
theorem dX3_print_26 : decode cX3_print 26 = .ok (.iconst 1, 1) := dk_4 (dk_at dksX3_print_1 3 rfl rfl)
theorem dX3_print_27 : decode cX3_print 27 = .ok (.goto 4, 3) := dk_167 0 4 (dk_at dksX3_print_1 4 rfl rfl)
theorem dX3_print_30 : decode cX3_print 30 = .ok (.iconst 0, 1) := dk_3 (dk_at dksX3_print_1 7 rfl rfl)
theorem dX3_print_31 : decode cX3_print 31 = .ok (.istore_n 1, 1) := dk_60 (dk_at dksX3_print_1 8 rfl rfl)
theorem dX3_print_32 : decode cX3_print 32 = .ok (.iinc 2 1, 3) := dk_132 2 1 (dk_at dksX3_print_1 9 rfl rfl)
theorem dX3_print_35 : decode cX3_print 35 = .ok (.goto (-31), 3) := dk_167 255 225 (dk_at dksX3_print_1 12 rfl rfl)
theorem dX3_print_38 : decode cX3_print 38 = .ok (.iload_n 1, 1) := dk_27 (dk_at dksX3_print_1 15 rfl rfl)
theorem dX3_print_39 : decode cX3_print 39 = .ok (.ifCond .ne 5, 3) := dk_154 0 5 (dk_at dksX3_print_1 16 rfl rfl)
theorem dX3_print_42 : decode cX3_print 42 = .ok (.iconst 1, 1) := dk_4 (dk_at dksX3_print_1 19 rfl rfl)
theorem dX3_print_43 : decode cX3_print 43 = .ok (.ireturn, 1) := dk_172 (dk_at dksX3_print_1 20 rfl rfl)
theorem dX3_print_44 : decode cX3_print 44 = .ok (.aload_n 0, 1) := dk_42 (dk_at dksX3_print_1 21 rfl rfl)
theorem dX3_print_45 : decode cX3_print 45 = .ok (.getfield 63, 3) := dk_180 0 63 (dk_at dksX3_print_2 0 rfl rfl)
theorem dX3_print_48 : decode cX3_print 48 = .ok (.getfield 105, 3) := dk_180 0 105 (dk_at dksX3_print_2 3 rfl rfl)
theorem dX3_print_51 : decode cX3_print 51 = .ok (.bipush 60, 2) := dk_16 60 (dk_at dksX3_print_2 6 rfl rfl)
theorem dX3_print_53 : decode cX3_print 53 = .ok (.if_icmp .ne 13, 3) := dk_160 0 13 (dk_at dksX3_print_2 8 rfl rfl)
theorem dX3_print_56 : decode cX3_print 56 = .ok (.aload_n 0, 1) := dk_42 (dk_at dksX3_print_2 11 rfl rfl)
theorem dX3_print_57 : decode cX3_print 57 = .ok (.getfield 63, 3) := dk_180 0 63 (dk_at dksX3_print_2 12 rfl rfl)
theorem dX3_print_60 : decode cX3_print 60 = .ok (.iconst 3, 1) := dk_6 (dk_at dksX3_print_2 15 rfl rfl)
theorem dX3_print_61 : decode cX3_print 61 = .ok (.putfield 91, 3) := dk_181 0 91 (dk_at dksX3_print_2 16 rfl rfl)
theorem dX3_print_64 : decode cX3_print 64 = .ok (.iconst 0, 1) := dk_3 (dk_at dksX3_print_2 19 rfl rfl)
theorem dX3_print_65 : decode cX3_print 65 = .ok (.ireturn, 1) := dk_172 (dk_at dksX3_print_2 20 rfl rfl)
theorem dX3_print_66 : decode cX3_print 66 = .ok (.iconst 0, 1) := dk_3 (dk_at dksX3_print_2 21 rfl rfl)
theorem dX3_print_67 : decode cX3_print 67 = .ok (.istore_n 2, 1) := dk_61 (dk_at dksX3_print_2 22 rfl rfl)
theorem dX3_print_68 : decode cX3_print 68 = .ok (.iload_n 2, 1) := dk_28 (dk_at dksX3_print_2 23 rfl rfl)
theorem dX3_print_69 : decode cX3_print 69 = .ok (.bipush 12, 2) := dk_16 12 (dk_at dksX3_print_3 0 rfl rfl)
theorem dX3_print_71 : decode cX3_print 71 = .ok (.if_icmp .ge 53, 3) := dk_162 0 53 (dk_at dksX3_print_3 2 rfl rfl)
theorem dX3_print_74 : decode cX3_print 74 = .ok (.aload_n 0, 1) := dk_42 (dk_at dksX3_print_3 5 rfl rfl)
theorem dX3_print_75 : decode cX3_print 75 = .ok (.getfield 63, 3) := dk_180 0 63 (dk_at dksX3_print_3 6 rfl rfl)
theorem dX3_print_78 : decode cX3_print 78 = .ok (.getfield 108, 3) := dk_180 0 108 (dk_at dksX3_print_3 9 rfl rfl)
theorem dX3_print_81 : decode cX3_print 81 = .ok (.aload_n 0, 1) := dk_42 (dk_at dksX3_print_3 12 rfl rfl)
theorem dX3_print_82 : decode cX3_print 82 = .ok (.getfield 63, 3) := dk_180 0 63 (dk_at dksX3_print_3 13 rfl rfl)
theorem dX3_print_85 : decode cX3_print 85 = .ok (.getfield 105, 3) := dk_180 0 105 (dk_at dksX3_print_3 16 rfl rfl)
theorem dX3_print_88 : decode cX3_print 88 = .ok (.aaload, 1) := dk_50 (dk_at dksX3_print_3 19 rfl rfl)
theorem dX3_print_89 : decode cX3_print 89 = .ok (.iload_n 2, 1) := dk_28 (dk_at dksX3_print_3 20 rfl rfl)
theorem dX3_print_90 : decode cX3_print 90 = .ok (.aload_n 0, 1) := dk_42 (dk_at dksX3_print_3 21 rfl rfl)
theorem dX3_print_91 : decode cX3_print 91 = .ok (.sipush 132, 3) := dk_17 0 132 (dk_at dksX3_print_4 0 rfl rfl)
theorem dX3_print_94 : decode cX3_print 94 = .ok (.iload_n 2, 1) := dk_28 (dk_at dksX3_print_4 3 rfl rfl)
theorem dX3_print_95 : decode cX3_print 95 = .ok (.iadd, 1) := dk_96 (dk_at dksX3_print_4 4 rfl rfl)
theorem dX3_print_96 : decode cX3_print 96 = .ok (.invokevirtual 84, 3) := dk_182 0 84 (dk_at dksX3_print_4 5 rfl rfl)
theorem dX3_print_99 : decode cX3_print 99 = .ok (.ifCond .eq 15, 3) := dk_153 0 15 (dk_at dksX3_print_4 8 rfl rfl)
theorem dX3_print_102 : decode cX3_print 102 = .ok (.aload_n 0, 1) := dk_42 (dk_at dksX3_print_4 11 rfl rfl)
theorem dX3_print_103 : decode cX3_print 103 = .ok (.sipush 132, 3) := dk_17 0 132 (dk_at dksX3_print_4 12 rfl rfl)
theorem dX3_print_106 : decode cX3_print 106 = .ok (.iload_n 2, 1) := dk_28 (dk_at dksX3_print_4 15 rfl rfl)
theorem dX3_print_107 : decode cX3_print 107 = .ok (.iadd, 1) := dk_96 (dk_at dksX3_print_4 16 rfl rfl)
theorem dX3_print_108 : decode cX3_print 108 = .ok (.invokevirtual 88, 3) := dk_182 0 88 (dk_at dksX3_print_4 17 rfl rfl)
theorem dX3_print_111 : decode cX3_print 111 = .ok (.goto 5, 3) := dk_167 0 5 (dk_at dksX3_print_4 20 rfl rfl)
theorem dX3_print_114 : decode cX3_print 114 = .ok (.bipush 15, 2) := dk_16 15 (dk_at dksX3_print_5 0 rfl rfl)
theorem dX3_print_116 : decode cX3_print 116 = .ok (.i2b, 1) := dk_145 (dk_at dksX3_print_5 2 rfl rfl)
theorem dX3_print_117 : decode cX3_print 117 = .ok (.bastore, 1) := dk_84 (dk_at dksX3_print_5 3 rfl rfl)
theorem dX3_print_118 : decode cX3_print 118 = .ok (.iinc 2 1, 3) := dk_132 2 1 (dk_at dksX3_print_5 4 rfl rfl)
theorem dX3_print_121 : decode cX3_print 121 = .ok (.goto (-53), 3) := dk_167 255 203 (dk_at dksX3_print_5 7 rfl rfl)
theorem dX3_print_124 : decode cX3_print 124 = .ok (.aload_n 0, 1) := dk_42 (dk_at dksX3_print_5 10 rfl rfl)
theorem dX3_print_125 : decode cX3_print 125 = .ok (.getfield 63, 3) := dk_180 0 63 (dk_at dksX3_print_5 11 rfl rfl)
theorem dX3_print_128 : decode cX3_print 128 = .ok (.dup, 1) := dk_89 (dk_at dksX3_print_5 14 rfl rfl)
theorem dX3_print_129 : decode cX3_print 129 = .ok (.getfield 105, 3) := dk_180 0 105 (dk_at dksX3_print_5 15 rfl rfl)
theorem dX3_print_132 : decode cX3_print 132 = .ok (.iconst 1, 1) := dk_4 (dk_at dksX3_print_5 18 rfl rfl)
theorem dX3_print_133 : decode cX3_print 133 = .ok (.iadd, 1) := dk_96 (dk_at dksX3_print_5 19 rfl rfl)
theorem dX3_print_134 : decode cX3_print 134 = .ok (.putfield 105, 3) := dk_181 0 105 (dk_at dksX3_print_5 20 rfl rfl)
theorem dX3_print_137 : decode cX3_print 137 = .ok (.iconst 1, 1) := dk_4 (dk_at dksX3_print_5 23 rfl rfl)
theorem dX3_print_138 : decode cX3_print 138 = .ok (.ireturn, 1) := dk_172 (dk_at dksX3_print_6 0 rfl rfl)
abbrev cX3_count : ByteArray := prog_7_method_13_code
def yX3_count : MethodName := ⟨RX3, "count", "()Z"⟩
def dkwX3_count_6 : List UInt8 := [180, 0, 63, 180, 0, 67, 27, 3, 79, 132, 1, 1, 167, 255, 107, 4, 172]
abbrev dktX3_count_6 : List UInt8 := dkwX3_count_6 ++ []
def dkwX3_count_5 : List UInt8 := [180, 0, 67, 27, 29, 18, 120, 112, 79, 42, 17, 0, 128, 27, 96, 182, 0, 84, 153, 0, 13, 42]
abbrev dktX3_count_5 : List UInt8 := dkwX3_count_5 ++ dktX3_count_6
def dkwX3_count_4 : List UInt8 := [18, 116, 164, 0, 16, 42, 180, 0, 63, 89, 180, 0, 117, 4, 96, 181, 0, 117, 42, 180, 0, 63]
abbrev dktX3_count_4 : List UInt8 := dkwX3_count_4 ++ dktX3_count_5
def dkwX3_count_3 : List UInt8 := [46, 42, 16, 120, 27, 96, 182, 0, 84, 153, 0, 7, 28, 167, 0, 5, 28, 116, 96, 62, 29, 184, 0, 72]
abbrev dktX3_count_3 : List UInt8 := dkwX3_count_3 ++ dktX3_count_4
def dkwX3_count_2 : List UInt8 := [29, 96, 182, 0, 88, 184, 0, 112, 96, 61, 132, 3, 255, 167, 255, 226, 42, 180, 0, 63, 180, 0, 67, 27]
abbrev dktX3_count_2 : List UInt8 := dkwX3_count_2 ++ dktX3_count_3
def dkwX3_count_1 : List UInt8 := [159, 0, 103, 3, 61, 8, 62, 29, 155, 0, 32, 16, 10, 28, 104, 3, 42, 16, 96, 16, 6, 27, 104, 96]
abbrev dktX3_count_1 : List UInt8 := dkwX3_count_1 ++ dktX3_count_2
def dkwX3_count_0 : List UInt8 := [3, 60, 27, 7, 162, 0, 150, 42, 16, 120, 27, 96, 182, 0, 84, 42, 16, 124, 27, 96, 182, 0, 84]
abbrev dktX3_count_0 : List UInt8 := dkwX3_count_0 ++ dktX3_count_1
theorem dksX3_count_0 : cX3_count.data.toList.drop 0 = dktX3_count_0 := by decide +kernel
theorem dksX3_count_1 : cX3_count.data.toList.drop 23 = dktX3_count_1 := dk_seg dksX3_count_0 23 rfl rfl
theorem dksX3_count_2 : cX3_count.data.toList.drop 47 = dktX3_count_2 := dk_seg dksX3_count_1 24 rfl rfl
theorem dksX3_count_3 : cX3_count.data.toList.drop 71 = dktX3_count_3 := dk_seg dksX3_count_2 24 rfl rfl
theorem dksX3_count_4 : cX3_count.data.toList.drop 95 = dktX3_count_4 := dk_seg dksX3_count_3 24 rfl rfl
theorem dksX3_count_5 : cX3_count.data.toList.drop 117 = dktX3_count_5 := dk_seg dksX3_count_4 22 rfl rfl
theorem dksX3_count_6 : cX3_count.data.toList.drop 139 = dktX3_count_6 := dk_seg dksX3_count_5 22 rfl rfl
theorem dX3_count_0 : decode cX3_count 0 = .ok (.iconst 0, 1) := dk_3 (dk_at dksX3_count_0 0 rfl rfl)
theorem dX3_count_1 : decode cX3_count 1 = .ok (.istore_n 1, 1) := dk_60 (dk_at dksX3_count_0 1 rfl rfl)
theorem dX3_count_2 : decode cX3_count 2 = .ok (.iload_n 1, 1) := dk_27 (dk_at dksX3_count_0 2 rfl rfl)
theorem dX3_count_3 : decode cX3_count 3 = .ok (.iconst 4, 1) := dk_7 (dk_at dksX3_count_0 3 rfl rfl)
theorem dX3_count_4 : decode cX3_count 4 = .ok (.if_icmp .ge 150, 3) := dk_162 0 150 (dk_at dksX3_count_0 4 rfl rfl)
theorem dX3_count_7 : decode cX3_count 7 = .ok (.aload_n 0, 1) := dk_42 (dk_at dksX3_count_0 7 rfl rfl)
theorem dX3_count_8 : decode cX3_count 8 = .ok (.bipush 120, 2) := dk_16 120 (dk_at dksX3_count_0 8 rfl rfl)
theorem dX3_count_10 : decode cX3_count 10 = .ok (.iload_n 1, 1) := dk_27 (dk_at dksX3_count_0 10 rfl rfl)
theorem dX3_count_11 : decode cX3_count 11 = .ok (.iadd, 1) := dk_96 (dk_at dksX3_count_0 11 rfl rfl)
theorem dX3_count_12 : decode cX3_count 12 = .ok (.invokevirtual 84, 3) := dk_182 0 84 (dk_at dksX3_count_0 12 rfl rfl)
theorem dX3_count_15 : decode cX3_count 15 = .ok (.aload_n 0, 1) := dk_42 (dk_at dksX3_count_0 15 rfl rfl)
theorem dX3_count_16 : decode cX3_count 16 = .ok (.bipush 124, 2) := dk_16 124 (dk_at dksX3_count_0 16 rfl rfl)
theorem dX3_count_18 : decode cX3_count 18 = .ok (.iload_n 1, 1) := dk_27 (dk_at dksX3_count_0 18 rfl rfl)
theorem dX3_count_19 : decode cX3_count 19 = .ok (.iadd, 1) := dk_96 (dk_at dksX3_count_0 19 rfl rfl)
theorem dX3_count_20 : decode cX3_count 20 = .ok (.invokevirtual 84, 3) := dk_182 0 84 (dk_at dksX3_count_0 20 rfl rfl)
theorem dX3_count_23 : decode cX3_count 23 = .ok (.if_icmp .eq 103, 3) := dk_159 0 103 (dk_at dksX3_count_1 0 rfl rfl)
theorem dX3_count_26 : decode cX3_count 26 = .ok (.iconst 0, 1) := dk_3 (dk_at dksX3_count_1 3 rfl rfl)
theorem dX3_count_27 : decode cX3_count 27 = .ok (.istore_n 2, 1) := dk_61 (dk_at dksX3_count_1 4 rfl rfl)
theorem dX3_count_28 : decode cX3_count 28 = .ok (.iconst 5, 1) := dk_8 (dk_at dksX3_count_1 5 rfl rfl)
theorem dX3_count_29 : decode cX3_count 29 = .ok (.istore_n 3, 1) := dk_62 (dk_at dksX3_count_1 6 rfl rfl)
theorem dX3_count_30 : decode cX3_count 30 = .ok (.iload_n 3, 1) := dk_29 (dk_at dksX3_count_1 7 rfl rfl)
theorem dX3_count_31 : decode cX3_count 31 = .ok (.ifCond .lt 32, 3) := dk_155 0 32 (dk_at dksX3_count_1 8 rfl rfl)
theorem dX3_count_34 : decode cX3_count 34 = .ok (.bipush 10, 2) := dk_16 10 (dk_at dksX3_count_1 11 rfl rfl)
theorem dX3_count_36 : decode cX3_count 36 = .ok (.iload_n 2, 1) := dk_28 (dk_at dksX3_count_1 13 rfl rfl)
theorem dX3_count_37 : decode cX3_count 37 = .ok (.imul, 1) := dk_104 (dk_at dksX3_count_1 14 rfl rfl)
theorem dX3_count_38 : decode cX3_count 38 = .ok (.iconst 0, 1) := dk_3 (dk_at dksX3_count_1 15 rfl rfl)
theorem dX3_count_39 : decode cX3_count 39 = .ok (.aload_n 0, 1) := dk_42 (dk_at dksX3_count_1 16 rfl rfl)
theorem dX3_count_40 : decode cX3_count 40 = .ok (.bipush 96, 2) := dk_16 96 (dk_at dksX3_count_1 17 rfl rfl)
theorem dX3_count_42 : decode cX3_count 42 = .ok (.bipush 6, 2) := dk_16 6 (dk_at dksX3_count_1 19 rfl rfl)
theorem dX3_count_44 : decode cX3_count 44 = .ok (.iload_n 1, 1) := dk_27 (dk_at dksX3_count_1 21 rfl rfl)
theorem dX3_count_45 : decode cX3_count 45 = .ok (.imul, 1) := dk_104 (dk_at dksX3_count_1 22 rfl rfl)
theorem dX3_count_46 : decode cX3_count 46 = .ok (.iadd, 1) := dk_96 (dk_at dksX3_count_1 23 rfl rfl)
theorem dX3_count_47 : decode cX3_count 47 = .ok (.iload_n 3, 1) := dk_29 (dk_at dksX3_count_2 0 rfl rfl)
theorem dX3_count_48 : decode cX3_count 48 = .ok (.iadd, 1) := dk_96 (dk_at dksX3_count_2 1 rfl rfl)
theorem dX3_count_49 : decode cX3_count 49 = .ok (.invokevirtual 88, 3) := dk_182 0 88 (dk_at dksX3_count_2 2 rfl rfl)
theorem dX3_count_52 : decode cX3_count 52 = .ok (.invokestatic 112, 3) := dk_184 0 112 (dk_at dksX3_count_2 5 rfl rfl)
theorem dX3_count_55 : decode cX3_count 55 = .ok (.iadd, 1) := dk_96 (dk_at dksX3_count_2 8 rfl rfl)
theorem dX3_count_56 : decode cX3_count 56 = .ok (.istore_n 2, 1) := dk_61 (dk_at dksX3_count_2 9 rfl rfl)
theorem dX3_count_57 : decode cX3_count 57 = .ok (.iinc 3 (-1), 3) := dk_132 3 255 (dk_at dksX3_count_2 10 rfl rfl)
theorem dX3_count_60 : decode cX3_count 60 = .ok (.goto (-30), 3) := dk_167 255 226 (dk_at dksX3_count_2 13 rfl rfl)
theorem dX3_count_63 : decode cX3_count 63 = .ok (.aload_n 0, 1) := dk_42 (dk_at dksX3_count_2 16 rfl rfl)
theorem dX3_count_64 : decode cX3_count 64 = .ok (.getfield 63, 3) := dk_180 0 63 (dk_at dksX3_count_2 17 rfl rfl)
theorem dX3_count_67 : decode cX3_count 67 = .ok (.getfield 67, 3) := dk_180 0 67 (dk_at dksX3_count_2 20 rfl rfl)
theorem dX3_count_70 : decode cX3_count 70 = .ok (.iload_n 1, 1) := dk_27 (dk_at dksX3_count_2 23 rfl rfl)
theorem dX3_count_71 : decode cX3_count 71 = .ok (.iaload, 1) := dk_46 (dk_at dksX3_count_3 0 rfl rfl)
theorem dX3_count_72 : decode cX3_count 72 = .ok (.aload_n 0, 1) := dk_42 (dk_at dksX3_count_3 1 rfl rfl)
theorem dX3_count_73 : decode cX3_count 73 = .ok (.bipush 120, 2) := dk_16 120 (dk_at dksX3_count_3 2 rfl rfl)
theorem dX3_count_75 : decode cX3_count 75 = .ok (.iload_n 1, 1) := dk_27 (dk_at dksX3_count_3 4 rfl rfl)
theorem dX3_count_76 : decode cX3_count 76 = .ok (.iadd, 1) := dk_96 (dk_at dksX3_count_3 5 rfl rfl)
theorem dX3_count_77 : decode cX3_count 77 = .ok (.invokevirtual 84, 3) := dk_182 0 84 (dk_at dksX3_count_3 6 rfl rfl)
theorem dX3_count_80 : decode cX3_count 80 = .ok (.ifCond .eq 7, 3) := dk_153 0 7 (dk_at dksX3_count_3 9 rfl rfl)
theorem dX3_count_83 : decode cX3_count 83 = .ok (.iload_n 2, 1) := dk_28 (dk_at dksX3_count_3 12 rfl rfl)
theorem dX3_count_84 : decode cX3_count 84 = .ok (.goto 5, 3) := dk_167 0 5 (dk_at dksX3_count_3 13 rfl rfl)
theorem dX3_count_87 : decode cX3_count 87 = .ok (.iload_n 2, 1) := dk_28 (dk_at dksX3_count_3 16 rfl rfl)
theorem dX3_count_88 : decode cX3_count 88 = .ok (.ineg, 1) := dk_116 (dk_at dksX3_count_3 17 rfl rfl)
theorem dX3_count_89 : decode cX3_count 89 = .ok (.iadd, 1) := dk_96 (dk_at dksX3_count_3 18 rfl rfl)
theorem dX3_count_90 : decode cX3_count 90 = .ok (.istore_n 3, 1) := dk_62 (dk_at dksX3_count_3 19 rfl rfl)
theorem dX3_count_91 : decode cX3_count 91 = .ok (.iload_n 3, 1) := dk_29 (dk_at dksX3_count_3 20 rfl rfl)
theorem dX3_count_92 : decode cX3_count 92 = .ok (.invokestatic 72, 3) := dk_184 0 72 (dk_at dksX3_count_3 21 rfl rfl)
theorem dX3_count_95 : decode cX3_count 95 = .ok (.ldc 116, 2) := dk_18 116 (dk_at dksX3_count_4 0 rfl rfl)
theorem dX3_count_97 : decode cX3_count 97 = .ok (.if_icmp .le 16, 3) := dk_164 0 16 (dk_at dksX3_count_4 2 rfl rfl)
theorem dX3_count_100 : decode cX3_count 100 = .ok (.aload_n 0, 1) := dk_42 (dk_at dksX3_count_4 5 rfl rfl)
theorem dX3_count_101 : decode cX3_count 101 = .ok (.getfield 63, 3) := dk_180 0 63 (dk_at dksX3_count_4 6 rfl rfl)
theorem dX3_count_104 : decode cX3_count 104 = .ok (.dup, 1) := dk_89 (dk_at dksX3_count_4 9 rfl rfl)
theorem dX3_count_105 : decode cX3_count 105 = .ok (.getfield 117, 3) := dk_180 0 117 (dk_at dksX3_count_4 10 rfl rfl)
theorem dX3_count_108 : decode cX3_count 108 = .ok (.iconst 1, 1) := dk_4 (dk_at dksX3_count_4 13 rfl rfl)
theorem dX3_count_109 : decode cX3_count 109 = .ok (.iadd, 1) := dk_96 (dk_at dksX3_count_4 14 rfl rfl)
theorem dX3_count_110 : decode cX3_count 110 = .ok (.putfield 117, 3) := dk_181 0 117 (dk_at dksX3_count_4 15 rfl rfl)
theorem dX3_count_113 : decode cX3_count 113 = .ok (.aload_n 0, 1) := dk_42 (dk_at dksX3_count_4 18 rfl rfl)
theorem dX3_count_114 : decode cX3_count 114 = .ok (.getfield 63, 3) := dk_180 0 63 (dk_at dksX3_count_4 19 rfl rfl)
theorem dX3_count_117 : decode cX3_count 117 = .ok (.getfield 67, 3) := dk_180 0 67 (dk_at dksX3_count_5 0 rfl rfl)
theorem dX3_count_120 : decode cX3_count 120 = .ok (.iload_n 1, 1) := dk_27 (dk_at dksX3_count_5 3 rfl rfl)
theorem dX3_count_121 : decode cX3_count 121 = .ok (.iload_n 3, 1) := dk_29 (dk_at dksX3_count_5 4 rfl rfl)
theorem dX3_count_122 : decode cX3_count 122 = .ok (.ldc 120, 2) := dk_18 120 (dk_at dksX3_count_5 5 rfl rfl)
theorem dX3_count_124 : decode cX3_count 124 = .ok (.irem, 1) := dk_112 (dk_at dksX3_count_5 7 rfl rfl)
theorem dX3_count_125 : decode cX3_count 125 = .ok (.iastore, 1) := dk_79 (dk_at dksX3_count_5 8 rfl rfl)
theorem dX3_count_126 : decode cX3_count 126 = .ok (.aload_n 0, 1) := dk_42 (dk_at dksX3_count_5 9 rfl rfl)
theorem dX3_count_127 : decode cX3_count 127 = .ok (.sipush 128, 3) := dk_17 0 128 (dk_at dksX3_count_5 10 rfl rfl)
theorem dX3_count_130 : decode cX3_count 130 = .ok (.iload_n 1, 1) := dk_27 (dk_at dksX3_count_5 13 rfl rfl)
theorem dX3_count_131 : decode cX3_count 131 = .ok (.iadd, 1) := dk_96 (dk_at dksX3_count_5 14 rfl rfl)
theorem dX3_count_132 : decode cX3_count 132 = .ok (.invokevirtual 84, 3) := dk_182 0 84 (dk_at dksX3_count_5 15 rfl rfl)
theorem dX3_count_135 : decode cX3_count 135 = .ok (.ifCond .eq 13, 3) := dk_153 0 13 (dk_at dksX3_count_5 18 rfl rfl)
theorem dX3_count_138 : decode cX3_count 138 = .ok (.aload_n 0, 1) := dk_42 (dk_at dksX3_count_5 21 rfl rfl)
theorem dX3_count_139 : decode cX3_count 139 = .ok (.getfield 63, 3) := dk_180 0 63 (dk_at dksX3_count_6 0 rfl rfl)
theorem dX3_count_142 : decode cX3_count 142 = .ok (.getfield 67, 3) := dk_180 0 67 (dk_at dksX3_count_6 3 rfl rfl)
theorem dX3_count_145 : decode cX3_count 145 = .ok (.iload_n 1, 1) := dk_27 (dk_at dksX3_count_6 6 rfl rfl)
theorem dX3_count_146 : decode cX3_count 146 = .ok (.iconst 0, 1) := dk_3 (dk_at dksX3_count_6 7 rfl rfl)
theorem dX3_count_147 : decode cX3_count 147 = .ok (.iastore, 1) := dk_79 (dk_at dksX3_count_6 8 rfl rfl)
theorem dX3_count_148 : decode cX3_count 148 = .ok (.iinc 1 1, 3) := dk_132 1 1 (dk_at dksX3_count_6 9 rfl rfl)
theorem dX3_count_151 : decode cX3_count 151 = .ok (.goto (-149), 3) := dk_167 255 107 (dk_at dksX3_count_6 12 rfl rfl)
theorem dX3_count_154 : decode cX3_count 154 = .ok (.iconst 1, 1) := dk_4 (dk_at dksX3_count_6 15 rfl rfl)
theorem dX3_count_155 : decode cX3_count 155 = .ok (.ireturn, 1) := dk_172 (dk_at dksX3_count_6 16 rfl rfl)
abbrev cX3_punch : ByteArray := prog_7_method_14_code
def yX3_punch : MethodName := ⟨RX3, "punch", "()Z"⟩
def dkwX3_punch_4 : List UInt8 := [167, 255, 203, 42, 180, 0, 63, 89, 180, 0, 121, 4, 96, 181, 0, 121, 4, 172]
abbrev dktX3_punch_4 : List UInt8 := dkwX3_punch_4 ++ []
def dkwX3_punch_3 : List UInt8 := [153, 0, 15, 42, 17, 0, 159, 27, 96, 182, 0, 88, 167, 0, 5, 16, 15, 145, 84, 132, 1, 1]
abbrev dktX3_punch_3 : List UInt8 := dkwX3_punch_3 ++ dktX3_punch_4
def dkwX3_punch_2 : List UInt8 := [180, 0, 63, 180, 0, 127, 42, 180, 0, 63, 180, 0, 121, 50, 27, 42, 17, 0, 159, 27, 96, 182, 0, 84]
abbrev dktX3_punch_2 : List UInt8 := dkwX3_punch_2 ++ dktX3_punch_3
def dkwX3_punch_1 : List UInt8 := [161, 0, 13, 42, 180, 0, 63, 6, 181, 0, 91, 3, 172, 3, 60, 27, 16, 20, 162, 0, 53, 42]
abbrev dktX3_punch_1 : List UInt8 := dkwX3_punch_1 ++ dktX3_punch_2
def dkwX3_punch_0 : List UInt8 := [42, 17, 0, 179, 182, 0, 84, 154, 0, 5, 4, 172, 42, 180, 0, 63, 180, 0, 121, 42, 180, 0, 124]
abbrev dktX3_punch_0 : List UInt8 := dkwX3_punch_0 ++ dktX3_punch_1
theorem dksX3_punch_0 : cX3_punch.data.toList.drop 0 = dktX3_punch_0 := by decide +kernel
theorem dksX3_punch_1 : cX3_punch.data.toList.drop 23 = dktX3_punch_1 := dk_seg dksX3_punch_0 23 rfl rfl
theorem dksX3_punch_2 : cX3_punch.data.toList.drop 45 = dktX3_punch_2 := dk_seg dksX3_punch_1 22 rfl rfl
theorem dksX3_punch_3 : cX3_punch.data.toList.drop 69 = dktX3_punch_3 := dk_seg dksX3_punch_2 24 rfl rfl
theorem dksX3_punch_4 : cX3_punch.data.toList.drop 91 = dktX3_punch_4 := dk_seg dksX3_punch_3 22 rfl rfl
theorem dX3_punch_0 : decode cX3_punch 0 = .ok (.aload_n 0, 1) := dk_42 (dk_at dksX3_punch_0 0 rfl rfl)
theorem dX3_punch_1 : decode cX3_punch 1 = .ok (.sipush 179, 3) := dk_17 0 179 (dk_at dksX3_punch_0 1 rfl rfl)
theorem dX3_punch_4 : decode cX3_punch 4 = .ok (.invokevirtual 84, 3) := dk_182 0 84 (dk_at dksX3_punch_0 4 rfl rfl)
theorem dX3_punch_7 : decode cX3_punch 7 = .ok (.ifCond .ne 5, 3) := dk_154 0 5 (dk_at dksX3_punch_0 7 rfl rfl)
theorem dX3_punch_10 : decode cX3_punch 10 = .ok (.iconst 1, 1) := dk_4 (dk_at dksX3_punch_0 10 rfl rfl)
theorem dX3_punch_11 : decode cX3_punch 11 = .ok (.ireturn, 1) := dk_172 (dk_at dksX3_punch_0 11 rfl rfl)
theorem dX3_punch_12 : decode cX3_punch 12 = .ok (.aload_n 0, 1) := dk_42 (dk_at dksX3_punch_0 12 rfl rfl)
theorem dX3_punch_13 : decode cX3_punch 13 = .ok (.getfield 63, 3) := dk_180 0 63 (dk_at dksX3_punch_0 13 rfl rfl)
theorem dX3_punch_16 : decode cX3_punch 16 = .ok (.getfield 121, 3) := dk_180 0 121 (dk_at dksX3_punch_0 16 rfl rfl)
theorem dX3_punch_19 : decode cX3_punch 19 = .ok (.aload_n 0, 1) := dk_42 (dk_at dksX3_punch_0 19 rfl rfl)
theorem dX3_punch_20 : decode cX3_punch 20 = .ok (.getfield 124, 3) := dk_180 0 124 (dk_at dksX3_punch_0 20 rfl rfl)
theorem dX3_punch_23 : decode cX3_punch 23 = .ok (.if_icmp .lt 13, 3) := dk_161 0 13 (dk_at dksX3_punch_1 0 rfl rfl)
theorem dX3_punch_26 : decode cX3_punch 26 = .ok (.aload_n 0, 1) := dk_42 (dk_at dksX3_punch_1 3 rfl rfl)
theorem dX3_punch_27 : decode cX3_punch 27 = .ok (.getfield 63, 3) := dk_180 0 63 (dk_at dksX3_punch_1 4 rfl rfl)
theorem dX3_punch_30 : decode cX3_punch 30 = .ok (.iconst 3, 1) := dk_6 (dk_at dksX3_punch_1 7 rfl rfl)
theorem dX3_punch_31 : decode cX3_punch 31 = .ok (.putfield 91, 3) := dk_181 0 91 (dk_at dksX3_punch_1 8 rfl rfl)
theorem dX3_punch_34 : decode cX3_punch 34 = .ok (.iconst 0, 1) := dk_3 (dk_at dksX3_punch_1 11 rfl rfl)
theorem dX3_punch_35 : decode cX3_punch 35 = .ok (.ireturn, 1) := dk_172 (dk_at dksX3_punch_1 12 rfl rfl)
theorem dX3_punch_36 : decode cX3_punch 36 = .ok (.iconst 0, 1) := dk_3 (dk_at dksX3_punch_1 13 rfl rfl)
theorem dX3_punch_37 : decode cX3_punch 37 = .ok (.istore_n 1, 1) := dk_60 (dk_at dksX3_punch_1 14 rfl rfl)
theorem dX3_punch_38 : decode cX3_punch 38 = .ok (.iload_n 1, 1) := dk_27 (dk_at dksX3_punch_1 15 rfl rfl)
theorem dX3_punch_39 : decode cX3_punch 39 = .ok (.bipush 20, 2) := dk_16 20 (dk_at dksX3_punch_1 16 rfl rfl)
theorem dX3_punch_41 : decode cX3_punch 41 = .ok (.if_icmp .ge 53, 3) := dk_162 0 53 (dk_at dksX3_punch_1 18 rfl rfl)
theorem dX3_punch_44 : decode cX3_punch 44 = .ok (.aload_n 0, 1) := dk_42 (dk_at dksX3_punch_1 21 rfl rfl)
theorem dX3_punch_45 : decode cX3_punch 45 = .ok (.getfield 63, 3) := dk_180 0 63 (dk_at dksX3_punch_2 0 rfl rfl)
theorem dX3_punch_48 : decode cX3_punch 48 = .ok (.getfield 127, 3) := dk_180 0 127 (dk_at dksX3_punch_2 3 rfl rfl)
theorem dX3_punch_51 : decode cX3_punch 51 = .ok (.aload_n 0, 1) := dk_42 (dk_at dksX3_punch_2 6 rfl rfl)
theorem dX3_punch_52 : decode cX3_punch 52 = .ok (.getfield 63, 3) := dk_180 0 63 (dk_at dksX3_punch_2 7 rfl rfl)
theorem dX3_punch_55 : decode cX3_punch 55 = .ok (.getfield 121, 3) := dk_180 0 121 (dk_at dksX3_punch_2 10 rfl rfl)
theorem dX3_punch_58 : decode cX3_punch 58 = .ok (.aaload, 1) := dk_50 (dk_at dksX3_punch_2 13 rfl rfl)
theorem dX3_punch_59 : decode cX3_punch 59 = .ok (.iload_n 1, 1) := dk_27 (dk_at dksX3_punch_2 14 rfl rfl)
theorem dX3_punch_60 : decode cX3_punch 60 = .ok (.aload_n 0, 1) := dk_42 (dk_at dksX3_punch_2 15 rfl rfl)
theorem dX3_punch_61 : decode cX3_punch 61 = .ok (.sipush 159, 3) := dk_17 0 159 (dk_at dksX3_punch_2 16 rfl rfl)
theorem dX3_punch_64 : decode cX3_punch 64 = .ok (.iload_n 1, 1) := dk_27 (dk_at dksX3_punch_2 19 rfl rfl)
theorem dX3_punch_65 : decode cX3_punch 65 = .ok (.iadd, 1) := dk_96 (dk_at dksX3_punch_2 20 rfl rfl)
theorem dX3_punch_66 : decode cX3_punch 66 = .ok (.invokevirtual 84, 3) := dk_182 0 84 (dk_at dksX3_punch_2 21 rfl rfl)
theorem dX3_punch_69 : decode cX3_punch 69 = .ok (.ifCond .eq 15, 3) := dk_153 0 15 (dk_at dksX3_punch_3 0 rfl rfl)
theorem dX3_punch_72 : decode cX3_punch 72 = .ok (.aload_n 0, 1) := dk_42 (dk_at dksX3_punch_3 3 rfl rfl)
theorem dX3_punch_73 : decode cX3_punch 73 = .ok (.sipush 159, 3) := dk_17 0 159 (dk_at dksX3_punch_3 4 rfl rfl)
theorem dX3_punch_76 : decode cX3_punch 76 = .ok (.iload_n 1, 1) := dk_27 (dk_at dksX3_punch_3 7 rfl rfl)
theorem dX3_punch_77 : decode cX3_punch 77 = .ok (.iadd, 1) := dk_96 (dk_at dksX3_punch_3 8 rfl rfl)
theorem dX3_punch_78 : decode cX3_punch 78 = .ok (.invokevirtual 88, 3) := dk_182 0 88 (dk_at dksX3_punch_3 9 rfl rfl)
theorem dX3_punch_81 : decode cX3_punch 81 = .ok (.goto 5, 3) := dk_167 0 5 (dk_at dksX3_punch_3 12 rfl rfl)
theorem dX3_punch_84 : decode cX3_punch 84 = .ok (.bipush 15, 2) := dk_16 15 (dk_at dksX3_punch_3 15 rfl rfl)
theorem dX3_punch_86 : decode cX3_punch 86 = .ok (.i2b, 1) := dk_145 (dk_at dksX3_punch_3 17 rfl rfl)
theorem dX3_punch_87 : decode cX3_punch 87 = .ok (.bastore, 1) := dk_84 (dk_at dksX3_punch_3 18 rfl rfl)
theorem dX3_punch_88 : decode cX3_punch 88 = .ok (.iinc 1 1, 3) := dk_132 1 1 (dk_at dksX3_punch_3 19 rfl rfl)
theorem dX3_punch_91 : decode cX3_punch 91 = .ok (.goto (-53), 3) := dk_167 255 203 (dk_at dksX3_punch_4 0 rfl rfl)
theorem dX3_punch_94 : decode cX3_punch 94 = .ok (.aload_n 0, 1) := dk_42 (dk_at dksX3_punch_4 3 rfl rfl)
theorem dX3_punch_95 : decode cX3_punch 95 = .ok (.getfield 63, 3) := dk_180 0 63 (dk_at dksX3_punch_4 4 rfl rfl)
theorem dX3_punch_98 : decode cX3_punch 98 = .ok (.dup, 1) := dk_89 (dk_at dksX3_punch_4 7 rfl rfl)
theorem dX3_punch_99 : decode cX3_punch 99 = .ok (.getfield 121, 3) := dk_180 0 121 (dk_at dksX3_punch_4 8 rfl rfl)
theorem dX3_punch_102 : decode cX3_punch 102 = .ok (.iconst 1, 1) := dk_4 (dk_at dksX3_punch_4 11 rfl rfl)
theorem dX3_punch_103 : decode cX3_punch 103 = .ok (.iadd, 1) := dk_96 (dk_at dksX3_punch_4 12 rfl rfl)
theorem dX3_punch_104 : decode cX3_punch 104 = .ok (.putfield 121, 3) := dk_181 0 121 (dk_at dksX3_punch_4 13 rfl rfl)
theorem dX3_punch_107 : decode cX3_punch 107 = .ok (.iconst 1, 1) := dk_4 (dk_at dksX3_punch_4 16 rfl rfl)
theorem dX3_punch_108 : decode cX3_punch 108 = .ok (.ireturn, 1) := dk_172 (dk_at dksX3_punch_4 17 rfl rfl)
abbrev cX3_giveTotal : ByteArray := prog_7_method_9_code
def yX3_giveTotal : MethodName := ⟨RX3, "giveTotal", "(I)V"⟩
def dkwX3_giveTotal_4 : List UInt8 := [180, 0, 15, 16, 92, 28, 96, 4, 79, 132, 2, 1, 167, 255, 173, 177]
abbrev dktX3_giveTotal_4 : List UInt8 := dkwX3_giveTotal_4 ++ []
def dkwX3_giveTotal_3 : List UInt8 := [16, 10, 108, 62, 132, 4, 1, 167, 255, 222, 42, 180, 0, 63, 180, 0, 67, 28, 46, 156, 0, 13, 42]
abbrev dktX3_giveTotal_3 : List UInt8 := dkwX3_giveTotal_3 ++ dktX3_giveTotal_4
def dkwX3_giveTotal_2 : List UInt8 := [162, 0, 33, 42, 180, 0, 15, 16, 68, 16, 6, 28, 104, 96, 21, 4, 96, 29, 16, 10, 112, 79, 29]
abbrev dktX3_giveTotal_2 : List UInt8 := dkwX3_giveTotal_2 ++ dktX3_giveTotal_3
def dkwX3_giveTotal_1 : List UInt8 := [162, 0, 84, 42, 180, 0, 63, 180, 0, 67, 28, 46, 184, 0, 72, 62, 3, 54, 4, 21, 4, 16, 6]
abbrev dktX3_giveTotal_1 : List UInt8 := dkwX3_giveTotal_1 ++ dktX3_giveTotal_2
def dkwX3_giveTotal_0 : List UInt8 := [42, 180, 0, 15, 2, 184, 0, 51, 42, 180, 0, 15, 16, 65, 27, 96, 4, 100, 4, 79, 3, 61, 28, 7]
abbrev dktX3_giveTotal_0 : List UInt8 := dkwX3_giveTotal_0 ++ dktX3_giveTotal_1
theorem dksX3_giveTotal_0 : cX3_giveTotal.data.toList.drop 0 = dktX3_giveTotal_0 := by decide +kernel
theorem dksX3_giveTotal_1 : cX3_giveTotal.data.toList.drop 24 = dktX3_giveTotal_1 := dk_seg dksX3_giveTotal_0 24 rfl rfl
theorem dksX3_giveTotal_2 : cX3_giveTotal.data.toList.drop 47 = dktX3_giveTotal_2 := dk_seg dksX3_giveTotal_1 23 rfl rfl
theorem dksX3_giveTotal_3 : cX3_giveTotal.data.toList.drop 70 = dktX3_giveTotal_3 := dk_seg dksX3_giveTotal_2 23 rfl rfl
theorem dksX3_giveTotal_4 : cX3_giveTotal.data.toList.drop 93 = dktX3_giveTotal_4 := dk_seg dksX3_giveTotal_3 23 rfl rfl
theorem dX3_giveTotal_0 : decode cX3_giveTotal 0 = .ok (.aload_n 0, 1) := dk_42 (dk_at dksX3_giveTotal_0 0 rfl rfl)
theorem dX3_giveTotal_1 : decode cX3_giveTotal 1 = .ok (.getfield 15, 3) := dk_180 0 15 (dk_at dksX3_giveTotal_0 1 rfl rfl)
theorem dX3_giveTotal_4 : decode cX3_giveTotal 4 = .ok (.iconst (-1), 1) := dk_2 (dk_at dksX3_giveTotal_0 4 rfl rfl)
theorem dX3_giveTotal_5 : decode cX3_giveTotal 5 = .ok (.invokestatic 51, 3) := dk_184 0 51 (dk_at dksX3_giveTotal_0 5 rfl rfl)
theorem dX3_giveTotal_8 : decode cX3_giveTotal 8 = .ok (.aload_n 0, 1) := dk_42 (dk_at dksX3_giveTotal_0 8 rfl rfl)
theorem dX3_giveTotal_9 : decode cX3_giveTotal 9 = .ok (.getfield 15, 3) := dk_180 0 15 (dk_at dksX3_giveTotal_0 9 rfl rfl)
theorem dX3_giveTotal_12 : decode cX3_giveTotal 12 = .ok (.bipush 65, 2) := dk_16 65 (dk_at dksX3_giveTotal_0 12 rfl rfl)
theorem dX3_giveTotal_14 : decode cX3_giveTotal 14 = .ok (.iload_n 1, 1) := dk_27 (dk_at dksX3_giveTotal_0 14 rfl rfl)
theorem dX3_giveTotal_15 : decode cX3_giveTotal 15 = .ok (.iadd, 1) := dk_96 (dk_at dksX3_giveTotal_0 15 rfl rfl)
theorem dX3_giveTotal_16 : decode cX3_giveTotal 16 = .ok (.iconst 1, 1) := dk_4 (dk_at dksX3_giveTotal_0 16 rfl rfl)
theorem dX3_giveTotal_17 : decode cX3_giveTotal 17 = .ok (.isub, 1) := dk_100 (dk_at dksX3_giveTotal_0 17 rfl rfl)
theorem dX3_giveTotal_18 : decode cX3_giveTotal 18 = .ok (.iconst 1, 1) := dk_4 (dk_at dksX3_giveTotal_0 18 rfl rfl)
theorem dX3_giveTotal_19 : decode cX3_giveTotal 19 = .ok (.iastore, 1) := dk_79 (dk_at dksX3_giveTotal_0 19 rfl rfl)
theorem dX3_giveTotal_20 : decode cX3_giveTotal 20 = .ok (.iconst 0, 1) := dk_3 (dk_at dksX3_giveTotal_0 20 rfl rfl)
theorem dX3_giveTotal_21 : decode cX3_giveTotal 21 = .ok (.istore_n 2, 1) := dk_61 (dk_at dksX3_giveTotal_0 21 rfl rfl)
theorem dX3_giveTotal_22 : decode cX3_giveTotal 22 = .ok (.iload_n 2, 1) := dk_28 (dk_at dksX3_giveTotal_0 22 rfl rfl)
theorem dX3_giveTotal_23 : decode cX3_giveTotal 23 = .ok (.iconst 4, 1) := dk_7 (dk_at dksX3_giveTotal_0 23 rfl rfl)
theorem dX3_giveTotal_24 : decode cX3_giveTotal 24 = .ok (.if_icmp .ge 84, 3) := dk_162 0 84 (dk_at dksX3_giveTotal_1 0 rfl rfl)
theorem dX3_giveTotal_27 : decode cX3_giveTotal 27 = .ok (.aload_n 0, 1) := dk_42 (dk_at dksX3_giveTotal_1 3 rfl rfl)
theorem dX3_giveTotal_28 : decode cX3_giveTotal 28 = .ok (.getfield 63, 3) := dk_180 0 63 (dk_at dksX3_giveTotal_1 4 rfl rfl)
theorem dX3_giveTotal_31 : decode cX3_giveTotal 31 = .ok (.getfield 67, 3) := dk_180 0 67 (dk_at dksX3_giveTotal_1 7 rfl rfl)
theorem dX3_giveTotal_34 : decode cX3_giveTotal 34 = .ok (.iload_n 2, 1) := dk_28 (dk_at dksX3_giveTotal_1 10 rfl rfl)
theorem dX3_giveTotal_35 : decode cX3_giveTotal 35 = .ok (.iaload, 1) := dk_46 (dk_at dksX3_giveTotal_1 11 rfl rfl)
theorem dX3_giveTotal_36 : decode cX3_giveTotal 36 = .ok (.invokestatic 72, 3) := dk_184 0 72 (dk_at dksX3_giveTotal_1 12 rfl rfl)
theorem dX3_giveTotal_39 : decode cX3_giveTotal 39 = .ok (.istore_n 3, 1) := dk_62 (dk_at dksX3_giveTotal_1 15 rfl rfl)
theorem dX3_giveTotal_40 : decode cX3_giveTotal 40 = .ok (.iconst 0, 1) := dk_3 (dk_at dksX3_giveTotal_1 16 rfl rfl)
theorem dX3_giveTotal_41 : decode cX3_giveTotal 41 = .ok (.istore 4, 2) := dk_54 4 (dk_at dksX3_giveTotal_1 17 rfl rfl)
theorem dX3_giveTotal_43 : decode cX3_giveTotal 43 = .ok (.iload 4, 2) := dk_21 4 (dk_at dksX3_giveTotal_1 19 rfl rfl)
theorem dX3_giveTotal_45 : decode cX3_giveTotal 45 = .ok (.bipush 6, 2) := dk_16 6 (dk_at dksX3_giveTotal_1 21 rfl rfl)
theorem dX3_giveTotal_47 : decode cX3_giveTotal 47 = .ok (.if_icmp .ge 33, 3) := dk_162 0 33 (dk_at dksX3_giveTotal_2 0 rfl rfl)
theorem dX3_giveTotal_50 : decode cX3_giveTotal 50 = .ok (.aload_n 0, 1) := dk_42 (dk_at dksX3_giveTotal_2 3 rfl rfl)
theorem dX3_giveTotal_51 : decode cX3_giveTotal 51 = .ok (.getfield 15, 3) := dk_180 0 15 (dk_at dksX3_giveTotal_2 4 rfl rfl)
theorem dX3_giveTotal_54 : decode cX3_giveTotal 54 = .ok (.bipush 68, 2) := dk_16 68 (dk_at dksX3_giveTotal_2 7 rfl rfl)
theorem dX3_giveTotal_56 : decode cX3_giveTotal 56 = .ok (.bipush 6, 2) := dk_16 6 (dk_at dksX3_giveTotal_2 9 rfl rfl)
theorem dX3_giveTotal_58 : decode cX3_giveTotal 58 = .ok (.iload_n 2, 1) := dk_28 (dk_at dksX3_giveTotal_2 11 rfl rfl)
theorem dX3_giveTotal_59 : decode cX3_giveTotal 59 = .ok (.imul, 1) := dk_104 (dk_at dksX3_giveTotal_2 12 rfl rfl)
theorem dX3_giveTotal_60 : decode cX3_giveTotal 60 = .ok (.iadd, 1) := dk_96 (dk_at dksX3_giveTotal_2 13 rfl rfl)
theorem dX3_giveTotal_61 : decode cX3_giveTotal 61 = .ok (.iload 4, 2) := dk_21 4 (dk_at dksX3_giveTotal_2 14 rfl rfl)
theorem dX3_giveTotal_63 : decode cX3_giveTotal 63 = .ok (.iadd, 1) := dk_96 (dk_at dksX3_giveTotal_2 16 rfl rfl)
theorem dX3_giveTotal_64 : decode cX3_giveTotal 64 = .ok (.iload_n 3, 1) := dk_29 (dk_at dksX3_giveTotal_2 17 rfl rfl)
theorem dX3_giveTotal_65 : decode cX3_giveTotal 65 = .ok (.bipush 10, 2) := dk_16 10 (dk_at dksX3_giveTotal_2 18 rfl rfl)
theorem dX3_giveTotal_67 : decode cX3_giveTotal 67 = .ok (.irem, 1) := dk_112 (dk_at dksX3_giveTotal_2 20 rfl rfl)
theorem dX3_giveTotal_68 : decode cX3_giveTotal 68 = .ok (.iastore, 1) := dk_79 (dk_at dksX3_giveTotal_2 21 rfl rfl)
theorem dX3_giveTotal_69 : decode cX3_giveTotal 69 = .ok (.iload_n 3, 1) := dk_29 (dk_at dksX3_giveTotal_2 22 rfl rfl)
theorem dX3_giveTotal_70 : decode cX3_giveTotal 70 = .ok (.bipush 10, 2) := dk_16 10 (dk_at dksX3_giveTotal_3 0 rfl rfl)
theorem dX3_giveTotal_72 : decode cX3_giveTotal 72 = .ok (.idiv, 1) := dk_108 (dk_at dksX3_giveTotal_3 2 rfl rfl)
theorem dX3_giveTotal_73 : decode cX3_giveTotal 73 = .ok (.istore_n 3, 1) := dk_62 (dk_at dksX3_giveTotal_3 3 rfl rfl)
theorem dX3_giveTotal_74 : decode cX3_giveTotal 74 = .ok (.iinc 4 1, 3) := dk_132 4 1 (dk_at dksX3_giveTotal_3 4 rfl rfl)
theorem dX3_giveTotal_77 : decode cX3_giveTotal 77 = .ok (.goto (-34), 3) := dk_167 255 222 (dk_at dksX3_giveTotal_3 7 rfl rfl)
theorem dX3_giveTotal_80 : decode cX3_giveTotal 80 = .ok (.aload_n 0, 1) := dk_42 (dk_at dksX3_giveTotal_3 10 rfl rfl)
theorem dX3_giveTotal_81 : decode cX3_giveTotal 81 = .ok (.getfield 63, 3) := dk_180 0 63 (dk_at dksX3_giveTotal_3 11 rfl rfl)
theorem dX3_giveTotal_84 : decode cX3_giveTotal 84 = .ok (.getfield 67, 3) := dk_180 0 67 (dk_at dksX3_giveTotal_3 14 rfl rfl)
theorem dX3_giveTotal_87 : decode cX3_giveTotal 87 = .ok (.iload_n 2, 1) := dk_28 (dk_at dksX3_giveTotal_3 17 rfl rfl)
theorem dX3_giveTotal_88 : decode cX3_giveTotal 88 = .ok (.iaload, 1) := dk_46 (dk_at dksX3_giveTotal_3 18 rfl rfl)
theorem dX3_giveTotal_89 : decode cX3_giveTotal 89 = .ok (.ifCond .ge 13, 3) := dk_156 0 13 (dk_at dksX3_giveTotal_3 19 rfl rfl)
theorem dX3_giveTotal_92 : decode cX3_giveTotal 92 = .ok (.aload_n 0, 1) := dk_42 (dk_at dksX3_giveTotal_3 22 rfl rfl)
theorem dX3_giveTotal_93 : decode cX3_giveTotal 93 = .ok (.getfield 15, 3) := dk_180 0 15 (dk_at dksX3_giveTotal_4 0 rfl rfl)
theorem dX3_giveTotal_96 : decode cX3_giveTotal 96 = .ok (.bipush 92, 2) := dk_16 92 (dk_at dksX3_giveTotal_4 3 rfl rfl)
theorem dX3_giveTotal_98 : decode cX3_giveTotal 98 = .ok (.iload_n 2, 1) := dk_28 (dk_at dksX3_giveTotal_4 5 rfl rfl)
theorem dX3_giveTotal_99 : decode cX3_giveTotal 99 = .ok (.iadd, 1) := dk_96 (dk_at dksX3_giveTotal_4 6 rfl rfl)
theorem dX3_giveTotal_100 : decode cX3_giveTotal 100 = .ok (.iconst 1, 1) := dk_4 (dk_at dksX3_giveTotal_4 7 rfl rfl)
theorem dX3_giveTotal_101 : decode cX3_giveTotal 101 = .ok (.iastore, 1) := dk_79 (dk_at dksX3_giveTotal_4 8 rfl rfl)
theorem dX3_giveTotal_102 : decode cX3_giveTotal 102 = .ok (.iinc 2 1, 3) := dk_132 2 1 (dk_at dksX3_giveTotal_4 9 rfl rfl)
theorem dX3_giveTotal_105 : decode cX3_giveTotal 105 = .ok (.goto (-83), 3) := dk_167 255 173 (dk_at dksX3_giveTotal_4 12 rfl rfl)
theorem dX3_giveTotal_108 : decode cX3_giveTotal 108 = .ok (.return_, 1) := dk_177 (dk_at dksX3_giveTotal_4 15 rfl rfl)
abbrev cX4_init : ByteArray := prog_9_method_1_code
def yX4_init : MethodName := ⟨RX4, "<init>", "()V"⟩
def dkwX4_init_1 : List UInt8 := [197, 0, 9, 2, 181, 0, 16, 42, 7, 188, 10, 181, 0, 19, 177]
abbrev dktX4_init_1 : List UInt8 := dkwX4_init_1 ++ []
def dkwX4_init_0 : List UInt8 := [42, 183, 0, 3, 42, 16, 60, 16, 12, 197, 0, 9, 2, 181, 0, 11, 42, 16, 40, 16, 20]
abbrev dktX4_init_0 : List UInt8 := dkwX4_init_0 ++ dktX4_init_1
theorem dksX4_init_0 : cX4_init.data.toList.drop 0 = dktX4_init_0 := by decide +kernel
theorem dksX4_init_1 : cX4_init.data.toList.drop 21 = dktX4_init_1 := dk_seg dksX4_init_0 21 rfl rfl
theorem dX4_init_0 : decode cX4_init 0 = .ok (.aload_n 0, 1) := dk_42 (dk_at dksX4_init_0 0 rfl rfl)
theorem dX4_init_1 : decode cX4_init 1 = .ok (.invokespecial 3, 3) := dk_183 0 3 (dk_at dksX4_init_0 1 rfl rfl)
theorem dX4_init_4 : decode cX4_init 4 = .ok (.aload_n 0, 1) := dk_42 (dk_at dksX4_init_0 4 rfl rfl)
theorem dX4_init_5 : decode cX4_init 5 = .ok (.bipush 60, 2) := dk_16 60 (dk_at dksX4_init_0 5 rfl rfl)
theorem dX4_init_7 : decode cX4_init 7 = .ok (.bipush 12, 2) := dk_16 12 (dk_at dksX4_init_0 7 rfl rfl)
theorem dX4_init_9 : decode cX4_init 9 = .ok (.multianewarray 9 2, 4) := by decide +kernel
theorem dX4_init_13 : decode cX4_init 13 = .ok (.putfield 11, 3) := dk_181 0 11 (dk_at dksX4_init_0 13 rfl rfl)
theorem dX4_init_16 : decode cX4_init 16 = .ok (.aload_n 0, 1) := dk_42 (dk_at dksX4_init_0 16 rfl rfl)
theorem dX4_init_17 : decode cX4_init 17 = .ok (.bipush 40, 2) := dk_16 40 (dk_at dksX4_init_0 17 rfl rfl)
theorem dX4_init_19 : decode cX4_init 19 = .ok (.bipush 20, 2) := dk_16 20 (dk_at dksX4_init_0 19 rfl rfl)
theorem dX4_init_21 : decode cX4_init 21 = .ok (.multianewarray 9 2, 4) := by decide +kernel
theorem dX4_init_25 : decode cX4_init 25 = .ok (.putfield 16, 3) := dk_181 0 16 (dk_at dksX4_init_1 4 rfl rfl)
theorem dX4_init_28 : decode cX4_init 28 = .ok (.aload_n 0, 1) := dk_42 (dk_at dksX4_init_1 7 rfl rfl)
theorem dX4_init_29 : decode cX4_init 29 = .ok (.iconst 4, 1) := dk_7 (dk_at dksX4_init_1 8 rfl rfl)
theorem dX4_init_30 : decode cX4_init 30 = .ok (.newarray .int, 2) := dk_188_10 (dk_at dksX4_init_1 9 rfl rfl)
theorem dX4_init_32 : decode cX4_init 32 = .ok (.putfield 19, 3) := dk_181 0 19 (dk_at dksX4_init_1 11 rfl rfl)
theorem dX4_init_35 : decode cX4_init 35 = .ok (.return_, 1) := dk_177 (dk_at dksX4_init_1 14 rfl rfl)
abbrev cX4_begin : ByteArray := prog_9_method_2_code
def yX4_begin : MethodName := ⟨RX4, "begin", "()V"⟩
def dkwX4_begin_2 : List UInt8 := [162, 0, 16, 42, 180, 0, 19, 27, 3, 79, 132, 1, 1, 167, 255, 241, 177]
abbrev dktX4_begin_2 : List UInt8 := dkwX4_begin_2 ++ []
def dkwX4_begin_1 : List UInt8 := [181, 0, 36, 42, 3, 181, 0, 39, 42, 2, 181, 0, 42, 42, 2, 181, 0, 45, 3, 60, 27, 7]
abbrev dktX4_begin_1 : List UInt8 := dkwX4_begin_1 ++ dktX4_begin_2
def dkwX4_begin_0 : List UInt8 := [42, 2, 181, 0, 23, 42, 3, 181, 0, 27, 42, 3, 181, 0, 30, 42, 3, 181, 0, 33, 42, 3]
abbrev dktX4_begin_0 : List UInt8 := dkwX4_begin_0 ++ dktX4_begin_1
theorem dksX4_begin_0 : cX4_begin.data.toList.drop 0 = dktX4_begin_0 := by decide +kernel
theorem dksX4_begin_1 : cX4_begin.data.toList.drop 22 = dktX4_begin_1 := dk_seg dksX4_begin_0 22 rfl rfl
theorem dksX4_begin_2 : cX4_begin.data.toList.drop 44 = dktX4_begin_2 := dk_seg dksX4_begin_1 22 rfl rfl
theorem dX4_begin_0 : decode cX4_begin 0 = .ok (.aload_n 0, 1) := dk_42 (dk_at dksX4_begin_0 0 rfl rfl)
theorem dX4_begin_1 : decode cX4_begin 1 = .ok (.iconst (-1), 1) := dk_2 (dk_at dksX4_begin_0 1 rfl rfl)
theorem dX4_begin_2 : decode cX4_begin 2 = .ok (.putfield 23, 3) := dk_181 0 23 (dk_at dksX4_begin_0 2 rfl rfl)
theorem dX4_begin_5 : decode cX4_begin 5 = .ok (.aload_n 0, 1) := dk_42 (dk_at dksX4_begin_0 5 rfl rfl)
theorem dX4_begin_6 : decode cX4_begin 6 = .ok (.iconst 0, 1) := dk_3 (dk_at dksX4_begin_0 6 rfl rfl)
theorem dX4_begin_7 : decode cX4_begin 7 = .ok (.putfield 27, 3) := dk_181 0 27 (dk_at dksX4_begin_0 7 rfl rfl)
theorem dX4_begin_10 : decode cX4_begin 10 = .ok (.aload_n 0, 1) := dk_42 (dk_at dksX4_begin_0 10 rfl rfl)
theorem dX4_begin_11 : decode cX4_begin 11 = .ok (.iconst 0, 1) := dk_3 (dk_at dksX4_begin_0 11 rfl rfl)
theorem dX4_begin_12 : decode cX4_begin 12 = .ok (.putfield 30, 3) := dk_181 0 30 (dk_at dksX4_begin_0 12 rfl rfl)
theorem dX4_begin_15 : decode cX4_begin 15 = .ok (.aload_n 0, 1) := dk_42 (dk_at dksX4_begin_0 15 rfl rfl)
theorem dX4_begin_16 : decode cX4_begin 16 = .ok (.iconst 0, 1) := dk_3 (dk_at dksX4_begin_0 16 rfl rfl)
theorem dX4_begin_17 : decode cX4_begin 17 = .ok (.putfield 33, 3) := dk_181 0 33 (dk_at dksX4_begin_0 17 rfl rfl)
theorem dX4_begin_20 : decode cX4_begin 20 = .ok (.aload_n 0, 1) := dk_42 (dk_at dksX4_begin_0 20 rfl rfl)
theorem dX4_begin_21 : decode cX4_begin 21 = .ok (.iconst 0, 1) := dk_3 (dk_at dksX4_begin_0 21 rfl rfl)
theorem dX4_begin_22 : decode cX4_begin 22 = .ok (.putfield 36, 3) := dk_181 0 36 (dk_at dksX4_begin_1 0 rfl rfl)
theorem dX4_begin_25 : decode cX4_begin 25 = .ok (.aload_n 0, 1) := dk_42 (dk_at dksX4_begin_1 3 rfl rfl)
theorem dX4_begin_26 : decode cX4_begin 26 = .ok (.iconst 0, 1) := dk_3 (dk_at dksX4_begin_1 4 rfl rfl)
theorem dX4_begin_27 : decode cX4_begin 27 = .ok (.putfield 39, 3) := dk_181 0 39 (dk_at dksX4_begin_1 5 rfl rfl)
theorem dX4_begin_30 : decode cX4_begin 30 = .ok (.aload_n 0, 1) := dk_42 (dk_at dksX4_begin_1 8 rfl rfl)
theorem dX4_begin_31 : decode cX4_begin 31 = .ok (.iconst (-1), 1) := dk_2 (dk_at dksX4_begin_1 9 rfl rfl)
theorem dX4_begin_32 : decode cX4_begin 32 = .ok (.putfield 42, 3) := dk_181 0 42 (dk_at dksX4_begin_1 10 rfl rfl)
theorem dX4_begin_35 : decode cX4_begin 35 = .ok (.aload_n 0, 1) := dk_42 (dk_at dksX4_begin_1 13 rfl rfl)
theorem dX4_begin_36 : decode cX4_begin 36 = .ok (.iconst (-1), 1) := dk_2 (dk_at dksX4_begin_1 14 rfl rfl)
theorem dX4_begin_37 : decode cX4_begin 37 = .ok (.putfield 45, 3) := dk_181 0 45 (dk_at dksX4_begin_1 15 rfl rfl)
theorem dX4_begin_40 : decode cX4_begin 40 = .ok (.iconst 0, 1) := dk_3 (dk_at dksX4_begin_1 18 rfl rfl)
theorem dX4_begin_41 : decode cX4_begin 41 = .ok (.istore_n 1, 1) := dk_60 (dk_at dksX4_begin_1 19 rfl rfl)
theorem dX4_begin_42 : decode cX4_begin 42 = .ok (.iload_n 1, 1) := dk_27 (dk_at dksX4_begin_1 20 rfl rfl)
theorem dX4_begin_43 : decode cX4_begin 43 = .ok (.iconst 4, 1) := dk_7 (dk_at dksX4_begin_1 21 rfl rfl)
theorem dX4_begin_44 : decode cX4_begin 44 = .ok (.if_icmp .ge 16, 3) := dk_162 0 16 (dk_at dksX4_begin_2 0 rfl rfl)
theorem dX4_begin_47 : decode cX4_begin 47 = .ok (.aload_n 0, 1) := dk_42 (dk_at dksX4_begin_2 3 rfl rfl)
theorem dX4_begin_48 : decode cX4_begin 48 = .ok (.getfield 19, 3) := dk_180 0 19 (dk_at dksX4_begin_2 4 rfl rfl)
theorem dX4_begin_51 : decode cX4_begin 51 = .ok (.iload_n 1, 1) := dk_27 (dk_at dksX4_begin_2 7 rfl rfl)
theorem dX4_begin_52 : decode cX4_begin 52 = .ok (.iconst 0, 1) := dk_3 (dk_at dksX4_begin_2 8 rfl rfl)
theorem dX4_begin_53 : decode cX4_begin 53 = .ok (.iastore, 1) := dk_79 (dk_at dksX4_begin_2 9 rfl rfl)
theorem dX4_begin_54 : decode cX4_begin 54 = .ok (.iinc 1 1, 3) := dk_132 1 1 (dk_at dksX4_begin_2 10 rfl rfl)
theorem dX4_begin_57 : decode cX4_begin 57 = .ok (.goto (-15), 3) := dk_167 255 241 (dk_at dksX4_begin_2 13 rfl rfl)
theorem dX4_begin_60 : decode cX4_begin 60 = .ok (.return_, 1) := dk_177 (dk_at dksX4_begin_2 16 rfl rfl)
abbrev cX4_isLike : ByteArray := prog_9_method_4_code
def yX4_isLike : MethodName := ⟨RX4, "isLike", "(LPlugHall$Outcome;)Z"⟩
def dkwX4_isLike_4 : List UInt8 := [180, 0, 16, 29, 50, 16, 20, 184, 0, 48, 61, 132, 3, 1, 167, 255, 223, 28, 172]
abbrev dktX4_isLike_4 : List UInt8 := dkwX4_isLike_4 ++ []
def dkwX4_isLike_3 : List UInt8 := [167, 255, 223, 3, 62, 29, 42, 180, 0, 36, 162, 0, 31, 28, 153, 0, 27, 42, 180, 0, 16, 29, 50, 43]
abbrev dktX4_isLike_3 : List UInt8 := dkwX4_isLike_3 ++ dktX4_isLike_4
def dkwX4_isLike_2 : List UInt8 := [180, 0, 19, 29, 46, 43, 180, 0, 19, 29, 46, 160, 0, 7, 4, 167, 0, 4, 3, 61, 132, 3, 1]
abbrev dktX4_isLike_2 : List UInt8 := dkwX4_isLike_2 ++ dktX4_isLike_3
def dkwX4_isLike_1 : List UInt8 := [182, 0, 52, 153, 0, 7, 4, 167, 0, 4, 3, 61, 3, 62, 29, 7, 162, 0, 34, 28, 153, 0, 22, 42]
abbrev dktX4_isLike_1 : List UInt8 := dkwX4_isLike_1 ++ dktX4_isLike_2
def dkwX4_isLike_0 : List UInt8 := [42, 180, 0, 23, 43, 180, 0, 23, 160, 0, 26, 42, 180, 0, 36, 43, 180, 0, 36, 160, 0, 15, 42, 43]
abbrev dktX4_isLike_0 : List UInt8 := dkwX4_isLike_0 ++ dktX4_isLike_1
theorem dksX4_isLike_0 : cX4_isLike.data.toList.drop 0 = dktX4_isLike_0 := by decide +kernel
theorem dksX4_isLike_1 : cX4_isLike.data.toList.drop 24 = dktX4_isLike_1 := dk_seg dksX4_isLike_0 24 rfl rfl
theorem dksX4_isLike_2 : cX4_isLike.data.toList.drop 48 = dktX4_isLike_2 := dk_seg dksX4_isLike_1 24 rfl rfl
theorem dksX4_isLike_3 : cX4_isLike.data.toList.drop 71 = dktX4_isLike_3 := dk_seg dksX4_isLike_2 23 rfl rfl
theorem dksX4_isLike_4 : cX4_isLike.data.toList.drop 95 = dktX4_isLike_4 := dk_seg dksX4_isLike_3 24 rfl rfl
theorem dX4_isLike_0 : decode cX4_isLike 0 = .ok (.aload_n 0, 1) := dk_42 (dk_at dksX4_isLike_0 0 rfl rfl)
theorem dX4_isLike_1 : decode cX4_isLike 1 = .ok (.getfield 23, 3) := dk_180 0 23 (dk_at dksX4_isLike_0 1 rfl rfl)
theorem dX4_isLike_4 : decode cX4_isLike 4 = .ok (.aload_n 1, 1) := dk_43 (dk_at dksX4_isLike_0 4 rfl rfl)
theorem dX4_isLike_5 : decode cX4_isLike 5 = .ok (.getfield 23, 3) := dk_180 0 23 (dk_at dksX4_isLike_0 5 rfl rfl)
theorem dX4_isLike_8 : decode cX4_isLike 8 = .ok (.if_icmp .ne 26, 3) := dk_160 0 26 (dk_at dksX4_isLike_0 8 rfl rfl)
theorem dX4_isLike_11 : decode cX4_isLike 11 = .ok (.aload_n 0, 1) := dk_42 (dk_at dksX4_isLike_0 11 rfl rfl)
theorem dX4_isLike_12 : decode cX4_isLike 12 = .ok (.getfield 36, 3) := dk_180 0 36 (dk_at dksX4_isLike_0 12 rfl rfl)
theorem dX4_isLike_15 : decode cX4_isLike 15 = .ok (.aload_n 1, 1) := dk_43 (dk_at dksX4_isLike_0 15 rfl rfl)
theorem dX4_isLike_16 : decode cX4_isLike 16 = .ok (.getfield 36, 3) := dk_180 0 36 (dk_at dksX4_isLike_0 16 rfl rfl)
theorem dX4_isLike_19 : decode cX4_isLike 19 = .ok (.if_icmp .ne 15, 3) := dk_160 0 15 (dk_at dksX4_isLike_0 19 rfl rfl)
theorem dX4_isLike_22 : decode cX4_isLike 22 = .ok (.aload_n 0, 1) := dk_42 (dk_at dksX4_isLike_0 22 rfl rfl)
theorem dX4_isLike_23 : decode cX4_isLike 23 = .ok (.aload_n 1, 1) := dk_43 (dk_at dksX4_isLike_0 23 rfl rfl)
theorem dX4_isLike_24 : decode cX4_isLike 24 = .ok (.invokevirtual 52, 3) := dk_182 0 52 (dk_at dksX4_isLike_1 0 rfl rfl)
theorem dX4_isLike_27 : decode cX4_isLike 27 = .ok (.ifCond .eq 7, 3) := dk_153 0 7 (dk_at dksX4_isLike_1 3 rfl rfl)
theorem dX4_isLike_30 : decode cX4_isLike 30 = .ok (.iconst 1, 1) := dk_4 (dk_at dksX4_isLike_1 6 rfl rfl)
theorem dX4_isLike_31 : decode cX4_isLike 31 = .ok (.goto 4, 3) := dk_167 0 4 (dk_at dksX4_isLike_1 7 rfl rfl)
theorem dX4_isLike_34 : decode cX4_isLike 34 = .ok (.iconst 0, 1) := dk_3 (dk_at dksX4_isLike_1 10 rfl rfl)
theorem dX4_isLike_35 : decode cX4_isLike 35 = .ok (.istore_n 2, 1) := dk_61 (dk_at dksX4_isLike_1 11 rfl rfl)
theorem dX4_isLike_36 : decode cX4_isLike 36 = .ok (.iconst 0, 1) := dk_3 (dk_at dksX4_isLike_1 12 rfl rfl)
theorem dX4_isLike_37 : decode cX4_isLike 37 = .ok (.istore_n 3, 1) := dk_62 (dk_at dksX4_isLike_1 13 rfl rfl)
theorem dX4_isLike_38 : decode cX4_isLike 38 = .ok (.iload_n 3, 1) := dk_29 (dk_at dksX4_isLike_1 14 rfl rfl)
theorem dX4_isLike_39 : decode cX4_isLike 39 = .ok (.iconst 4, 1) := dk_7 (dk_at dksX4_isLike_1 15 rfl rfl)
theorem dX4_isLike_40 : decode cX4_isLike 40 = .ok (.if_icmp .ge 34, 3) := dk_162 0 34 (dk_at dksX4_isLike_1 16 rfl rfl)
theorem dX4_isLike_43 : decode cX4_isLike 43 = .ok (.iload_n 2, 1) := dk_28 (dk_at dksX4_isLike_1 19 rfl rfl)
theorem dX4_isLike_44 : decode cX4_isLike 44 = .ok (.ifCond .eq 22, 3) := dk_153 0 22 (dk_at dksX4_isLike_1 20 rfl rfl)
theorem dX4_isLike_47 : decode cX4_isLike 47 = .ok (.aload_n 0, 1) := dk_42 (dk_at dksX4_isLike_1 23 rfl rfl)
theorem dX4_isLike_48 : decode cX4_isLike 48 = .ok (.getfield 19, 3) := dk_180 0 19 (dk_at dksX4_isLike_2 0 rfl rfl)
theorem dX4_isLike_51 : decode cX4_isLike 51 = .ok (.iload_n 3, 1) := dk_29 (dk_at dksX4_isLike_2 3 rfl rfl)
theorem dX4_isLike_52 : decode cX4_isLike 52 = .ok (.iaload, 1) := dk_46 (dk_at dksX4_isLike_2 4 rfl rfl)
theorem dX4_isLike_53 : decode cX4_isLike 53 = .ok (.aload_n 1, 1) := dk_43 (dk_at dksX4_isLike_2 5 rfl rfl)
theorem dX4_isLike_54 : decode cX4_isLike 54 = .ok (.getfield 19, 3) := dk_180 0 19 (dk_at dksX4_isLike_2 6 rfl rfl)
theorem dX4_isLike_57 : decode cX4_isLike 57 = .ok (.iload_n 3, 1) := dk_29 (dk_at dksX4_isLike_2 9 rfl rfl)
theorem dX4_isLike_58 : decode cX4_isLike 58 = .ok (.iaload, 1) := dk_46 (dk_at dksX4_isLike_2 10 rfl rfl)
theorem dX4_isLike_59 : decode cX4_isLike 59 = .ok (.if_icmp .ne 7, 3) := dk_160 0 7 (dk_at dksX4_isLike_2 11 rfl rfl)
theorem dX4_isLike_62 : decode cX4_isLike 62 = .ok (.iconst 1, 1) := dk_4 (dk_at dksX4_isLike_2 14 rfl rfl)
theorem dX4_isLike_63 : decode cX4_isLike 63 = .ok (.goto 4, 3) := dk_167 0 4 (dk_at dksX4_isLike_2 15 rfl rfl)
theorem dX4_isLike_66 : decode cX4_isLike 66 = .ok (.iconst 0, 1) := dk_3 (dk_at dksX4_isLike_2 18 rfl rfl)
theorem dX4_isLike_67 : decode cX4_isLike 67 = .ok (.istore_n 2, 1) := dk_61 (dk_at dksX4_isLike_2 19 rfl rfl)
theorem dX4_isLike_68 : decode cX4_isLike 68 = .ok (.iinc 3 1, 3) := dk_132 3 1 (dk_at dksX4_isLike_2 20 rfl rfl)
theorem dX4_isLike_71 : decode cX4_isLike 71 = .ok (.goto (-33), 3) := dk_167 255 223 (dk_at dksX4_isLike_3 0 rfl rfl)
theorem dX4_isLike_74 : decode cX4_isLike 74 = .ok (.iconst 0, 1) := dk_3 (dk_at dksX4_isLike_3 3 rfl rfl)
theorem dX4_isLike_75 : decode cX4_isLike 75 = .ok (.istore_n 3, 1) := dk_62 (dk_at dksX4_isLike_3 4 rfl rfl)
theorem dX4_isLike_76 : decode cX4_isLike 76 = .ok (.iload_n 3, 1) := dk_29 (dk_at dksX4_isLike_3 5 rfl rfl)
theorem dX4_isLike_77 : decode cX4_isLike 77 = .ok (.aload_n 0, 1) := dk_42 (dk_at dksX4_isLike_3 6 rfl rfl)
theorem dX4_isLike_78 : decode cX4_isLike 78 = .ok (.getfield 36, 3) := dk_180 0 36 (dk_at dksX4_isLike_3 7 rfl rfl)
theorem dX4_isLike_81 : decode cX4_isLike 81 = .ok (.if_icmp .ge 31, 3) := dk_162 0 31 (dk_at dksX4_isLike_3 10 rfl rfl)
theorem dX4_isLike_84 : decode cX4_isLike 84 = .ok (.iload_n 2, 1) := dk_28 (dk_at dksX4_isLike_3 13 rfl rfl)
theorem dX4_isLike_85 : decode cX4_isLike 85 = .ok (.ifCond .eq 27, 3) := dk_153 0 27 (dk_at dksX4_isLike_3 14 rfl rfl)
theorem dX4_isLike_88 : decode cX4_isLike 88 = .ok (.aload_n 0, 1) := dk_42 (dk_at dksX4_isLike_3 17 rfl rfl)
theorem dX4_isLike_89 : decode cX4_isLike 89 = .ok (.getfield 16, 3) := dk_180 0 16 (dk_at dksX4_isLike_3 18 rfl rfl)
theorem dX4_isLike_92 : decode cX4_isLike 92 = .ok (.iload_n 3, 1) := dk_29 (dk_at dksX4_isLike_3 21 rfl rfl)
theorem dX4_isLike_93 : decode cX4_isLike 93 = .ok (.aaload, 1) := dk_50 (dk_at dksX4_isLike_3 22 rfl rfl)
theorem dX4_isLike_94 : decode cX4_isLike 94 = .ok (.aload_n 1, 1) := dk_43 (dk_at dksX4_isLike_3 23 rfl rfl)
theorem dX4_isLike_95 : decode cX4_isLike 95 = .ok (.getfield 16, 3) := dk_180 0 16 (dk_at dksX4_isLike_4 0 rfl rfl)
theorem dX4_isLike_98 : decode cX4_isLike 98 = .ok (.iload_n 3, 1) := dk_29 (dk_at dksX4_isLike_4 3 rfl rfl)
theorem dX4_isLike_99 : decode cX4_isLike 99 = .ok (.aaload, 1) := dk_50 (dk_at dksX4_isLike_4 4 rfl rfl)
theorem dX4_isLike_100 : decode cX4_isLike 100 = .ok (.bipush 20, 2) := dk_16 20 (dk_at dksX4_isLike_4 5 rfl rfl)
theorem dX4_isLike_102 : decode cX4_isLike 102 = .ok (.invokestatic 48, 3) := dk_184 0 48 (dk_at dksX4_isLike_4 7 rfl rfl)
theorem dX4_isLike_105 : decode cX4_isLike 105 = .ok (.istore_n 2, 1) := dk_61 (dk_at dksX4_isLike_4 10 rfl rfl)
theorem dX4_isLike_106 : decode cX4_isLike 106 = .ok (.iinc 3 1, 3) := dk_132 3 1 (dk_at dksX4_isLike_4 11 rfl rfl)
theorem dX4_isLike_109 : decode cX4_isLike 109 = .ok (.goto (-33), 3) := dk_167 255 223 (dk_at dksX4_isLike_4 14 rfl rfl)
theorem dX4_isLike_112 : decode cX4_isLike 112 = .ok (.iload_n 2, 1) := dk_28 (dk_at dksX4_isLike_4 17 rfl rfl)
theorem dX4_isLike_113 : decode cX4_isLike 113 = .ok (.ireturn, 1) := dk_172 (dk_at dksX4_isLike_4 18 rfl rfl)
abbrev cX4_printsLike : ByteArray := prog_9_method_3_code
def yX4_printsLike : MethodName := ⟨RX4, "printsLike", "(LPlugHall$Outcome;)Z"⟩
def dkwX4_printsLike_2 : List UInt8 := [61, 132, 3, 1, 167, 255, 223, 28, 172]
abbrev dktX4_printsLike_2 : List UInt8 := dkwX4_printsLike_2 ++ []
def dkwX4_printsLike_1 : List UInt8 := [162, 0, 31, 28, 153, 0, 27, 42, 180, 0, 11, 29, 50, 43, 180, 0, 11, 29, 50, 16, 12, 184, 0, 48]
abbrev dktX4_printsLike_1 : List UInt8 := dkwX4_printsLike_1 ++ dktX4_printsLike_2
def dkwX4_printsLike_0 : List UInt8 := [42, 180, 0, 33, 43, 180, 0, 33, 160, 0, 7, 4, 167, 0, 4, 3, 61, 3, 62, 29, 42, 180, 0, 33]
abbrev dktX4_printsLike_0 : List UInt8 := dkwX4_printsLike_0 ++ dktX4_printsLike_1
theorem dksX4_printsLike_0 : cX4_printsLike.data.toList.drop 0 = dktX4_printsLike_0 := by decide +kernel
theorem dksX4_printsLike_1 : cX4_printsLike.data.toList.drop 24 = dktX4_printsLike_1 := dk_seg dksX4_printsLike_0 24 rfl rfl
theorem dksX4_printsLike_2 : cX4_printsLike.data.toList.drop 48 = dktX4_printsLike_2 := dk_seg dksX4_printsLike_1 24 rfl rfl
theorem dX4_printsLike_0 : decode cX4_printsLike 0 = .ok (.aload_n 0, 1) := dk_42 (dk_at dksX4_printsLike_0 0 rfl rfl)
theorem dX4_printsLike_1 : decode cX4_printsLike 1 = .ok (.getfield 33, 3) := dk_180 0 33 (dk_at dksX4_printsLike_0 1 rfl rfl)
theorem dX4_printsLike_4 : decode cX4_printsLike 4 = .ok (.aload_n 1, 1) := dk_43 (dk_at dksX4_printsLike_0 4 rfl rfl)
theorem dX4_printsLike_5 : decode cX4_printsLike 5 = .ok (.getfield 33, 3) := dk_180 0 33 (dk_at dksX4_printsLike_0 5 rfl rfl)
theorem dX4_printsLike_8 : decode cX4_printsLike 8 = .ok (.if_icmp .ne 7, 3) := dk_160 0 7 (dk_at dksX4_printsLike_0 8 rfl rfl)
theorem dX4_printsLike_11 : decode cX4_printsLike 11 = .ok (.iconst 1, 1) := dk_4 (dk_at dksX4_printsLike_0 11 rfl rfl)
theorem dX4_printsLike_12 : decode cX4_printsLike 12 = .ok (.goto 4, 3) := dk_167 0 4 (dk_at dksX4_printsLike_0 12 rfl rfl)
theorem dX4_printsLike_15 : decode cX4_printsLike 15 = .ok (.iconst 0, 1) := dk_3 (dk_at dksX4_printsLike_0 15 rfl rfl)
theorem dX4_printsLike_16 : decode cX4_printsLike 16 = .ok (.istore_n 2, 1) := dk_61 (dk_at dksX4_printsLike_0 16 rfl rfl)
theorem dX4_printsLike_17 : decode cX4_printsLike 17 = .ok (.iconst 0, 1) := dk_3 (dk_at dksX4_printsLike_0 17 rfl rfl)
theorem dX4_printsLike_18 : decode cX4_printsLike 18 = .ok (.istore_n 3, 1) := dk_62 (dk_at dksX4_printsLike_0 18 rfl rfl)
theorem dX4_printsLike_19 : decode cX4_printsLike 19 = .ok (.iload_n 3, 1) := dk_29 (dk_at dksX4_printsLike_0 19 rfl rfl)
theorem dX4_printsLike_20 : decode cX4_printsLike 20 = .ok (.aload_n 0, 1) := dk_42 (dk_at dksX4_printsLike_0 20 rfl rfl)
theorem dX4_printsLike_21 : decode cX4_printsLike 21 = .ok (.getfield 33, 3) := dk_180 0 33 (dk_at dksX4_printsLike_0 21 rfl rfl)
theorem dX4_printsLike_24 : decode cX4_printsLike 24 = .ok (.if_icmp .ge 31, 3) := dk_162 0 31 (dk_at dksX4_printsLike_1 0 rfl rfl)
theorem dX4_printsLike_27 : decode cX4_printsLike 27 = .ok (.iload_n 2, 1) := dk_28 (dk_at dksX4_printsLike_1 3 rfl rfl)
theorem dX4_printsLike_28 : decode cX4_printsLike 28 = .ok (.ifCond .eq 27, 3) := dk_153 0 27 (dk_at dksX4_printsLike_1 4 rfl rfl)
theorem dX4_printsLike_31 : decode cX4_printsLike 31 = .ok (.aload_n 0, 1) := dk_42 (dk_at dksX4_printsLike_1 7 rfl rfl)
theorem dX4_printsLike_32 : decode cX4_printsLike 32 = .ok (.getfield 11, 3) := dk_180 0 11 (dk_at dksX4_printsLike_1 8 rfl rfl)
theorem dX4_printsLike_35 : decode cX4_printsLike 35 = .ok (.iload_n 3, 1) := dk_29 (dk_at dksX4_printsLike_1 11 rfl rfl)
theorem dX4_printsLike_36 : decode cX4_printsLike 36 = .ok (.aaload, 1) := dk_50 (dk_at dksX4_printsLike_1 12 rfl rfl)
theorem dX4_printsLike_37 : decode cX4_printsLike 37 = .ok (.aload_n 1, 1) := dk_43 (dk_at dksX4_printsLike_1 13 rfl rfl)
theorem dX4_printsLike_38 : decode cX4_printsLike 38 = .ok (.getfield 11, 3) := dk_180 0 11 (dk_at dksX4_printsLike_1 14 rfl rfl)
theorem dX4_printsLike_41 : decode cX4_printsLike 41 = .ok (.iload_n 3, 1) := dk_29 (dk_at dksX4_printsLike_1 17 rfl rfl)
theorem dX4_printsLike_42 : decode cX4_printsLike 42 = .ok (.aaload, 1) := dk_50 (dk_at dksX4_printsLike_1 18 rfl rfl)
theorem dX4_printsLike_43 : decode cX4_printsLike 43 = .ok (.bipush 12, 2) := dk_16 12 (dk_at dksX4_printsLike_1 19 rfl rfl)
theorem dX4_printsLike_45 : decode cX4_printsLike 45 = .ok (.invokestatic 48, 3) := dk_184 0 48 (dk_at dksX4_printsLike_1 21 rfl rfl)
theorem dX4_printsLike_48 : decode cX4_printsLike 48 = .ok (.istore_n 2, 1) := dk_61 (dk_at dksX4_printsLike_2 0 rfl rfl)
theorem dX4_printsLike_49 : decode cX4_printsLike 49 = .ok (.iinc 3 1, 3) := dk_132 3 1 (dk_at dksX4_printsLike_2 1 rfl rfl)
theorem dX4_printsLike_52 : decode cX4_printsLike 52 = .ok (.goto (-33), 3) := dk_167 255 223 (dk_at dksX4_printsLike_2 4 rfl rfl)
theorem dX4_printsLike_55 : decode cX4_printsLike 55 = .ok (.iload_n 2, 1) := dk_28 (dk_at dksX4_printsLike_2 7 rfl rfl)
theorem dX4_printsLike_56 : decode cX4_printsLike 56 = .ok (.ireturn, 1) := dk_172 (dk_at dksX4_printsLike_2 8 rfl rfl)
abbrev cX4_isLike_2 : ByteArray := prog_9_method_5_code
def yX4_isLike_2 : MethodName := ⟨RX4, "isLike", "([B[BI)Z"⟩
def dkwX4_isLike_2_1 : List UInt8 := [4, 172]
abbrev dktX4_isLike_2_1 : List UInt8 := dkwX4_isLike_2_1 ++ []
def dkwX4_isLike_2_0 : List UInt8 := [3, 62, 29, 28, 162, 0, 20, 42, 29, 51, 43, 29, 51, 159, 0, 5, 3, 172, 132, 3, 1, 167, 255, 237]
abbrev dktX4_isLike_2_0 : List UInt8 := dkwX4_isLike_2_0 ++ dktX4_isLike_2_1
theorem dksX4_isLike_2_0 : cX4_isLike_2.data.toList.drop 0 = dktX4_isLike_2_0 := by decide +kernel
theorem dksX4_isLike_2_1 : cX4_isLike_2.data.toList.drop 24 = dktX4_isLike_2_1 := dk_seg dksX4_isLike_2_0 24 rfl rfl
theorem dX4_isLike_2_0 : decode cX4_isLike_2 0 = .ok (.iconst 0, 1) := dk_3 (dk_at dksX4_isLike_2_0 0 rfl rfl)
theorem dX4_isLike_2_1 : decode cX4_isLike_2 1 = .ok (.istore_n 3, 1) := dk_62 (dk_at dksX4_isLike_2_0 1 rfl rfl)
theorem dX4_isLike_2_2 : decode cX4_isLike_2 2 = .ok (.iload_n 3, 1) := dk_29 (dk_at dksX4_isLike_2_0 2 rfl rfl)
theorem dX4_isLike_2_3 : decode cX4_isLike_2 3 = .ok (.iload_n 2, 1) := dk_28 (dk_at dksX4_isLike_2_0 3 rfl rfl)
theorem dX4_isLike_2_4 : decode cX4_isLike_2 4 = .ok (.if_icmp .ge 20, 3) := dk_162 0 20 (dk_at dksX4_isLike_2_0 4 rfl rfl)
theorem dX4_isLike_2_7 : decode cX4_isLike_2 7 = .ok (.aload_n 0, 1) := dk_42 (dk_at dksX4_isLike_2_0 7 rfl rfl)
theorem dX4_isLike_2_8 : decode cX4_isLike_2 8 = .ok (.iload_n 3, 1) := dk_29 (dk_at dksX4_isLike_2_0 8 rfl rfl)
theorem dX4_isLike_2_9 : decode cX4_isLike_2 9 = .ok (.baload, 1) := dk_51 (dk_at dksX4_isLike_2_0 9 rfl rfl)
theorem dX4_isLike_2_10 : decode cX4_isLike_2 10 = .ok (.aload_n 1, 1) := dk_43 (dk_at dksX4_isLike_2_0 10 rfl rfl)
theorem dX4_isLike_2_11 : decode cX4_isLike_2 11 = .ok (.iload_n 3, 1) := dk_29 (dk_at dksX4_isLike_2_0 11 rfl rfl)
theorem dX4_isLike_2_12 : decode cX4_isLike_2 12 = .ok (.baload, 1) := dk_51 (dk_at dksX4_isLike_2_0 12 rfl rfl)
theorem dX4_isLike_2_13 : decode cX4_isLike_2 13 = .ok (.if_icmp .eq 5, 3) := dk_159 0 5 (dk_at dksX4_isLike_2_0 13 rfl rfl)
theorem dX4_isLike_2_16 : decode cX4_isLike_2 16 = .ok (.iconst 0, 1) := dk_3 (dk_at dksX4_isLike_2_0 16 rfl rfl)
theorem dX4_isLike_2_17 : decode cX4_isLike_2 17 = .ok (.ireturn, 1) := dk_172 (dk_at dksX4_isLike_2_0 17 rfl rfl)
theorem dX4_isLike_2_18 : decode cX4_isLike_2 18 = .ok (.iinc 3 1, 3) := dk_132 3 1 (dk_at dksX4_isLike_2_0 18 rfl rfl)
theorem dX4_isLike_2_21 : decode cX4_isLike_2 21 = .ok (.goto (-19), 3) := dk_167 255 237 (dk_at dksX4_isLike_2_0 21 rfl rfl)
theorem dX4_isLike_2_24 : decode cX4_isLike_2 24 = .ok (.iconst 1, 1) := dk_4 (dk_at dksX4_isLike_2_1 0 rfl rfl)
theorem dX4_isLike_2_25 : decode cX4_isLike_2 25 = .ok (.ireturn, 1) := dk_172 (dk_at dksX4_isLike_2_1 1 rfl rfl)
abbrev cX5_init : ByteArray := prog_5_method_1_code
def yX5_init : MethodName := ⟨RX5, "<init>", "()V"⟩
def dkwX5_init_2 : List UInt8 := [188, 10, 181, 0, 30, 42, 16, 8, 188, 10, 181, 0, 33, 42, 16, 8, 188, 10, 181, 0, 36, 177]
abbrev dktX5_init_2 : List UInt8 := dkwX5_init_2 ++ []
def dkwX5_init_1 : List UInt8 := [188, 10, 181, 0, 21, 42, 6, 188, 10, 181, 0, 24, 42, 16, 8, 188, 10, 181, 0, 27, 42, 16, 8]
abbrev dktX5_init_1 : List UInt8 := dkwX5_init_1 ++ dktX5_init_2
def dkwX5_init_0 : List UInt8 := [42, 183, 0, 3, 42, 16, 6, 189, 0, 11, 181, 0, 13, 42, 16, 6, 188, 10, 181, 0, 17, 42, 16, 6]
abbrev dktX5_init_0 : List UInt8 := dkwX5_init_0 ++ dktX5_init_1
theorem dksX5_init_0 : cX5_init.data.toList.drop 0 = dktX5_init_0 := by decide +kernel
theorem dksX5_init_1 : cX5_init.data.toList.drop 24 = dktX5_init_1 := dk_seg dksX5_init_0 24 rfl rfl
theorem dksX5_init_2 : cX5_init.data.toList.drop 47 = dktX5_init_2 := dk_seg dksX5_init_1 23 rfl rfl
theorem dX5_init_0 : decode cX5_init 0 = .ok (.aload_n 0, 1) := dk_42 (dk_at dksX5_init_0 0 rfl rfl)
theorem dX5_init_1 : decode cX5_init 1 = .ok (.invokespecial 3, 3) := dk_183 0 3 (dk_at dksX5_init_0 1 rfl rfl)
theorem dX5_init_4 : decode cX5_init 4 = .ok (.aload_n 0, 1) := dk_42 (dk_at dksX5_init_0 4 rfl rfl)
theorem dX5_init_5 : decode cX5_init 5 = .ok (.bipush 6, 2) := dk_16 6 (dk_at dksX5_init_0 5 rfl rfl)
theorem dX5_init_7 : decode cX5_init 7 = .ok (.anewarray 11, 3) := dk_189 0 11 (dk_at dksX5_init_0 7 rfl rfl)
theorem dX5_init_10 : decode cX5_init 10 = .ok (.putfield 13, 3) := dk_181 0 13 (dk_at dksX5_init_0 10 rfl rfl)
theorem dX5_init_13 : decode cX5_init 13 = .ok (.aload_n 0, 1) := dk_42 (dk_at dksX5_init_0 13 rfl rfl)
theorem dX5_init_14 : decode cX5_init 14 = .ok (.bipush 6, 2) := dk_16 6 (dk_at dksX5_init_0 14 rfl rfl)
theorem dX5_init_16 : decode cX5_init 16 = .ok (.newarray .int, 2) := dk_188_10 (dk_at dksX5_init_0 16 rfl rfl)
theorem dX5_init_18 : decode cX5_init 18 = .ok (.putfield 17, 3) := dk_181 0 17 (dk_at dksX5_init_0 18 rfl rfl)
theorem dX5_init_21 : decode cX5_init 21 = .ok (.aload_n 0, 1) := dk_42 (dk_at dksX5_init_0 21 rfl rfl)
theorem dX5_init_22 : decode cX5_init 22 = .ok (.bipush 6, 2) := dk_16 6 (dk_at dksX5_init_0 22 rfl rfl)
theorem dX5_init_24 : decode cX5_init 24 = .ok (.newarray .int, 2) := dk_188_10 (dk_at dksX5_init_1 0 rfl rfl)
theorem dX5_init_26 : decode cX5_init 26 = .ok (.putfield 21, 3) := dk_181 0 21 (dk_at dksX5_init_1 2 rfl rfl)
theorem dX5_init_29 : decode cX5_init 29 = .ok (.aload_n 0, 1) := dk_42 (dk_at dksX5_init_1 5 rfl rfl)
theorem dX5_init_30 : decode cX5_init 30 = .ok (.iconst 3, 1) := dk_6 (dk_at dksX5_init_1 6 rfl rfl)
theorem dX5_init_31 : decode cX5_init 31 = .ok (.newarray .int, 2) := dk_188_10 (dk_at dksX5_init_1 7 rfl rfl)
theorem dX5_init_33 : decode cX5_init 33 = .ok (.putfield 24, 3) := dk_181 0 24 (dk_at dksX5_init_1 9 rfl rfl)
theorem dX5_init_36 : decode cX5_init 36 = .ok (.aload_n 0, 1) := dk_42 (dk_at dksX5_init_1 12 rfl rfl)
theorem dX5_init_37 : decode cX5_init 37 = .ok (.bipush 8, 2) := dk_16 8 (dk_at dksX5_init_1 13 rfl rfl)
theorem dX5_init_39 : decode cX5_init 39 = .ok (.newarray .int, 2) := dk_188_10 (dk_at dksX5_init_1 15 rfl rfl)
theorem dX5_init_41 : decode cX5_init 41 = .ok (.putfield 27, 3) := dk_181 0 27 (dk_at dksX5_init_1 17 rfl rfl)
theorem dX5_init_44 : decode cX5_init 44 = .ok (.aload_n 0, 1) := dk_42 (dk_at dksX5_init_1 20 rfl rfl)
theorem dX5_init_45 : decode cX5_init 45 = .ok (.bipush 8, 2) := dk_16 8 (dk_at dksX5_init_1 21 rfl rfl)
theorem dX5_init_47 : decode cX5_init 47 = .ok (.newarray .int, 2) := dk_188_10 (dk_at dksX5_init_2 0 rfl rfl)
theorem dX5_init_49 : decode cX5_init 49 = .ok (.putfield 30, 3) := dk_181 0 30 (dk_at dksX5_init_2 2 rfl rfl)
theorem dX5_init_52 : decode cX5_init 52 = .ok (.aload_n 0, 1) := dk_42 (dk_at dksX5_init_2 5 rfl rfl)
theorem dX5_init_53 : decode cX5_init 53 = .ok (.bipush 8, 2) := dk_16 8 (dk_at dksX5_init_2 6 rfl rfl)
theorem dX5_init_55 : decode cX5_init 55 = .ok (.newarray .int, 2) := dk_188_10 (dk_at dksX5_init_2 8 rfl rfl)
theorem dX5_init_57 : decode cX5_init 57 = .ok (.putfield 33, 3) := dk_181 0 33 (dk_at dksX5_init_2 10 rfl rfl)
theorem dX5_init_60 : decode cX5_init 60 = .ok (.aload_n 0, 1) := dk_42 (dk_at dksX5_init_2 13 rfl rfl)
theorem dX5_init_61 : decode cX5_init 61 = .ok (.bipush 8, 2) := dk_16 8 (dk_at dksX5_init_2 14 rfl rfl)
theorem dX5_init_63 : decode cX5_init 63 = .ok (.newarray .int, 2) := dk_188_10 (dk_at dksX5_init_2 16 rfl rfl)
theorem dX5_init_65 : decode cX5_init 65 = .ok (.putfield 36, 3) := dk_181 0 36 (dk_at dksX5_init_2 18 rfl rfl)
theorem dX5_init_68 : decode cX5_init 68 = .ok (.return_, 1) := dk_177 (dk_at dksX5_init_2 21 rfl rfl)
abbrev cX5_find : ByteArray := prog_5_method_2_code
def yX5_find : MethodName := ⟨RX5, "find", "(Ljava/lang/String;)I"⟩
def dkwX5_find_1 : List UInt8 := [172, 132, 2, 1, 167, 255, 230, 2, 172]
abbrev dktX5_find_1 : List UInt8 := dkwX5_find_1 ++ []
def dkwX5_find_0 : List UInt8 := [3, 61, 28, 42, 180, 0, 39, 162, 0, 24, 42, 180, 0, 13, 28, 50, 43, 182, 0, 43, 153, 0, 5, 28]
abbrev dktX5_find_0 : List UInt8 := dkwX5_find_0 ++ dktX5_find_1
theorem dksX5_find_0 : cX5_find.data.toList.drop 0 = dktX5_find_0 := by decide +kernel
theorem dksX5_find_1 : cX5_find.data.toList.drop 24 = dktX5_find_1 := dk_seg dksX5_find_0 24 rfl rfl
theorem dX5_find_0 : decode cX5_find 0 = .ok (.iconst 0, 1) := dk_3 (dk_at dksX5_find_0 0 rfl rfl)
theorem dX5_find_1 : decode cX5_find 1 = .ok (.istore_n 2, 1) := dk_61 (dk_at dksX5_find_0 1 rfl rfl)
theorem dX5_find_2 : decode cX5_find 2 = .ok (.iload_n 2, 1) := dk_28 (dk_at dksX5_find_0 2 rfl rfl)
theorem dX5_find_3 : decode cX5_find 3 = .ok (.aload_n 0, 1) := dk_42 (dk_at dksX5_find_0 3 rfl rfl)
theorem dX5_find_4 : decode cX5_find 4 = .ok (.getfield 39, 3) := dk_180 0 39 (dk_at dksX5_find_0 4 rfl rfl)
theorem dX5_find_7 : decode cX5_find 7 = .ok (.if_icmp .ge 24, 3) := dk_162 0 24 (dk_at dksX5_find_0 7 rfl rfl)
theorem dX5_find_10 : decode cX5_find 10 = .ok (.aload_n 0, 1) := dk_42 (dk_at dksX5_find_0 10 rfl rfl)
theorem dX5_find_11 : decode cX5_find 11 = .ok (.getfield 13, 3) := dk_180 0 13 (dk_at dksX5_find_0 11 rfl rfl)
theorem dX5_find_14 : decode cX5_find 14 = .ok (.iload_n 2, 1) := dk_28 (dk_at dksX5_find_0 14 rfl rfl)
theorem dX5_find_15 : decode cX5_find 15 = .ok (.aaload, 1) := dk_50 (dk_at dksX5_find_0 15 rfl rfl)
theorem dX5_find_16 : decode cX5_find 16 = .ok (.aload_n 1, 1) := dk_43 (dk_at dksX5_find_0 16 rfl rfl)
theorem dX5_find_17 : decode cX5_find 17 = .ok (.invokevirtual 43, 3) := dk_182 0 43 (dk_at dksX5_find_0 17 rfl rfl)
theorem dX5_find_20 : decode cX5_find 20 = .ok (.ifCond .eq 5, 3) := dk_153 0 5 (dk_at dksX5_find_0 20 rfl rfl)
theorem dX5_find_23 : decode cX5_find 23 = .ok (.iload_n 2, 1) := dk_28 (dk_at dksX5_find_0 23 rfl rfl)
theorem dX5_find_24 : decode cX5_find 24 = .ok (.ireturn, 1) := dk_172 (dk_at dksX5_find_1 0 rfl rfl)
theorem dX5_find_25 : decode cX5_find 25 = .ok (.iinc 2 1, 3) := dk_132 2 1 (dk_at dksX5_find_1 1 rfl rfl)
theorem dX5_find_28 : decode cX5_find 28 = .ok (.goto (-26), 3) := dk_167 255 230 (dk_at dksX5_find_1 4 rfl rfl)
theorem dX5_find_31 : decode cX5_find 31 = .ok (.iconst (-1), 1) := dk_2 (dk_at dksX5_find_1 7 rfl rfl)
theorem dX5_find_32 : decode cX5_find 32 = .ok (.ireturn, 1) := dk_172 (dk_at dksX5_find_1 8 rfl rfl)
abbrev cX5_adds : ByteArray := prog_5_method_3_code
def yX5_adds : MethodName := ⟨RX5, "adds", "(I[B)I"⟩
def dkwX5_adds_4 : List UInt8 := [180, 0, 36, 27, 46, 4, 100, 51, 16, 16, 126, 153, 0, 8, 29, 116, 167, 0, 4, 29, 172]
abbrev dktX5_adds_4 : List UInt8 := dkwX5_adds_4 ++ []
def dkwX5_adds_3 : List UInt8 := [16, 15, 126, 96, 62, 132, 4, 1, 167, 255, 204, 42, 180, 0, 36, 27, 46, 158, 0, 24, 44, 42]
abbrev dktX5_adds_3 : List UInt8 := dkwX5_adds_3 ++ dktX5_adds_4
def dkwX5_adds_2 : List UInt8 := [21, 4, 4, 100, 51, 16, 15, 126, 16, 15, 160, 0, 7, 3, 167, 0, 12, 44, 21, 4, 4, 100, 51]
abbrev dktX5_adds_2 : List UInt8 := dkwX5_adds_2 ++ dktX5_adds_3
def dkwX5_adds_1 : List UInt8 := [46, 54, 4, 21, 4, 42, 180, 0, 21, 42, 180, 0, 27, 27, 46, 46, 163, 0, 42, 16, 10, 29, 104, 44]
abbrev dktX5_adds_1 : List UInt8 := dkwX5_adds_1 ++ dktX5_adds_2
def dkwX5_adds_0 : List UInt8 := [42, 180, 0, 27, 27, 46, 2, 160, 0, 5, 4, 172, 3, 62, 42, 180, 0, 17, 42, 180, 0, 27, 27, 46]
abbrev dktX5_adds_0 : List UInt8 := dkwX5_adds_0 ++ dktX5_adds_1
theorem dksX5_adds_0 : cX5_adds.data.toList.drop 0 = dktX5_adds_0 := by decide +kernel
theorem dksX5_adds_1 : cX5_adds.data.toList.drop 24 = dktX5_adds_1 := dk_seg dksX5_adds_0 24 rfl rfl
theorem dksX5_adds_2 : cX5_adds.data.toList.drop 48 = dktX5_adds_2 := dk_seg dksX5_adds_1 24 rfl rfl
theorem dksX5_adds_3 : cX5_adds.data.toList.drop 71 = dktX5_adds_3 := dk_seg dksX5_adds_2 23 rfl rfl
theorem dksX5_adds_4 : cX5_adds.data.toList.drop 93 = dktX5_adds_4 := dk_seg dksX5_adds_3 22 rfl rfl
theorem dX5_adds_0 : decode cX5_adds 0 = .ok (.aload_n 0, 1) := dk_42 (dk_at dksX5_adds_0 0 rfl rfl)
theorem dX5_adds_1 : decode cX5_adds 1 = .ok (.getfield 27, 3) := dk_180 0 27 (dk_at dksX5_adds_0 1 rfl rfl)
theorem dX5_adds_4 : decode cX5_adds 4 = .ok (.iload_n 1, 1) := dk_27 (dk_at dksX5_adds_0 4 rfl rfl)
theorem dX5_adds_5 : decode cX5_adds 5 = .ok (.iaload, 1) := dk_46 (dk_at dksX5_adds_0 5 rfl rfl)
theorem dX5_adds_6 : decode cX5_adds 6 = .ok (.iconst (-1), 1) := dk_2 (dk_at dksX5_adds_0 6 rfl rfl)
theorem dX5_adds_7 : decode cX5_adds 7 = .ok (.if_icmp .ne 5, 3) := dk_160 0 5 (dk_at dksX5_adds_0 7 rfl rfl)
theorem dX5_adds_10 : decode cX5_adds 10 = .ok (.iconst 1, 1) := dk_4 (dk_at dksX5_adds_0 10 rfl rfl)
theorem dX5_adds_11 : decode cX5_adds 11 = .ok (.ireturn, 1) := dk_172 (dk_at dksX5_adds_0 11 rfl rfl)
theorem dX5_adds_12 : decode cX5_adds 12 = .ok (.iconst 0, 1) := dk_3 (dk_at dksX5_adds_0 12 rfl rfl)
theorem dX5_adds_13 : decode cX5_adds 13 = .ok (.istore_n 3, 1) := dk_62 (dk_at dksX5_adds_0 13 rfl rfl)
theorem dX5_adds_14 : decode cX5_adds 14 = .ok (.aload_n 0, 1) := dk_42 (dk_at dksX5_adds_0 14 rfl rfl)
theorem dX5_adds_15 : decode cX5_adds 15 = .ok (.getfield 17, 3) := dk_180 0 17 (dk_at dksX5_adds_0 15 rfl rfl)
theorem dX5_adds_18 : decode cX5_adds 18 = .ok (.aload_n 0, 1) := dk_42 (dk_at dksX5_adds_0 18 rfl rfl)
theorem dX5_adds_19 : decode cX5_adds 19 = .ok (.getfield 27, 3) := dk_180 0 27 (dk_at dksX5_adds_0 19 rfl rfl)
theorem dX5_adds_22 : decode cX5_adds 22 = .ok (.iload_n 1, 1) := dk_27 (dk_at dksX5_adds_0 22 rfl rfl)
theorem dX5_adds_23 : decode cX5_adds 23 = .ok (.iaload, 1) := dk_46 (dk_at dksX5_adds_0 23 rfl rfl)
theorem dX5_adds_24 : decode cX5_adds 24 = .ok (.iaload, 1) := dk_46 (dk_at dksX5_adds_1 0 rfl rfl)
theorem dX5_adds_25 : decode cX5_adds 25 = .ok (.istore 4, 2) := dk_54 4 (dk_at dksX5_adds_1 1 rfl rfl)
theorem dX5_adds_27 : decode cX5_adds 27 = .ok (.iload 4, 2) := dk_21 4 (dk_at dksX5_adds_1 3 rfl rfl)
theorem dX5_adds_29 : decode cX5_adds 29 = .ok (.aload_n 0, 1) := dk_42 (dk_at dksX5_adds_1 5 rfl rfl)
theorem dX5_adds_30 : decode cX5_adds 30 = .ok (.getfield 21, 3) := dk_180 0 21 (dk_at dksX5_adds_1 6 rfl rfl)
theorem dX5_adds_33 : decode cX5_adds 33 = .ok (.aload_n 0, 1) := dk_42 (dk_at dksX5_adds_1 9 rfl rfl)
theorem dX5_adds_34 : decode cX5_adds 34 = .ok (.getfield 27, 3) := dk_180 0 27 (dk_at dksX5_adds_1 10 rfl rfl)
theorem dX5_adds_37 : decode cX5_adds 37 = .ok (.iload_n 1, 1) := dk_27 (dk_at dksX5_adds_1 13 rfl rfl)
theorem dX5_adds_38 : decode cX5_adds 38 = .ok (.iaload, 1) := dk_46 (dk_at dksX5_adds_1 14 rfl rfl)
theorem dX5_adds_39 : decode cX5_adds 39 = .ok (.iaload, 1) := dk_46 (dk_at dksX5_adds_1 15 rfl rfl)
theorem dX5_adds_40 : decode cX5_adds 40 = .ok (.if_icmp .gt 42, 3) := dk_163 0 42 (dk_at dksX5_adds_1 16 rfl rfl)
theorem dX5_adds_43 : decode cX5_adds 43 = .ok (.bipush 10, 2) := dk_16 10 (dk_at dksX5_adds_1 19 rfl rfl)
theorem dX5_adds_45 : decode cX5_adds 45 = .ok (.iload_n 3, 1) := dk_29 (dk_at dksX5_adds_1 21 rfl rfl)
theorem dX5_adds_46 : decode cX5_adds 46 = .ok (.imul, 1) := dk_104 (dk_at dksX5_adds_1 22 rfl rfl)
theorem dX5_adds_47 : decode cX5_adds 47 = .ok (.aload_n 2, 1) := dk_44 (dk_at dksX5_adds_1 23 rfl rfl)
theorem dX5_adds_48 : decode cX5_adds 48 = .ok (.iload 4, 2) := dk_21 4 (dk_at dksX5_adds_2 0 rfl rfl)
theorem dX5_adds_50 : decode cX5_adds 50 = .ok (.iconst 1, 1) := dk_4 (dk_at dksX5_adds_2 2 rfl rfl)
theorem dX5_adds_51 : decode cX5_adds 51 = .ok (.isub, 1) := dk_100 (dk_at dksX5_adds_2 3 rfl rfl)
theorem dX5_adds_52 : decode cX5_adds 52 = .ok (.baload, 1) := dk_51 (dk_at dksX5_adds_2 4 rfl rfl)
theorem dX5_adds_53 : decode cX5_adds 53 = .ok (.bipush 15, 2) := dk_16 15 (dk_at dksX5_adds_2 5 rfl rfl)
theorem dX5_adds_55 : decode cX5_adds 55 = .ok (.iand, 1) := dk_126 (dk_at dksX5_adds_2 7 rfl rfl)
theorem dX5_adds_56 : decode cX5_adds 56 = .ok (.bipush 15, 2) := dk_16 15 (dk_at dksX5_adds_2 8 rfl rfl)
theorem dX5_adds_58 : decode cX5_adds 58 = .ok (.if_icmp .ne 7, 3) := dk_160 0 7 (dk_at dksX5_adds_2 10 rfl rfl)
theorem dX5_adds_61 : decode cX5_adds 61 = .ok (.iconst 0, 1) := dk_3 (dk_at dksX5_adds_2 13 rfl rfl)
theorem dX5_adds_62 : decode cX5_adds 62 = .ok (.goto 12, 3) := dk_167 0 12 (dk_at dksX5_adds_2 14 rfl rfl)
theorem dX5_adds_65 : decode cX5_adds 65 = .ok (.aload_n 2, 1) := dk_44 (dk_at dksX5_adds_2 17 rfl rfl)
theorem dX5_adds_66 : decode cX5_adds 66 = .ok (.iload 4, 2) := dk_21 4 (dk_at dksX5_adds_2 18 rfl rfl)
theorem dX5_adds_68 : decode cX5_adds 68 = .ok (.iconst 1, 1) := dk_4 (dk_at dksX5_adds_2 20 rfl rfl)
theorem dX5_adds_69 : decode cX5_adds 69 = .ok (.isub, 1) := dk_100 (dk_at dksX5_adds_2 21 rfl rfl)
theorem dX5_adds_70 : decode cX5_adds 70 = .ok (.baload, 1) := dk_51 (dk_at dksX5_adds_2 22 rfl rfl)
theorem dX5_adds_71 : decode cX5_adds 71 = .ok (.bipush 15, 2) := dk_16 15 (dk_at dksX5_adds_3 0 rfl rfl)
theorem dX5_adds_73 : decode cX5_adds 73 = .ok (.iand, 1) := dk_126 (dk_at dksX5_adds_3 2 rfl rfl)
theorem dX5_adds_74 : decode cX5_adds 74 = .ok (.iadd, 1) := dk_96 (dk_at dksX5_adds_3 3 rfl rfl)
theorem dX5_adds_75 : decode cX5_adds 75 = .ok (.istore_n 3, 1) := dk_62 (dk_at dksX5_adds_3 4 rfl rfl)
theorem dX5_adds_76 : decode cX5_adds 76 = .ok (.iinc 4 1, 3) := dk_132 4 1 (dk_at dksX5_adds_3 5 rfl rfl)
theorem dX5_adds_79 : decode cX5_adds 79 = .ok (.goto (-52), 3) := dk_167 255 204 (dk_at dksX5_adds_3 8 rfl rfl)
theorem dX5_adds_82 : decode cX5_adds 82 = .ok (.aload_n 0, 1) := dk_42 (dk_at dksX5_adds_3 11 rfl rfl)
theorem dX5_adds_83 : decode cX5_adds 83 = .ok (.getfield 36, 3) := dk_180 0 36 (dk_at dksX5_adds_3 12 rfl rfl)
theorem dX5_adds_86 : decode cX5_adds 86 = .ok (.iload_n 1, 1) := dk_27 (dk_at dksX5_adds_3 15 rfl rfl)
theorem dX5_adds_87 : decode cX5_adds 87 = .ok (.iaload, 1) := dk_46 (dk_at dksX5_adds_3 16 rfl rfl)
theorem dX5_adds_88 : decode cX5_adds 88 = .ok (.ifCond .le 24, 3) := dk_158 0 24 (dk_at dksX5_adds_3 17 rfl rfl)
theorem dX5_adds_91 : decode cX5_adds 91 = .ok (.aload_n 2, 1) := dk_44 (dk_at dksX5_adds_3 20 rfl rfl)
theorem dX5_adds_92 : decode cX5_adds 92 = .ok (.aload_n 0, 1) := dk_42 (dk_at dksX5_adds_3 21 rfl rfl)
theorem dX5_adds_93 : decode cX5_adds 93 = .ok (.getfield 36, 3) := dk_180 0 36 (dk_at dksX5_adds_4 0 rfl rfl)
theorem dX5_adds_96 : decode cX5_adds 96 = .ok (.iload_n 1, 1) := dk_27 (dk_at dksX5_adds_4 3 rfl rfl)
theorem dX5_adds_97 : decode cX5_adds 97 = .ok (.iaload, 1) := dk_46 (dk_at dksX5_adds_4 4 rfl rfl)
theorem dX5_adds_98 : decode cX5_adds 98 = .ok (.iconst 1, 1) := dk_4 (dk_at dksX5_adds_4 5 rfl rfl)
theorem dX5_adds_99 : decode cX5_adds 99 = .ok (.isub, 1) := dk_100 (dk_at dksX5_adds_4 6 rfl rfl)
theorem dX5_adds_100 : decode cX5_adds 100 = .ok (.baload, 1) := dk_51 (dk_at dksX5_adds_4 7 rfl rfl)
theorem dX5_adds_101 : decode cX5_adds 101 = .ok (.bipush 16, 2) := dk_16 16 (dk_at dksX5_adds_4 8 rfl rfl)
theorem dX5_adds_103 : decode cX5_adds 103 = .ok (.iand, 1) := dk_126 (dk_at dksX5_adds_4 10 rfl rfl)
theorem dX5_adds_104 : decode cX5_adds 104 = .ok (.ifCond .eq 8, 3) := dk_153 0 8 (dk_at dksX5_adds_4 11 rfl rfl)
theorem dX5_adds_107 : decode cX5_adds 107 = .ok (.iload_n 3, 1) := dk_29 (dk_at dksX5_adds_4 14 rfl rfl)
theorem dX5_adds_108 : decode cX5_adds 108 = .ok (.ineg, 1) := dk_116 (dk_at dksX5_adds_4 15 rfl rfl)
theorem dX5_adds_109 : decode cX5_adds 109 = .ok (.goto 4, 3) := dk_167 0 4 (dk_at dksX5_adds_4 16 rfl rfl)
theorem dX5_adds_112 : decode cX5_adds 112 = .ok (.iload_n 3, 1) := dk_29 (dk_at dksX5_adds_4 19 rfl rfl)
theorem dX5_adds_113 : decode cX5_adds 113 = .ok (.ireturn, 1) := dk_172 (dk_at dksX5_adds_4 20 rfl rfl)
abbrev cX5_orderBehind : ByteArray := prog_5_method_4_code
def yX5_orderBehind : MethodName := ⟨RX5, "orderBehind", "([B[B)I"⟩
def dkwX5_orderBehind_3 : List UInt8 := [167, 255, 197, 29, 172]
abbrev dktX5_orderBehind_3 : List UInt8 := dkwX5_orderBehind_3 ++ []
def dkwX5_orderBehind_2 : List UInt8 := [180, 0, 24, 21, 4, 4, 100, 46, 4, 100, 51, 16, 15, 126, 159, 0, 6, 21, 4, 62, 132, 4, 1]
abbrev dktX5_orderBehind_2 : List UInt8 := dkwX5_orderBehind_2 ++ dktX5_orderBehind_3
def dkwX5_orderBehind_1 : List UInt8 := [100, 46, 158, 0, 41, 43, 42, 180, 0, 24, 21, 4, 4, 100, 46, 4, 100, 51, 16, 15, 126, 44, 42]
abbrev dktX5_orderBehind_1 : List UInt8 := dkwX5_orderBehind_1 ++ dktX5_orderBehind_2
def dkwX5_orderBehind_0 : List UInt8 := [44, 199, 0, 5, 6, 172, 3, 62, 4, 54, 4, 21, 4, 6, 163, 0, 59, 42, 180, 0, 24, 21, 4, 4]
abbrev dktX5_orderBehind_0 : List UInt8 := dkwX5_orderBehind_0 ++ dktX5_orderBehind_1
theorem dksX5_orderBehind_0 : cX5_orderBehind.data.toList.drop 0 = dktX5_orderBehind_0 := by decide +kernel
theorem dksX5_orderBehind_1 : cX5_orderBehind.data.toList.drop 24 = dktX5_orderBehind_1 := dk_seg dksX5_orderBehind_0 24 rfl rfl
theorem dksX5_orderBehind_2 : cX5_orderBehind.data.toList.drop 47 = dktX5_orderBehind_2 := dk_seg dksX5_orderBehind_1 23 rfl rfl
theorem dksX5_orderBehind_3 : cX5_orderBehind.data.toList.drop 70 = dktX5_orderBehind_3 := dk_seg dksX5_orderBehind_2 23 rfl rfl
theorem dX5_orderBehind_0 : decode cX5_orderBehind 0 = .ok (.aload_n 2, 1) := dk_44 (dk_at dksX5_orderBehind_0 0 rfl rfl)
theorem dX5_orderBehind_1 : decode cX5_orderBehind 1 = .ok (.ifnonnull 5, 3) := dk_199 0 5 (dk_at dksX5_orderBehind_0 1 rfl rfl)
theorem dX5_orderBehind_4 : decode cX5_orderBehind 4 = .ok (.iconst 3, 1) := dk_6 (dk_at dksX5_orderBehind_0 4 rfl rfl)
theorem dX5_orderBehind_5 : decode cX5_orderBehind 5 = .ok (.ireturn, 1) := dk_172 (dk_at dksX5_orderBehind_0 5 rfl rfl)
theorem dX5_orderBehind_6 : decode cX5_orderBehind 6 = .ok (.iconst 0, 1) := dk_3 (dk_at dksX5_orderBehind_0 6 rfl rfl)
theorem dX5_orderBehind_7 : decode cX5_orderBehind 7 = .ok (.istore_n 3, 1) := dk_62 (dk_at dksX5_orderBehind_0 7 rfl rfl)
theorem dX5_orderBehind_8 : decode cX5_orderBehind 8 = .ok (.iconst 1, 1) := dk_4 (dk_at dksX5_orderBehind_0 8 rfl rfl)
theorem dX5_orderBehind_9 : decode cX5_orderBehind 9 = .ok (.istore 4, 2) := dk_54 4 (dk_at dksX5_orderBehind_0 9 rfl rfl)
theorem dX5_orderBehind_11 : decode cX5_orderBehind 11 = .ok (.iload 4, 2) := dk_21 4 (dk_at dksX5_orderBehind_0 11 rfl rfl)
theorem dX5_orderBehind_13 : decode cX5_orderBehind 13 = .ok (.iconst 3, 1) := dk_6 (dk_at dksX5_orderBehind_0 13 rfl rfl)
theorem dX5_orderBehind_14 : decode cX5_orderBehind 14 = .ok (.if_icmp .gt 59, 3) := dk_163 0 59 (dk_at dksX5_orderBehind_0 14 rfl rfl)
theorem dX5_orderBehind_17 : decode cX5_orderBehind 17 = .ok (.aload_n 0, 1) := dk_42 (dk_at dksX5_orderBehind_0 17 rfl rfl)
theorem dX5_orderBehind_18 : decode cX5_orderBehind 18 = .ok (.getfield 24, 3) := dk_180 0 24 (dk_at dksX5_orderBehind_0 18 rfl rfl)
theorem dX5_orderBehind_21 : decode cX5_orderBehind 21 = .ok (.iload 4, 2) := dk_21 4 (dk_at dksX5_orderBehind_0 21 rfl rfl)
theorem dX5_orderBehind_23 : decode cX5_orderBehind 23 = .ok (.iconst 1, 1) := dk_4 (dk_at dksX5_orderBehind_0 23 rfl rfl)
theorem dX5_orderBehind_24 : decode cX5_orderBehind 24 = .ok (.isub, 1) := dk_100 (dk_at dksX5_orderBehind_1 0 rfl rfl)
theorem dX5_orderBehind_25 : decode cX5_orderBehind 25 = .ok (.iaload, 1) := dk_46 (dk_at dksX5_orderBehind_1 1 rfl rfl)
theorem dX5_orderBehind_26 : decode cX5_orderBehind 26 = .ok (.ifCond .le 41, 3) := dk_158 0 41 (dk_at dksX5_orderBehind_1 2 rfl rfl)
theorem dX5_orderBehind_29 : decode cX5_orderBehind 29 = .ok (.aload_n 1, 1) := dk_43 (dk_at dksX5_orderBehind_1 5 rfl rfl)
theorem dX5_orderBehind_30 : decode cX5_orderBehind 30 = .ok (.aload_n 0, 1) := dk_42 (dk_at dksX5_orderBehind_1 6 rfl rfl)
theorem dX5_orderBehind_31 : decode cX5_orderBehind 31 = .ok (.getfield 24, 3) := dk_180 0 24 (dk_at dksX5_orderBehind_1 7 rfl rfl)
theorem dX5_orderBehind_34 : decode cX5_orderBehind 34 = .ok (.iload 4, 2) := dk_21 4 (dk_at dksX5_orderBehind_1 10 rfl rfl)
theorem dX5_orderBehind_36 : decode cX5_orderBehind 36 = .ok (.iconst 1, 1) := dk_4 (dk_at dksX5_orderBehind_1 12 rfl rfl)
theorem dX5_orderBehind_37 : decode cX5_orderBehind 37 = .ok (.isub, 1) := dk_100 (dk_at dksX5_orderBehind_1 13 rfl rfl)
theorem dX5_orderBehind_38 : decode cX5_orderBehind 38 = .ok (.iaload, 1) := dk_46 (dk_at dksX5_orderBehind_1 14 rfl rfl)
theorem dX5_orderBehind_39 : decode cX5_orderBehind 39 = .ok (.iconst 1, 1) := dk_4 (dk_at dksX5_orderBehind_1 15 rfl rfl)
theorem dX5_orderBehind_40 : decode cX5_orderBehind 40 = .ok (.isub, 1) := dk_100 (dk_at dksX5_orderBehind_1 16 rfl rfl)
theorem dX5_orderBehind_41 : decode cX5_orderBehind 41 = .ok (.baload, 1) := dk_51 (dk_at dksX5_orderBehind_1 17 rfl rfl)
theorem dX5_orderBehind_42 : decode cX5_orderBehind 42 = .ok (.bipush 15, 2) := dk_16 15 (dk_at dksX5_orderBehind_1 18 rfl rfl)
theorem dX5_orderBehind_44 : decode cX5_orderBehind 44 = .ok (.iand, 1) := dk_126 (dk_at dksX5_orderBehind_1 20 rfl rfl)
theorem dX5_orderBehind_45 : decode cX5_orderBehind 45 = .ok (.aload_n 2, 1) := dk_44 (dk_at dksX5_orderBehind_1 21 rfl rfl)
theorem dX5_orderBehind_46 : decode cX5_orderBehind 46 = .ok (.aload_n 0, 1) := dk_42 (dk_at dksX5_orderBehind_1 22 rfl rfl)
theorem dX5_orderBehind_47 : decode cX5_orderBehind 47 = .ok (.getfield 24, 3) := dk_180 0 24 (dk_at dksX5_orderBehind_2 0 rfl rfl)
theorem dX5_orderBehind_50 : decode cX5_orderBehind 50 = .ok (.iload 4, 2) := dk_21 4 (dk_at dksX5_orderBehind_2 3 rfl rfl)
theorem dX5_orderBehind_52 : decode cX5_orderBehind 52 = .ok (.iconst 1, 1) := dk_4 (dk_at dksX5_orderBehind_2 5 rfl rfl)
theorem dX5_orderBehind_53 : decode cX5_orderBehind 53 = .ok (.isub, 1) := dk_100 (dk_at dksX5_orderBehind_2 6 rfl rfl)
theorem dX5_orderBehind_54 : decode cX5_orderBehind 54 = .ok (.iaload, 1) := dk_46 (dk_at dksX5_orderBehind_2 7 rfl rfl)
theorem dX5_orderBehind_55 : decode cX5_orderBehind 55 = .ok (.iconst 1, 1) := dk_4 (dk_at dksX5_orderBehind_2 8 rfl rfl)
theorem dX5_orderBehind_56 : decode cX5_orderBehind 56 = .ok (.isub, 1) := dk_100 (dk_at dksX5_orderBehind_2 9 rfl rfl)
theorem dX5_orderBehind_57 : decode cX5_orderBehind 57 = .ok (.baload, 1) := dk_51 (dk_at dksX5_orderBehind_2 10 rfl rfl)
theorem dX5_orderBehind_58 : decode cX5_orderBehind 58 = .ok (.bipush 15, 2) := dk_16 15 (dk_at dksX5_orderBehind_2 11 rfl rfl)
theorem dX5_orderBehind_60 : decode cX5_orderBehind 60 = .ok (.iand, 1) := dk_126 (dk_at dksX5_orderBehind_2 13 rfl rfl)
theorem dX5_orderBehind_61 : decode cX5_orderBehind 61 = .ok (.if_icmp .eq 6, 3) := dk_159 0 6 (dk_at dksX5_orderBehind_2 14 rfl rfl)
theorem dX5_orderBehind_64 : decode cX5_orderBehind 64 = .ok (.iload 4, 2) := dk_21 4 (dk_at dksX5_orderBehind_2 17 rfl rfl)
theorem dX5_orderBehind_66 : decode cX5_orderBehind 66 = .ok (.istore_n 3, 1) := dk_62 (dk_at dksX5_orderBehind_2 19 rfl rfl)
theorem dX5_orderBehind_67 : decode cX5_orderBehind 67 = .ok (.iinc 4 1, 3) := dk_132 4 1 (dk_at dksX5_orderBehind_2 20 rfl rfl)
theorem dX5_orderBehind_70 : decode cX5_orderBehind 70 = .ok (.goto (-59), 3) := dk_167 255 197 (dk_at dksX5_orderBehind_3 0 rfl rfl)
theorem dX5_orderBehind_73 : decode cX5_orderBehind 73 = .ok (.iload_n 3, 1) := dk_29 (dk_at dksX5_orderBehind_3 3 rfl rfl)
theorem dX5_orderBehind_74 : decode cX5_orderBehind 74 = .ok (.ireturn, 1) := dk_172 (dk_at dksX5_orderBehind_3 4 rfl rfl)
abbrev cX6_init : ByteArray := prog_3_method_1_code
def yX6_init : MethodName := ⟨RX6, "<init>", "()V"⟩
def dkwX6_init_0 : List UInt8 := [42, 183, 0, 3, 42, 16, 40, 189, 0, 9, 181, 0, 11, 177]
abbrev dktX6_init_0 : List UInt8 := dkwX6_init_0 ++ []
theorem dksX6_init_0 : cX6_init.data.toList.drop 0 = dktX6_init_0 := by decide +kernel
theorem dX6_init_0 : decode cX6_init 0 = .ok (.aload_n 0, 1) := dk_42 (dk_at dksX6_init_0 0 rfl rfl)
theorem dX6_init_1 : decode cX6_init 1 = .ok (.invokespecial 3, 3) := dk_183 0 3 (dk_at dksX6_init_0 1 rfl rfl)
theorem dX6_init_4 : decode cX6_init 4 = .ok (.aload_n 0, 1) := dk_42 (dk_at dksX6_init_0 4 rfl rfl)
theorem dX6_init_5 : decode cX6_init 5 = .ok (.bipush 40, 2) := dk_16 40 (dk_at dksX6_init_0 5 rfl rfl)
theorem dX6_init_7 : decode cX6_init 7 = .ok (.anewarray 9, 3) := dk_189 0 9 (dk_at dksX6_init_0 7 rfl rfl)
theorem dX6_init_10 : decode cX6_init 10 = .ok (.putfield 11, 3) := dk_181 0 11 (dk_at dksX6_init_0 10 rfl rfl)
theorem dX6_init_13 : decode cX6_init 13 = .ok (.return_, 1) := dk_177 (dk_at dksX6_init_0 13 rfl rfl)
abbrev cX8_init : ByteArray := prog_12_method_1_code
def yX8_init : MethodName := ⟨RX8, "<init>", "([BII)V"⟩
def dkwX8_init_1 : List UInt8 := [181, 0, 23, 177]
abbrev dktX8_init_1 : List UInt8 := dkwX8_init_1 ++ []
def dkwX8_init_0 : List UInt8 := [42, 183, 0, 1, 42, 18, 7, 181, 0, 9, 42, 43, 181, 0, 15, 42, 28, 181, 0, 19, 42, 29]
abbrev dktX8_init_0 : List UInt8 := dkwX8_init_0 ++ dktX8_init_1
theorem dksX8_init_0 : cX8_init.data.toList.drop 0 = dktX8_init_0 := by decide +kernel
theorem dksX8_init_1 : cX8_init.data.toList.drop 22 = dktX8_init_1 := dk_seg dksX8_init_0 22 rfl rfl
theorem dX8_init_0 : decode cX8_init 0 = .ok (.aload_n 0, 1) := dk_42 (dk_at dksX8_init_0 0 rfl rfl)
theorem dX8_init_1 : decode cX8_init 1 = .ok (.invokespecial 1, 3) := dk_183 0 1 (dk_at dksX8_init_0 1 rfl rfl)
theorem dX8_init_4 : decode cX8_init 4 = .ok (.aload_n 0, 1) := dk_42 (dk_at dksX8_init_0 4 rfl rfl)
theorem dX8_init_5 : decode cX8_init 5 = .ok (.ldc 7, 2) := dk_18 7 (dk_at dksX8_init_0 5 rfl rfl)
theorem dX8_init_7 : decode cX8_init 7 = .ok (.putfield 9, 3) := dk_181 0 9 (dk_at dksX8_init_0 7 rfl rfl)
theorem dX8_init_10 : decode cX8_init 10 = .ok (.aload_n 0, 1) := dk_42 (dk_at dksX8_init_0 10 rfl rfl)
theorem dX8_init_11 : decode cX8_init 11 = .ok (.aload_n 1, 1) := dk_43 (dk_at dksX8_init_0 11 rfl rfl)
theorem dX8_init_12 : decode cX8_init 12 = .ok (.putfield 15, 3) := dk_181 0 15 (dk_at dksX8_init_0 12 rfl rfl)
theorem dX8_init_15 : decode cX8_init 15 = .ok (.aload_n 0, 1) := dk_42 (dk_at dksX8_init_0 15 rfl rfl)
theorem dX8_init_16 : decode cX8_init 16 = .ok (.iload_n 2, 1) := dk_28 (dk_at dksX8_init_0 16 rfl rfl)
theorem dX8_init_17 : decode cX8_init 17 = .ok (.putfield 19, 3) := dk_181 0 19 (dk_at dksX8_init_0 17 rfl rfl)
theorem dX8_init_20 : decode cX8_init 20 = .ok (.aload_n 0, 1) := dk_42 (dk_at dksX8_init_0 20 rfl rfl)
theorem dX8_init_21 : decode cX8_init 21 = .ok (.iload_n 3, 1) := dk_29 (dk_at dksX8_init_0 21 rfl rfl)
theorem dX8_init_22 : decode cX8_init 22 = .ok (.putfield 23, 3) := dk_181 0 23 (dk_at dksX8_init_1 0 rfl rfl)
theorem dX8_init_25 : decode cX8_init 25 = .ok (.return_, 1) := dk_177 (dk_at dksX8_init_1 3 rfl rfl)
abbrev cX8_go : ByteArray := prog_12_method_5_code
def yX8_go : MethodName := ⟨RX8, "go", "()V"⟩
def dkwX8_go_8 : List UInt8 := [96, 181, 0, 26, 177]
abbrev dktX8_go_8 : List UInt8 := dkwX8_go_8 ++ []
def dkwX8_go_7 : List UInt8 := [16, 46, 160, 0, 7, 7, 167, 0, 4, 4, 181, 0, 36, 42, 27, 181, 0, 52, 42, 89, 180, 0, 26, 4]
abbrev dktX8_go_7 : List UInt8 := dkwX8_go_7 ++ dktX8_go_8
def dkwX8_go_6 : List UInt8 := [153, 0, 10, 42, 182, 0, 49, 167, 0, 45, 42, 27, 16, 45, 159, 0, 15, 27, 16, 59, 159, 0, 9, 27]
abbrev dktX8_go_6 : List UInt8 := dkwX8_go_6 ++ dktX8_go_7
def dkwX8_go_5 : List UInt8 := [182, 0, 29, 60, 27, 184, 0, 39, 153, 0, 10, 42, 182, 0, 43, 167, 0, 59, 27, 184, 0, 46]
abbrev dktX8_go_5 : List UInt8 := dkwX8_go_5 ++ dktX8_go_6
def dkwX8_go_4 : List UInt8 := [42, 180, 0, 26, 42, 180, 0, 19, 161, 0, 9, 42, 3, 181, 0, 36, 177, 42, 42, 180, 0, 26]
abbrev dktX8_go_4 : List UInt8 := dkwX8_go_4 ++ dktX8_go_5
def dkwX8_go_3 : List UInt8 := [180, 0, 33, 42, 180, 0, 23, 161, 0, 17, 42, 42, 180, 0, 23, 181, 0, 33, 42, 8, 181, 0, 36, 177]
abbrev dktX8_go_3 : List UInt8 := dkwX8_go_3 ++ dktX8_go_4
def dkwX8_go_2 : List UInt8 := [167, 255, 209, 42, 42, 180, 0, 26, 181, 0, 33, 42, 180, 0, 19, 42, 180, 0, 23, 164, 0, 28, 42]
abbrev dktX8_go_2 : List UInt8 := dkwX8_go_2 ++ dktX8_go_3
def dkwX8_go_1 : List UInt8 := [42, 42, 180, 0, 26, 182, 0, 29, 16, 10, 160, 0, 16, 42, 89, 180, 0, 26, 4, 96, 181, 0, 26]
abbrev dktX8_go_1 : List UInt8 := dkwX8_go_1 ++ dktX8_go_2
def dkwX8_go_0 : List UInt8 := [42, 180, 0, 26, 42, 180, 0, 19, 162, 0, 42, 42, 42, 180, 0, 26, 182, 0, 29, 16, 32, 159, 0, 16]
abbrev dktX8_go_0 : List UInt8 := dkwX8_go_0 ++ dktX8_go_1
theorem dksX8_go_0 : cX8_go.data.toList.drop 0 = dktX8_go_0 := by decide +kernel
theorem dksX8_go_1 : cX8_go.data.toList.drop 24 = dktX8_go_1 := dk_seg dksX8_go_0 24 rfl rfl
theorem dksX8_go_2 : cX8_go.data.toList.drop 47 = dktX8_go_2 := dk_seg dksX8_go_1 23 rfl rfl
theorem dksX8_go_3 : cX8_go.data.toList.drop 70 = dktX8_go_3 := dk_seg dksX8_go_2 23 rfl rfl
theorem dksX8_go_4 : cX8_go.data.toList.drop 94 = dktX8_go_4 := dk_seg dksX8_go_3 24 rfl rfl
theorem dksX8_go_5 : cX8_go.data.toList.drop 116 = dktX8_go_5 := dk_seg dksX8_go_4 22 rfl rfl
theorem dksX8_go_6 : cX8_go.data.toList.drop 138 = dktX8_go_6 := dk_seg dksX8_go_5 22 rfl rfl
theorem dksX8_go_7 : cX8_go.data.toList.drop 162 = dktX8_go_7 := dk_seg dksX8_go_6 24 rfl rfl
theorem dksX8_go_8 : cX8_go.data.toList.drop 186 = dktX8_go_8 := dk_seg dksX8_go_7 24 rfl rfl
theorem dX8_go_0 : decode cX8_go 0 = .ok (.aload_n 0, 1) := dk_42 (dk_at dksX8_go_0 0 rfl rfl)
theorem dX8_go_1 : decode cX8_go 1 = .ok (.getfield 26, 3) := dk_180 0 26 (dk_at dksX8_go_0 1 rfl rfl)
theorem dX8_go_4 : decode cX8_go 4 = .ok (.aload_n 0, 1) := dk_42 (dk_at dksX8_go_0 4 rfl rfl)
theorem dX8_go_5 : decode cX8_go 5 = .ok (.getfield 19, 3) := dk_180 0 19 (dk_at dksX8_go_0 5 rfl rfl)
theorem dX8_go_8 : decode cX8_go 8 = .ok (.if_icmp .ge 42, 3) := dk_162 0 42 (dk_at dksX8_go_0 8 rfl rfl)
theorem dX8_go_11 : decode cX8_go 11 = .ok (.aload_n 0, 1) := dk_42 (dk_at dksX8_go_0 11 rfl rfl)
theorem dX8_go_12 : decode cX8_go 12 = .ok (.aload_n 0, 1) := dk_42 (dk_at dksX8_go_0 12 rfl rfl)
theorem dX8_go_13 : decode cX8_go 13 = .ok (.getfield 26, 3) := dk_180 0 26 (dk_at dksX8_go_0 13 rfl rfl)
theorem dX8_go_16 : decode cX8_go 16 = .ok (.invokevirtual 29, 3) := dk_182 0 29 (dk_at dksX8_go_0 16 rfl rfl)
theorem dX8_go_19 : decode cX8_go 19 = .ok (.bipush 32, 2) := dk_16 32 (dk_at dksX8_go_0 19 rfl rfl)
theorem dX8_go_21 : decode cX8_go 21 = .ok (.if_icmp .eq 16, 3) := dk_159 0 16 (dk_at dksX8_go_0 21 rfl rfl)
theorem dX8_go_24 : decode cX8_go 24 = .ok (.aload_n 0, 1) := dk_42 (dk_at dksX8_go_1 0 rfl rfl)
theorem dX8_go_25 : decode cX8_go 25 = .ok (.aload_n 0, 1) := dk_42 (dk_at dksX8_go_1 1 rfl rfl)
theorem dX8_go_26 : decode cX8_go 26 = .ok (.getfield 26, 3) := dk_180 0 26 (dk_at dksX8_go_1 2 rfl rfl)
theorem dX8_go_29 : decode cX8_go 29 = .ok (.invokevirtual 29, 3) := dk_182 0 29 (dk_at dksX8_go_1 5 rfl rfl)
theorem dX8_go_32 : decode cX8_go 32 = .ok (.bipush 10, 2) := dk_16 10 (dk_at dksX8_go_1 8 rfl rfl)
theorem dX8_go_34 : decode cX8_go 34 = .ok (.if_icmp .ne 16, 3) := dk_160 0 16 (dk_at dksX8_go_1 10 rfl rfl)
theorem dX8_go_37 : decode cX8_go 37 = .ok (.aload_n 0, 1) := dk_42 (dk_at dksX8_go_1 13 rfl rfl)
theorem dX8_go_38 : decode cX8_go 38 = .ok (.dup, 1) := dk_89 (dk_at dksX8_go_1 14 rfl rfl)
theorem dX8_go_39 : decode cX8_go 39 = .ok (.getfield 26, 3) := dk_180 0 26 (dk_at dksX8_go_1 15 rfl rfl)
theorem dX8_go_42 : decode cX8_go 42 = .ok (.iconst 1, 1) := dk_4 (dk_at dksX8_go_1 18 rfl rfl)
theorem dX8_go_43 : decode cX8_go 43 = .ok (.iadd, 1) := dk_96 (dk_at dksX8_go_1 19 rfl rfl)
theorem dX8_go_44 : decode cX8_go 44 = .ok (.putfield 26, 3) := dk_181 0 26 (dk_at dksX8_go_1 20 rfl rfl)
theorem dX8_go_47 : decode cX8_go 47 = .ok (.goto (-47), 3) := dk_167 255 209 (dk_at dksX8_go_2 0 rfl rfl)
theorem dX8_go_50 : decode cX8_go 50 = .ok (.aload_n 0, 1) := dk_42 (dk_at dksX8_go_2 3 rfl rfl)
theorem dX8_go_51 : decode cX8_go 51 = .ok (.aload_n 0, 1) := dk_42 (dk_at dksX8_go_2 4 rfl rfl)
theorem dX8_go_52 : decode cX8_go 52 = .ok (.getfield 26, 3) := dk_180 0 26 (dk_at dksX8_go_2 5 rfl rfl)
theorem dX8_go_55 : decode cX8_go 55 = .ok (.putfield 33, 3) := dk_181 0 33 (dk_at dksX8_go_2 8 rfl rfl)
theorem dX8_go_58 : decode cX8_go 58 = .ok (.aload_n 0, 1) := dk_42 (dk_at dksX8_go_2 11 rfl rfl)
theorem dX8_go_59 : decode cX8_go 59 = .ok (.getfield 19, 3) := dk_180 0 19 (dk_at dksX8_go_2 12 rfl rfl)
theorem dX8_go_62 : decode cX8_go 62 = .ok (.aload_n 0, 1) := dk_42 (dk_at dksX8_go_2 15 rfl rfl)
theorem dX8_go_63 : decode cX8_go 63 = .ok (.getfield 23, 3) := dk_180 0 23 (dk_at dksX8_go_2 16 rfl rfl)
theorem dX8_go_66 : decode cX8_go 66 = .ok (.if_icmp .le 28, 3) := dk_164 0 28 (dk_at dksX8_go_2 19 rfl rfl)
theorem dX8_go_69 : decode cX8_go 69 = .ok (.aload_n 0, 1) := dk_42 (dk_at dksX8_go_2 22 rfl rfl)
theorem dX8_go_70 : decode cX8_go 70 = .ok (.getfield 33, 3) := dk_180 0 33 (dk_at dksX8_go_3 0 rfl rfl)
theorem dX8_go_73 : decode cX8_go 73 = .ok (.aload_n 0, 1) := dk_42 (dk_at dksX8_go_3 3 rfl rfl)
theorem dX8_go_74 : decode cX8_go 74 = .ok (.getfield 23, 3) := dk_180 0 23 (dk_at dksX8_go_3 4 rfl rfl)
theorem dX8_go_77 : decode cX8_go 77 = .ok (.if_icmp .lt 17, 3) := dk_161 0 17 (dk_at dksX8_go_3 7 rfl rfl)
theorem dX8_go_80 : decode cX8_go 80 = .ok (.aload_n 0, 1) := dk_42 (dk_at dksX8_go_3 10 rfl rfl)
theorem dX8_go_81 : decode cX8_go 81 = .ok (.aload_n 0, 1) := dk_42 (dk_at dksX8_go_3 11 rfl rfl)
theorem dX8_go_82 : decode cX8_go 82 = .ok (.getfield 23, 3) := dk_180 0 23 (dk_at dksX8_go_3 12 rfl rfl)
theorem dX8_go_85 : decode cX8_go 85 = .ok (.putfield 33, 3) := dk_181 0 33 (dk_at dksX8_go_3 15 rfl rfl)
theorem dX8_go_88 : decode cX8_go 88 = .ok (.aload_n 0, 1) := dk_42 (dk_at dksX8_go_3 18 rfl rfl)
theorem dX8_go_89 : decode cX8_go 89 = .ok (.iconst 5, 1) := dk_8 (dk_at dksX8_go_3 19 rfl rfl)
theorem dX8_go_90 : decode cX8_go 90 = .ok (.putfield 36, 3) := dk_181 0 36 (dk_at dksX8_go_3 20 rfl rfl)
theorem dX8_go_93 : decode cX8_go 93 = .ok (.return_, 1) := dk_177 (dk_at dksX8_go_3 23 rfl rfl)
theorem dX8_go_94 : decode cX8_go 94 = .ok (.aload_n 0, 1) := dk_42 (dk_at dksX8_go_4 0 rfl rfl)
theorem dX8_go_95 : decode cX8_go 95 = .ok (.getfield 26, 3) := dk_180 0 26 (dk_at dksX8_go_4 1 rfl rfl)
theorem dX8_go_98 : decode cX8_go 98 = .ok (.aload_n 0, 1) := dk_42 (dk_at dksX8_go_4 4 rfl rfl)
theorem dX8_go_99 : decode cX8_go 99 = .ok (.getfield 19, 3) := dk_180 0 19 (dk_at dksX8_go_4 5 rfl rfl)
theorem dX8_go_102 : decode cX8_go 102 = .ok (.if_icmp .lt 9, 3) := dk_161 0 9 (dk_at dksX8_go_4 8 rfl rfl)
theorem dX8_go_105 : decode cX8_go 105 = .ok (.aload_n 0, 1) := dk_42 (dk_at dksX8_go_4 11 rfl rfl)
theorem dX8_go_106 : decode cX8_go 106 = .ok (.iconst 0, 1) := dk_3 (dk_at dksX8_go_4 12 rfl rfl)
theorem dX8_go_107 : decode cX8_go 107 = .ok (.putfield 36, 3) := dk_181 0 36 (dk_at dksX8_go_4 13 rfl rfl)
theorem dX8_go_110 : decode cX8_go 110 = .ok (.return_, 1) := dk_177 (dk_at dksX8_go_4 16 rfl rfl)
theorem dX8_go_111 : decode cX8_go 111 = .ok (.aload_n 0, 1) := dk_42 (dk_at dksX8_go_4 17 rfl rfl)
theorem dX8_go_112 : decode cX8_go 112 = .ok (.aload_n 0, 1) := dk_42 (dk_at dksX8_go_4 18 rfl rfl)
theorem dX8_go_113 : decode cX8_go 113 = .ok (.getfield 26, 3) := dk_180 0 26 (dk_at dksX8_go_4 19 rfl rfl)
theorem dX8_go_116 : decode cX8_go 116 = .ok (.invokevirtual 29, 3) := dk_182 0 29 (dk_at dksX8_go_5 0 rfl rfl)
theorem dX8_go_119 : decode cX8_go 119 = .ok (.istore_n 1, 1) := dk_60 (dk_at dksX8_go_5 3 rfl rfl)
theorem dX8_go_120 : decode cX8_go 120 = .ok (.iload_n 1, 1) := dk_27 (dk_at dksX8_go_5 4 rfl rfl)
theorem dX8_go_121 : decode cX8_go 121 = .ok (.invokestatic 39, 3) := dk_184 0 39 (dk_at dksX8_go_5 5 rfl rfl)
theorem dX8_go_124 : decode cX8_go 124 = .ok (.ifCond .eq 10, 3) := dk_153 0 10 (dk_at dksX8_go_5 8 rfl rfl)
theorem dX8_go_127 : decode cX8_go 127 = .ok (.aload_n 0, 1) := dk_42 (dk_at dksX8_go_5 11 rfl rfl)
theorem dX8_go_128 : decode cX8_go 128 = .ok (.invokevirtual 43, 3) := dk_182 0 43 (dk_at dksX8_go_5 12 rfl rfl)
theorem dX8_go_131 : decode cX8_go 131 = .ok (.goto 59, 3) := dk_167 0 59 (dk_at dksX8_go_5 15 rfl rfl)
theorem dX8_go_134 : decode cX8_go 134 = .ok (.iload_n 1, 1) := dk_27 (dk_at dksX8_go_5 18 rfl rfl)
theorem dX8_go_135 : decode cX8_go 135 = .ok (.invokestatic 46, 3) := dk_184 0 46 (dk_at dksX8_go_5 19 rfl rfl)
theorem dX8_go_138 : decode cX8_go 138 = .ok (.ifCond .eq 10, 3) := dk_153 0 10 (dk_at dksX8_go_6 0 rfl rfl)
theorem dX8_go_141 : decode cX8_go 141 = .ok (.aload_n 0, 1) := dk_42 (dk_at dksX8_go_6 3 rfl rfl)
theorem dX8_go_142 : decode cX8_go 142 = .ok (.invokevirtual 49, 3) := dk_182 0 49 (dk_at dksX8_go_6 4 rfl rfl)
theorem dX8_go_145 : decode cX8_go 145 = .ok (.goto 45, 3) := dk_167 0 45 (dk_at dksX8_go_6 7 rfl rfl)
theorem dX8_go_148 : decode cX8_go 148 = .ok (.aload_n 0, 1) := dk_42 (dk_at dksX8_go_6 10 rfl rfl)
theorem dX8_go_149 : decode cX8_go 149 = .ok (.iload_n 1, 1) := dk_27 (dk_at dksX8_go_6 11 rfl rfl)
theorem dX8_go_150 : decode cX8_go 150 = .ok (.bipush 45, 2) := dk_16 45 (dk_at dksX8_go_6 12 rfl rfl)
theorem dX8_go_152 : decode cX8_go 152 = .ok (.if_icmp .eq 15, 3) := dk_159 0 15 (dk_at dksX8_go_6 14 rfl rfl)
theorem dX8_go_155 : decode cX8_go 155 = .ok (.iload_n 1, 1) := dk_27 (dk_at dksX8_go_6 17 rfl rfl)
theorem dX8_go_156 : decode cX8_go 156 = .ok (.bipush 59, 2) := dk_16 59 (dk_at dksX8_go_6 18 rfl rfl)
theorem dX8_go_158 : decode cX8_go 158 = .ok (.if_icmp .eq 9, 3) := dk_159 0 9 (dk_at dksX8_go_6 20 rfl rfl)
theorem dX8_go_161 : decode cX8_go 161 = .ok (.iload_n 1, 1) := dk_27 (dk_at dksX8_go_6 23 rfl rfl)
theorem dX8_go_162 : decode cX8_go 162 = .ok (.bipush 46, 2) := dk_16 46 (dk_at dksX8_go_7 0 rfl rfl)
theorem dX8_go_164 : decode cX8_go 164 = .ok (.if_icmp .ne 7, 3) := dk_160 0 7 (dk_at dksX8_go_7 2 rfl rfl)
theorem dX8_go_167 : decode cX8_go 167 = .ok (.iconst 4, 1) := dk_7 (dk_at dksX8_go_7 5 rfl rfl)
theorem dX8_go_168 : decode cX8_go 168 = .ok (.goto 4, 3) := dk_167 0 4 (dk_at dksX8_go_7 6 rfl rfl)
theorem dX8_go_171 : decode cX8_go 171 = .ok (.iconst 1, 1) := dk_4 (dk_at dksX8_go_7 9 rfl rfl)
theorem dX8_go_172 : decode cX8_go 172 = .ok (.putfield 36, 3) := dk_181 0 36 (dk_at dksX8_go_7 10 rfl rfl)
theorem dX8_go_175 : decode cX8_go 175 = .ok (.aload_n 0, 1) := dk_42 (dk_at dksX8_go_7 13 rfl rfl)
theorem dX8_go_176 : decode cX8_go 176 = .ok (.iload_n 1, 1) := dk_27 (dk_at dksX8_go_7 14 rfl rfl)
theorem dX8_go_177 : decode cX8_go 177 = .ok (.putfield 52, 3) := dk_181 0 52 (dk_at dksX8_go_7 15 rfl rfl)
theorem dX8_go_180 : decode cX8_go 180 = .ok (.aload_n 0, 1) := dk_42 (dk_at dksX8_go_7 18 rfl rfl)
theorem dX8_go_181 : decode cX8_go 181 = .ok (.dup, 1) := dk_89 (dk_at dksX8_go_7 19 rfl rfl)
theorem dX8_go_182 : decode cX8_go 182 = .ok (.getfield 26, 3) := dk_180 0 26 (dk_at dksX8_go_7 20 rfl rfl)
theorem dX8_go_185 : decode cX8_go 185 = .ok (.iconst 1, 1) := dk_4 (dk_at dksX8_go_7 23 rfl rfl)
theorem dX8_go_186 : decode cX8_go 186 = .ok (.iadd, 1) := dk_96 (dk_at dksX8_go_8 0 rfl rfl)
theorem dX8_go_187 : decode cX8_go 187 = .ok (.putfield 26, 3) := dk_181 0 26 (dk_at dksX8_go_8 1 rfl rfl)
theorem dX8_go_190 : decode cX8_go 190 = .ok (.return_, 1) := dk_177 (dk_at dksX8_go_8 4 rfl rfl)
abbrev cX8_byteAt : ByteArray := prog_12_method_2_code
def yX8_byteAt : MethodName := ⟨RX8, "byteAt", "(I)I"⟩
def dkwX8_byteAt_0 : List UInt8 := [27, 42, 180, 0, 19, 162, 0, 16, 42, 180, 0, 15, 27, 51, 17, 0, 255, 126, 167, 0, 4, 3, 172]
abbrev dktX8_byteAt_0 : List UInt8 := dkwX8_byteAt_0 ++ []
theorem dksX8_byteAt_0 : cX8_byteAt.data.toList.drop 0 = dktX8_byteAt_0 := by decide +kernel
theorem dX8_byteAt_0 : decode cX8_byteAt 0 = .ok (.iload_n 1, 1) := dk_27 (dk_at dksX8_byteAt_0 0 rfl rfl)
theorem dX8_byteAt_1 : decode cX8_byteAt 1 = .ok (.aload_n 0, 1) := dk_42 (dk_at dksX8_byteAt_0 1 rfl rfl)
theorem dX8_byteAt_2 : decode cX8_byteAt 2 = .ok (.getfield 19, 3) := dk_180 0 19 (dk_at dksX8_byteAt_0 2 rfl rfl)
theorem dX8_byteAt_5 : decode cX8_byteAt 5 = .ok (.if_icmp .ge 16, 3) := dk_162 0 16 (dk_at dksX8_byteAt_0 5 rfl rfl)
theorem dX8_byteAt_8 : decode cX8_byteAt 8 = .ok (.aload_n 0, 1) := dk_42 (dk_at dksX8_byteAt_0 8 rfl rfl)
theorem dX8_byteAt_9 : decode cX8_byteAt 9 = .ok (.getfield 15, 3) := dk_180 0 15 (dk_at dksX8_byteAt_0 9 rfl rfl)
theorem dX8_byteAt_12 : decode cX8_byteAt 12 = .ok (.iload_n 1, 1) := dk_27 (dk_at dksX8_byteAt_0 12 rfl rfl)
theorem dX8_byteAt_13 : decode cX8_byteAt 13 = .ok (.baload, 1) := dk_51 (dk_at dksX8_byteAt_0 13 rfl rfl)
theorem dX8_byteAt_14 : decode cX8_byteAt 14 = .ok (.sipush 255, 3) := dk_17 0 255 (dk_at dksX8_byteAt_0 14 rfl rfl)
theorem dX8_byteAt_17 : decode cX8_byteAt 17 = .ok (.iand, 1) := dk_126 (dk_at dksX8_byteAt_0 17 rfl rfl)
theorem dX8_byteAt_18 : decode cX8_byteAt 18 = .ok (.goto 4, 3) := dk_167 0 4 (dk_at dksX8_byteAt_0 18 rfl rfl)
theorem dX8_byteAt_21 : decode cX8_byteAt 21 = .ok (.iconst 0, 1) := dk_3 (dk_at dksX8_byteAt_0 21 rfl rfl)
theorem dX8_byteAt_22 : decode cX8_byteAt 22 = .ok (.ireturn, 1) := dk_172 (dk_at dksX8_byteAt_0 22 rfl rfl)
abbrev cX8_isLetter : ByteArray := prog_12_method_4_code
def yX8_isLetter : MethodName := ⟨RX8, "isLetter", "(I)Z"⟩
def dkwX8_isLetter_0 : List UInt8 := [26, 16, 97, 161, 0, 13, 26, 16, 122, 163, 0, 7, 4, 167, 0, 4, 3, 172]
abbrev dktX8_isLetter_0 : List UInt8 := dkwX8_isLetter_0 ++ []
theorem dksX8_isLetter_0 : cX8_isLetter.data.toList.drop 0 = dktX8_isLetter_0 := by decide +kernel
theorem dX8_isLetter_0 : decode cX8_isLetter 0 = .ok (.iload_n 0, 1) := dk_26 (dk_at dksX8_isLetter_0 0 rfl rfl)
theorem dX8_isLetter_1 : decode cX8_isLetter 1 = .ok (.bipush 97, 2) := dk_16 97 (dk_at dksX8_isLetter_0 1 rfl rfl)
theorem dX8_isLetter_3 : decode cX8_isLetter 3 = .ok (.if_icmp .lt 13, 3) := dk_161 0 13 (dk_at dksX8_isLetter_0 3 rfl rfl)
theorem dX8_isLetter_6 : decode cX8_isLetter 6 = .ok (.iload_n 0, 1) := dk_26 (dk_at dksX8_isLetter_0 6 rfl rfl)
theorem dX8_isLetter_7 : decode cX8_isLetter 7 = .ok (.bipush 122, 2) := dk_16 122 (dk_at dksX8_isLetter_0 7 rfl rfl)
theorem dX8_isLetter_9 : decode cX8_isLetter 9 = .ok (.if_icmp .gt 7, 3) := dk_163 0 7 (dk_at dksX8_isLetter_0 9 rfl rfl)
theorem dX8_isLetter_12 : decode cX8_isLetter 12 = .ok (.iconst 1, 1) := dk_4 (dk_at dksX8_isLetter_0 12 rfl rfl)
theorem dX8_isLetter_13 : decode cX8_isLetter 13 = .ok (.goto 4, 3) := dk_167 0 4 (dk_at dksX8_isLetter_0 13 rfl rfl)
theorem dX8_isLetter_16 : decode cX8_isLetter 16 = .ok (.iconst 0, 1) := dk_3 (dk_at dksX8_isLetter_0 16 rfl rfl)
theorem dX8_isLetter_17 : decode cX8_isLetter 17 = .ok (.ireturn, 1) := dk_172 (dk_at dksX8_isLetter_0 17 rfl rfl)
abbrev cX8_letters : ByteArray := prog_12_method_6_code
def yX8_letters : MethodName := ⟨RX8, "letters", "()V"⟩
def dkwX8_letters_4 : List UInt8 := [181, 0, 36, 177]
abbrev dktX8_letters_4 : List UInt8 := dkwX8_letters_4 ++ []
def dkwX8_letters_3 : List UInt8 := [181, 0, 9, 42, 42, 180, 0, 26, 42, 180, 0, 33, 100, 8, 164, 0, 7, 4, 167, 0, 4, 5]
abbrev dktX8_letters_3 : List UInt8 := dkwX8_letters_3 ++ dktX8_letters_4
def dkwX8_letters_2 : List UInt8 := [182, 0, 58, 87, 42, 89, 180, 0, 26, 4, 96, 181, 0, 26, 167, 255, 205, 42, 43, 182, 0, 62]
abbrev dktX8_letters_2 : List UInt8 := dkwX8_letters_2 ++ dktX8_letters_3
def dkwX8_letters_1 : List UInt8 := [180, 0, 26, 42, 180, 0, 33, 100, 8, 162, 0, 17, 43, 42, 42, 180, 0, 26, 182, 0, 29, 146]
abbrev dktX8_letters_1 : List UInt8 := dkwX8_letters_1 ++ dktX8_letters_2
def dkwX8_letters_0 : List UInt8 := [187, 0, 55, 89, 183, 0, 57, 76, 42, 42, 180, 0, 26, 182, 0, 29, 184, 0, 39, 153, 0, 43, 42]
abbrev dktX8_letters_0 : List UInt8 := dkwX8_letters_0 ++ dktX8_letters_1
theorem dksX8_letters_0 : cX8_letters.data.toList.drop 0 = dktX8_letters_0 := by decide +kernel
theorem dksX8_letters_1 : cX8_letters.data.toList.drop 23 = dktX8_letters_1 := dk_seg dksX8_letters_0 23 rfl rfl
theorem dksX8_letters_2 : cX8_letters.data.toList.drop 45 = dktX8_letters_2 := dk_seg dksX8_letters_1 22 rfl rfl
theorem dksX8_letters_3 : cX8_letters.data.toList.drop 67 = dktX8_letters_3 := dk_seg dksX8_letters_2 22 rfl rfl
theorem dksX8_letters_4 : cX8_letters.data.toList.drop 89 = dktX8_letters_4 := dk_seg dksX8_letters_3 22 rfl rfl
theorem dX8_letters_0 : decode cX8_letters 0 = .ok (.new 55, 3) := dk_187 0 55 (dk_at dksX8_letters_0 0 rfl rfl)
theorem dX8_letters_3 : decode cX8_letters 3 = .ok (.dup, 1) := dk_89 (dk_at dksX8_letters_0 3 rfl rfl)
theorem dX8_letters_4 : decode cX8_letters 4 = .ok (.invokespecial 57, 3) := dk_183 0 57 (dk_at dksX8_letters_0 4 rfl rfl)
theorem dX8_letters_7 : decode cX8_letters 7 = .ok (.astore_n 1, 1) := dk_76 (dk_at dksX8_letters_0 7 rfl rfl)
theorem dX8_letters_8 : decode cX8_letters 8 = .ok (.aload_n 0, 1) := dk_42 (dk_at dksX8_letters_0 8 rfl rfl)
theorem dX8_letters_9 : decode cX8_letters 9 = .ok (.aload_n 0, 1) := dk_42 (dk_at dksX8_letters_0 9 rfl rfl)
theorem dX8_letters_10 : decode cX8_letters 10 = .ok (.getfield 26, 3) := dk_180 0 26 (dk_at dksX8_letters_0 10 rfl rfl)
theorem dX8_letters_13 : decode cX8_letters 13 = .ok (.invokevirtual 29, 3) := dk_182 0 29 (dk_at dksX8_letters_0 13 rfl rfl)
theorem dX8_letters_16 : decode cX8_letters 16 = .ok (.invokestatic 39, 3) := dk_184 0 39 (dk_at dksX8_letters_0 16 rfl rfl)
theorem dX8_letters_19 : decode cX8_letters 19 = .ok (.ifCond .eq 43, 3) := dk_153 0 43 (dk_at dksX8_letters_0 19 rfl rfl)
theorem dX8_letters_22 : decode cX8_letters 22 = .ok (.aload_n 0, 1) := dk_42 (dk_at dksX8_letters_0 22 rfl rfl)
theorem dX8_letters_23 : decode cX8_letters 23 = .ok (.getfield 26, 3) := dk_180 0 26 (dk_at dksX8_letters_1 0 rfl rfl)
theorem dX8_letters_26 : decode cX8_letters 26 = .ok (.aload_n 0, 1) := dk_42 (dk_at dksX8_letters_1 3 rfl rfl)
theorem dX8_letters_27 : decode cX8_letters 27 = .ok (.getfield 33, 3) := dk_180 0 33 (dk_at dksX8_letters_1 4 rfl rfl)
theorem dX8_letters_30 : decode cX8_letters 30 = .ok (.isub, 1) := dk_100 (dk_at dksX8_letters_1 7 rfl rfl)
theorem dX8_letters_31 : decode cX8_letters 31 = .ok (.iconst 5, 1) := dk_8 (dk_at dksX8_letters_1 8 rfl rfl)
theorem dX8_letters_32 : decode cX8_letters 32 = .ok (.if_icmp .ge 17, 3) := dk_162 0 17 (dk_at dksX8_letters_1 9 rfl rfl)
theorem dX8_letters_35 : decode cX8_letters 35 = .ok (.aload_n 1, 1) := dk_43 (dk_at dksX8_letters_1 12 rfl rfl)
theorem dX8_letters_36 : decode cX8_letters 36 = .ok (.aload_n 0, 1) := dk_42 (dk_at dksX8_letters_1 13 rfl rfl)
theorem dX8_letters_37 : decode cX8_letters 37 = .ok (.aload_n 0, 1) := dk_42 (dk_at dksX8_letters_1 14 rfl rfl)
theorem dX8_letters_38 : decode cX8_letters 38 = .ok (.getfield 26, 3) := dk_180 0 26 (dk_at dksX8_letters_1 15 rfl rfl)
theorem dX8_letters_41 : decode cX8_letters 41 = .ok (.invokevirtual 29, 3) := dk_182 0 29 (dk_at dksX8_letters_1 18 rfl rfl)
theorem dX8_letters_44 : decode cX8_letters 44 = .ok (.i2c, 1) := dk_146 (dk_at dksX8_letters_1 21 rfl rfl)
theorem dX8_letters_45 : decode cX8_letters 45 = .ok (.invokevirtual 58, 3) := dk_182 0 58 (dk_at dksX8_letters_2 0 rfl rfl)
theorem dX8_letters_48 : decode cX8_letters 48 = .ok (.pop, 1) := dk_87 (dk_at dksX8_letters_2 3 rfl rfl)
theorem dX8_letters_49 : decode cX8_letters 49 = .ok (.aload_n 0, 1) := dk_42 (dk_at dksX8_letters_2 4 rfl rfl)
theorem dX8_letters_50 : decode cX8_letters 50 = .ok (.dup, 1) := dk_89 (dk_at dksX8_letters_2 5 rfl rfl)
theorem dX8_letters_51 : decode cX8_letters 51 = .ok (.getfield 26, 3) := dk_180 0 26 (dk_at dksX8_letters_2 6 rfl rfl)
theorem dX8_letters_54 : decode cX8_letters 54 = .ok (.iconst 1, 1) := dk_4 (dk_at dksX8_letters_2 9 rfl rfl)
theorem dX8_letters_55 : decode cX8_letters 55 = .ok (.iadd, 1) := dk_96 (dk_at dksX8_letters_2 10 rfl rfl)
theorem dX8_letters_56 : decode cX8_letters 56 = .ok (.putfield 26, 3) := dk_181 0 26 (dk_at dksX8_letters_2 11 rfl rfl)
theorem dX8_letters_59 : decode cX8_letters 59 = .ok (.goto (-51), 3) := dk_167 255 205 (dk_at dksX8_letters_2 14 rfl rfl)
theorem dX8_letters_62 : decode cX8_letters 62 = .ok (.aload_n 0, 1) := dk_42 (dk_at dksX8_letters_2 17 rfl rfl)
theorem dX8_letters_63 : decode cX8_letters 63 = .ok (.aload_n 1, 1) := dk_43 (dk_at dksX8_letters_2 18 rfl rfl)
theorem dX8_letters_64 : decode cX8_letters 64 = .ok (.invokevirtual 62, 3) := dk_182 0 62 (dk_at dksX8_letters_2 19 rfl rfl)
theorem dX8_letters_67 : decode cX8_letters 67 = .ok (.putfield 9, 3) := dk_181 0 9 (dk_at dksX8_letters_3 0 rfl rfl)
theorem dX8_letters_70 : decode cX8_letters 70 = .ok (.aload_n 0, 1) := dk_42 (dk_at dksX8_letters_3 3 rfl rfl)
theorem dX8_letters_71 : decode cX8_letters 71 = .ok (.aload_n 0, 1) := dk_42 (dk_at dksX8_letters_3 4 rfl rfl)
theorem dX8_letters_72 : decode cX8_letters 72 = .ok (.getfield 26, 3) := dk_180 0 26 (dk_at dksX8_letters_3 5 rfl rfl)
theorem dX8_letters_75 : decode cX8_letters 75 = .ok (.aload_n 0, 1) := dk_42 (dk_at dksX8_letters_3 8 rfl rfl)
theorem dX8_letters_76 : decode cX8_letters 76 = .ok (.getfield 33, 3) := dk_180 0 33 (dk_at dksX8_letters_3 9 rfl rfl)
theorem dX8_letters_79 : decode cX8_letters 79 = .ok (.isub, 1) := dk_100 (dk_at dksX8_letters_3 12 rfl rfl)
theorem dX8_letters_80 : decode cX8_letters 80 = .ok (.iconst 5, 1) := dk_8 (dk_at dksX8_letters_3 13 rfl rfl)
theorem dX8_letters_81 : decode cX8_letters 81 = .ok (.if_icmp .le 7, 3) := dk_164 0 7 (dk_at dksX8_letters_3 14 rfl rfl)
theorem dX8_letters_84 : decode cX8_letters 84 = .ok (.iconst 1, 1) := dk_4 (dk_at dksX8_letters_3 17 rfl rfl)
theorem dX8_letters_85 : decode cX8_letters 85 = .ok (.goto 4, 3) := dk_167 0 4 (dk_at dksX8_letters_3 18 rfl rfl)
theorem dX8_letters_88 : decode cX8_letters 88 = .ok (.iconst 2, 1) := dk_5 (dk_at dksX8_letters_3 21 rfl rfl)
theorem dX8_letters_89 : decode cX8_letters 89 = .ok (.putfield 36, 3) := dk_181 0 36 (dk_at dksX8_letters_4 0 rfl rfl)
theorem dX8_letters_92 : decode cX8_letters 92 = .ok (.return_, 1) := dk_177 (dk_at dksX8_letters_4 3 rfl rfl)
abbrev cX8_isNumeral : ByteArray := prog_12_method_3_code
def yX8_isNumeral : MethodName := ⟨RX8, "isNumeral", "(I)Z"⟩
def dkwX8_isNumeral_0 : List UInt8 := [26, 16, 48, 161, 0, 13, 26, 16, 57, 163, 0, 7, 4, 167, 0, 4, 3, 172]
abbrev dktX8_isNumeral_0 : List UInt8 := dkwX8_isNumeral_0 ++ []
theorem dksX8_isNumeral_0 : cX8_isNumeral.data.toList.drop 0 = dktX8_isNumeral_0 := by decide +kernel
theorem dX8_isNumeral_0 : decode cX8_isNumeral 0 = .ok (.iload_n 0, 1) := dk_26 (dk_at dksX8_isNumeral_0 0 rfl rfl)
theorem dX8_isNumeral_1 : decode cX8_isNumeral 1 = .ok (.bipush 48, 2) := dk_16 48 (dk_at dksX8_isNumeral_0 1 rfl rfl)
theorem dX8_isNumeral_3 : decode cX8_isNumeral 3 = .ok (.if_icmp .lt 13, 3) := dk_161 0 13 (dk_at dksX8_isNumeral_0 3 rfl rfl)
theorem dX8_isNumeral_6 : decode cX8_isNumeral 6 = .ok (.iload_n 0, 1) := dk_26 (dk_at dksX8_isNumeral_0 6 rfl rfl)
theorem dX8_isNumeral_7 : decode cX8_isNumeral 7 = .ok (.bipush 57, 2) := dk_16 57 (dk_at dksX8_isNumeral_0 7 rfl rfl)
theorem dX8_isNumeral_9 : decode cX8_isNumeral 9 = .ok (.if_icmp .gt 7, 3) := dk_163 0 7 (dk_at dksX8_isNumeral_0 9 rfl rfl)
theorem dX8_isNumeral_12 : decode cX8_isNumeral 12 = .ok (.iconst 1, 1) := dk_4 (dk_at dksX8_isNumeral_0 12 rfl rfl)
theorem dX8_isNumeral_13 : decode cX8_isNumeral 13 = .ok (.goto 4, 3) := dk_167 0 4 (dk_at dksX8_isNumeral_0 13 rfl rfl)
theorem dX8_isNumeral_16 : decode cX8_isNumeral 16 = .ok (.iconst 0, 1) := dk_3 (dk_at dksX8_isNumeral_0 16 rfl rfl)
theorem dX8_isNumeral_17 : decode cX8_isNumeral 17 = .ok (.ireturn, 1) := dk_172 (dk_at dksX8_isNumeral_0 17 rfl rfl)
abbrev cX8_digits : ByteArray := prog_12_method_7_code
def yX8_digits : MethodName := ⟨RX8, "digits", "()V"⟩
def dkwX8_digits_3 : List UInt8 := [180, 0, 26, 42, 180, 0, 33, 100, 5, 164, 0, 7, 4, 167, 0, 4, 6, 181, 0, 36, 177]
abbrev dktX8_digits_3 : List UInt8 := dkwX8_digits_3 ++ []
def dkwX8_digits_2 : List UInt8 := [96, 16, 48, 100, 181, 0, 66, 42, 89, 180, 0, 26, 4, 96, 181, 0, 26, 167, 255, 196, 42, 42]
abbrev dktX8_digits_2 : List UInt8 := dkwX8_digits_2 ++ dktX8_digits_3
def dkwX8_digits_1 : List UInt8 := [180, 0, 33, 100, 5, 162, 0, 26, 42, 16, 10, 42, 180, 0, 66, 104, 42, 42, 180, 0, 26, 182, 0, 29]
abbrev dktX8_digits_1 : List UInt8 := dkwX8_digits_1 ++ dktX8_digits_2
def dkwX8_digits_0 : List UInt8 := [42, 3, 181, 0, 66, 42, 42, 180, 0, 26, 182, 0, 29, 184, 0, 46, 153, 0, 52, 42, 180, 0, 26, 42]
abbrev dktX8_digits_0 : List UInt8 := dkwX8_digits_0 ++ dktX8_digits_1
theorem dksX8_digits_0 : cX8_digits.data.toList.drop 0 = dktX8_digits_0 := by decide +kernel
theorem dksX8_digits_1 : cX8_digits.data.toList.drop 24 = dktX8_digits_1 := dk_seg dksX8_digits_0 24 rfl rfl
theorem dksX8_digits_2 : cX8_digits.data.toList.drop 48 = dktX8_digits_2 := dk_seg dksX8_digits_1 24 rfl rfl
theorem dksX8_digits_3 : cX8_digits.data.toList.drop 70 = dktX8_digits_3 := dk_seg dksX8_digits_2 22 rfl rfl
theorem dX8_digits_0 : decode cX8_digits 0 = .ok (.aload_n 0, 1) := dk_42 (dk_at dksX8_digits_0 0 rfl rfl)
theorem dX8_digits_1 : decode cX8_digits 1 = .ok (.iconst 0, 1) := dk_3 (dk_at dksX8_digits_0 1 rfl rfl)
theorem dX8_digits_2 : decode cX8_digits 2 = .ok (.putfield 66, 3) := dk_181 0 66 (dk_at dksX8_digits_0 2 rfl rfl)
theorem dX8_digits_5 : decode cX8_digits 5 = .ok (.aload_n 0, 1) := dk_42 (dk_at dksX8_digits_0 5 rfl rfl)
theorem dX8_digits_6 : decode cX8_digits 6 = .ok (.aload_n 0, 1) := dk_42 (dk_at dksX8_digits_0 6 rfl rfl)
theorem dX8_digits_7 : decode cX8_digits 7 = .ok (.getfield 26, 3) := dk_180 0 26 (dk_at dksX8_digits_0 7 rfl rfl)
theorem dX8_digits_10 : decode cX8_digits 10 = .ok (.invokevirtual 29, 3) := dk_182 0 29 (dk_at dksX8_digits_0 10 rfl rfl)
theorem dX8_digits_13 : decode cX8_digits 13 = .ok (.invokestatic 46, 3) := dk_184 0 46 (dk_at dksX8_digits_0 13 rfl rfl)
theorem dX8_digits_16 : decode cX8_digits 16 = .ok (.ifCond .eq 52, 3) := dk_153 0 52 (dk_at dksX8_digits_0 16 rfl rfl)
theorem dX8_digits_19 : decode cX8_digits 19 = .ok (.aload_n 0, 1) := dk_42 (dk_at dksX8_digits_0 19 rfl rfl)
theorem dX8_digits_20 : decode cX8_digits 20 = .ok (.getfield 26, 3) := dk_180 0 26 (dk_at dksX8_digits_0 20 rfl rfl)
theorem dX8_digits_23 : decode cX8_digits 23 = .ok (.aload_n 0, 1) := dk_42 (dk_at dksX8_digits_0 23 rfl rfl)
theorem dX8_digits_24 : decode cX8_digits 24 = .ok (.getfield 33, 3) := dk_180 0 33 (dk_at dksX8_digits_1 0 rfl rfl)
theorem dX8_digits_27 : decode cX8_digits 27 = .ok (.isub, 1) := dk_100 (dk_at dksX8_digits_1 3 rfl rfl)
theorem dX8_digits_28 : decode cX8_digits 28 = .ok (.iconst 2, 1) := dk_5 (dk_at dksX8_digits_1 4 rfl rfl)
theorem dX8_digits_29 : decode cX8_digits 29 = .ok (.if_icmp .ge 26, 3) := dk_162 0 26 (dk_at dksX8_digits_1 5 rfl rfl)
theorem dX8_digits_32 : decode cX8_digits 32 = .ok (.aload_n 0, 1) := dk_42 (dk_at dksX8_digits_1 8 rfl rfl)
theorem dX8_digits_33 : decode cX8_digits 33 = .ok (.bipush 10, 2) := dk_16 10 (dk_at dksX8_digits_1 9 rfl rfl)
theorem dX8_digits_35 : decode cX8_digits 35 = .ok (.aload_n 0, 1) := dk_42 (dk_at dksX8_digits_1 11 rfl rfl)
theorem dX8_digits_36 : decode cX8_digits 36 = .ok (.getfield 66, 3) := dk_180 0 66 (dk_at dksX8_digits_1 12 rfl rfl)
theorem dX8_digits_39 : decode cX8_digits 39 = .ok (.imul, 1) := dk_104 (dk_at dksX8_digits_1 15 rfl rfl)
theorem dX8_digits_40 : decode cX8_digits 40 = .ok (.aload_n 0, 1) := dk_42 (dk_at dksX8_digits_1 16 rfl rfl)
theorem dX8_digits_41 : decode cX8_digits 41 = .ok (.aload_n 0, 1) := dk_42 (dk_at dksX8_digits_1 17 rfl rfl)
theorem dX8_digits_42 : decode cX8_digits 42 = .ok (.getfield 26, 3) := dk_180 0 26 (dk_at dksX8_digits_1 18 rfl rfl)
theorem dX8_digits_45 : decode cX8_digits 45 = .ok (.invokevirtual 29, 3) := dk_182 0 29 (dk_at dksX8_digits_1 21 rfl rfl)
theorem dX8_digits_48 : decode cX8_digits 48 = .ok (.iadd, 1) := dk_96 (dk_at dksX8_digits_2 0 rfl rfl)
theorem dX8_digits_49 : decode cX8_digits 49 = .ok (.bipush 48, 2) := dk_16 48 (dk_at dksX8_digits_2 1 rfl rfl)
theorem dX8_digits_51 : decode cX8_digits 51 = .ok (.isub, 1) := dk_100 (dk_at dksX8_digits_2 3 rfl rfl)
theorem dX8_digits_52 : decode cX8_digits 52 = .ok (.putfield 66, 3) := dk_181 0 66 (dk_at dksX8_digits_2 4 rfl rfl)
theorem dX8_digits_55 : decode cX8_digits 55 = .ok (.aload_n 0, 1) := dk_42 (dk_at dksX8_digits_2 7 rfl rfl)
theorem dX8_digits_56 : decode cX8_digits 56 = .ok (.dup, 1) := dk_89 (dk_at dksX8_digits_2 8 rfl rfl)
theorem dX8_digits_57 : decode cX8_digits 57 = .ok (.getfield 26, 3) := dk_180 0 26 (dk_at dksX8_digits_2 9 rfl rfl)
theorem dX8_digits_60 : decode cX8_digits 60 = .ok (.iconst 1, 1) := dk_4 (dk_at dksX8_digits_2 12 rfl rfl)
theorem dX8_digits_61 : decode cX8_digits 61 = .ok (.iadd, 1) := dk_96 (dk_at dksX8_digits_2 13 rfl rfl)
theorem dX8_digits_62 : decode cX8_digits 62 = .ok (.putfield 26, 3) := dk_181 0 26 (dk_at dksX8_digits_2 14 rfl rfl)
theorem dX8_digits_65 : decode cX8_digits 65 = .ok (.goto (-60), 3) := dk_167 255 196 (dk_at dksX8_digits_2 17 rfl rfl)
theorem dX8_digits_68 : decode cX8_digits 68 = .ok (.aload_n 0, 1) := dk_42 (dk_at dksX8_digits_2 20 rfl rfl)
theorem dX8_digits_69 : decode cX8_digits 69 = .ok (.aload_n 0, 1) := dk_42 (dk_at dksX8_digits_2 21 rfl rfl)
theorem dX8_digits_70 : decode cX8_digits 70 = .ok (.getfield 26, 3) := dk_180 0 26 (dk_at dksX8_digits_3 0 rfl rfl)
theorem dX8_digits_73 : decode cX8_digits 73 = .ok (.aload_n 0, 1) := dk_42 (dk_at dksX8_digits_3 3 rfl rfl)
theorem dX8_digits_74 : decode cX8_digits 74 = .ok (.getfield 33, 3) := dk_180 0 33 (dk_at dksX8_digits_3 4 rfl rfl)
theorem dX8_digits_77 : decode cX8_digits 77 = .ok (.isub, 1) := dk_100 (dk_at dksX8_digits_3 7 rfl rfl)
theorem dX8_digits_78 : decode cX8_digits 78 = .ok (.iconst 2, 1) := dk_5 (dk_at dksX8_digits_3 8 rfl rfl)
theorem dX8_digits_79 : decode cX8_digits 79 = .ok (.if_icmp .le 7, 3) := dk_164 0 7 (dk_at dksX8_digits_3 9 rfl rfl)
theorem dX8_digits_82 : decode cX8_digits 82 = .ok (.iconst 1, 1) := dk_4 (dk_at dksX8_digits_3 12 rfl rfl)
theorem dX8_digits_83 : decode cX8_digits 83 = .ok (.goto 4, 3) := dk_167 0 4 (dk_at dksX8_digits_3 13 rfl rfl)
theorem dX8_digits_86 : decode cX8_digits 86 = .ok (.iconst 3, 1) := dk_6 (dk_at dksX8_digits_3 16 rfl rfl)
theorem dX8_digits_87 : decode cX8_digits 87 = .ok (.putfield 36, 3) := dk_181 0 36 (dk_at dksX8_digits_3 17 rfl rfl)
theorem dX8_digits_90 : decode cX8_digits 90 = .ok (.return_, 1) := dk_177 (dk_at dksX8_digits_3 20 rfl rfl)
abbrev cX8_need : ByteArray := prog_12_method_8_code
def yX8_need : MethodName := ⟨RX8, "need", "(ZI)V"⟩
def dkwX8_need_1 : List UInt8 := [4, 167, 0, 4, 28, 42, 180, 0, 33, 183, 0, 71, 191, 177]
abbrev dktX8_need_1 : List UInt8 := dkwX8_need_1 ++ []
def dkwX8_need_0 : List UInt8 := [27, 154, 0, 36, 187, 0, 69, 89, 42, 180, 0, 36, 4, 159, 0, 11, 42, 180, 0, 36, 8, 160, 0, 7]
abbrev dktX8_need_0 : List UInt8 := dkwX8_need_0 ++ dktX8_need_1
theorem dksX8_need_0 : cX8_need.data.toList.drop 0 = dktX8_need_0 := by decide +kernel
theorem dksX8_need_1 : cX8_need.data.toList.drop 24 = dktX8_need_1 := dk_seg dksX8_need_0 24 rfl rfl
theorem dX8_need_0 : decode cX8_need 0 = .ok (.iload_n 1, 1) := dk_27 (dk_at dksX8_need_0 0 rfl rfl)
theorem dX8_need_1 : decode cX8_need 1 = .ok (.ifCond .ne 36, 3) := dk_154 0 36 (dk_at dksX8_need_0 1 rfl rfl)
theorem dX8_need_4 : decode cX8_need 4 = .ok (.new 69, 3) := dk_187 0 69 (dk_at dksX8_need_0 4 rfl rfl)
theorem dX8_need_7 : decode cX8_need 7 = .ok (.dup, 1) := dk_89 (dk_at dksX8_need_0 7 rfl rfl)
theorem dX8_need_8 : decode cX8_need 8 = .ok (.aload_n 0, 1) := dk_42 (dk_at dksX8_need_0 8 rfl rfl)
theorem dX8_need_9 : decode cX8_need 9 = .ok (.getfield 36, 3) := dk_180 0 36 (dk_at dksX8_need_0 9 rfl rfl)
theorem dX8_need_12 : decode cX8_need 12 = .ok (.iconst 1, 1) := dk_4 (dk_at dksX8_need_0 12 rfl rfl)
theorem dX8_need_13 : decode cX8_need 13 = .ok (.if_icmp .eq 11, 3) := dk_159 0 11 (dk_at dksX8_need_0 13 rfl rfl)
theorem dX8_need_16 : decode cX8_need 16 = .ok (.aload_n 0, 1) := dk_42 (dk_at dksX8_need_0 16 rfl rfl)
theorem dX8_need_17 : decode cX8_need 17 = .ok (.getfield 36, 3) := dk_180 0 36 (dk_at dksX8_need_0 17 rfl rfl)
theorem dX8_need_20 : decode cX8_need 20 = .ok (.iconst 5, 1) := dk_8 (dk_at dksX8_need_0 20 rfl rfl)
theorem dX8_need_21 : decode cX8_need 21 = .ok (.if_icmp .ne 7, 3) := dk_160 0 7 (dk_at dksX8_need_0 21 rfl rfl)
theorem dX8_need_24 : decode cX8_need 24 = .ok (.iconst 1, 1) := dk_4 (dk_at dksX8_need_1 0 rfl rfl)
theorem dX8_need_25 : decode cX8_need 25 = .ok (.goto 4, 3) := dk_167 0 4 (dk_at dksX8_need_1 1 rfl rfl)
theorem dX8_need_28 : decode cX8_need 28 = .ok (.iload_n 2, 1) := dk_28 (dk_at dksX8_need_1 4 rfl rfl)
theorem dX8_need_29 : decode cX8_need 29 = .ok (.aload_n 0, 1) := dk_42 (dk_at dksX8_need_1 5 rfl rfl)
theorem dX8_need_30 : decode cX8_need 30 = .ok (.getfield 33, 3) := dk_180 0 33 (dk_at dksX8_need_1 6 rfl rfl)
theorem dX8_need_33 : decode cX8_need 33 = .ok (.invokespecial 71, 3) := dk_183 0 71 (dk_at dksX8_need_1 9 rfl rfl)
theorem dX8_need_36 : decode cX8_need 36 = .ok (.athrow, 1) := dk_191 (dk_at dksX8_need_1 12 rfl rfl)
theorem dX8_need_37 : decode cX8_need 37 = .ok (.return_, 1) := dk_177 (dk_at dksX8_need_1 13 rfl rfl)
abbrev cX8_number : ByteArray := prog_12_method_11_code
def yX8_number : MethodName := ⟨RX8, "number", "(II)I"⟩
def dkwX8_number_1 : List UInt8 := [28, 184, 0, 87, 5, 182, 0, 80, 42, 180, 0, 66, 62, 42, 182, 0, 84, 29, 172]
abbrev dktX8_number_1 : List UInt8 := dkwX8_number_1 ++ []
def dkwX8_number_0 : List UInt8 := [42, 42, 180, 0, 36, 6, 160, 0, 7, 4, 167, 0, 4, 3, 4, 182, 0, 80, 42, 42, 180, 0, 66, 27]
abbrev dktX8_number_0 : List UInt8 := dkwX8_number_0 ++ dktX8_number_1
theorem dksX8_number_0 : cX8_number.data.toList.drop 0 = dktX8_number_0 := by decide +kernel
theorem dksX8_number_1 : cX8_number.data.toList.drop 24 = dktX8_number_1 := dk_seg dksX8_number_0 24 rfl rfl
theorem dX8_number_0 : decode cX8_number 0 = .ok (.aload_n 0, 1) := dk_42 (dk_at dksX8_number_0 0 rfl rfl)
theorem dX8_number_1 : decode cX8_number 1 = .ok (.aload_n 0, 1) := dk_42 (dk_at dksX8_number_0 1 rfl rfl)
theorem dX8_number_2 : decode cX8_number 2 = .ok (.getfield 36, 3) := dk_180 0 36 (dk_at dksX8_number_0 2 rfl rfl)
theorem dX8_number_5 : decode cX8_number 5 = .ok (.iconst 3, 1) := dk_6 (dk_at dksX8_number_0 5 rfl rfl)
theorem dX8_number_6 : decode cX8_number 6 = .ok (.if_icmp .ne 7, 3) := dk_160 0 7 (dk_at dksX8_number_0 6 rfl rfl)
theorem dX8_number_9 : decode cX8_number 9 = .ok (.iconst 1, 1) := dk_4 (dk_at dksX8_number_0 9 rfl rfl)
theorem dX8_number_10 : decode cX8_number 10 = .ok (.goto 4, 3) := dk_167 0 4 (dk_at dksX8_number_0 10 rfl rfl)
theorem dX8_number_13 : decode cX8_number 13 = .ok (.iconst 0, 1) := dk_3 (dk_at dksX8_number_0 13 rfl rfl)
theorem dX8_number_14 : decode cX8_number 14 = .ok (.iconst 1, 1) := dk_4 (dk_at dksX8_number_0 14 rfl rfl)
theorem dX8_number_15 : decode cX8_number 15 = .ok (.invokevirtual 80, 3) := dk_182 0 80 (dk_at dksX8_number_0 15 rfl rfl)
theorem dX8_number_18 : decode cX8_number 18 = .ok (.aload_n 0, 1) := dk_42 (dk_at dksX8_number_0 18 rfl rfl)
theorem dX8_number_19 : decode cX8_number 19 = .ok (.aload_n 0, 1) := dk_42 (dk_at dksX8_number_0 19 rfl rfl)
theorem dX8_number_20 : decode cX8_number 20 = .ok (.getfield 66, 3) := dk_180 0 66 (dk_at dksX8_number_0 20 rfl rfl)
theorem dX8_number_23 : decode cX8_number 23 = .ok (.iload_n 1, 1) := dk_27 (dk_at dksX8_number_0 23 rfl rfl)
theorem dX8_number_24 : decode cX8_number 24 = .ok (.iload_n 2, 1) := dk_28 (dk_at dksX8_number_1 0 rfl rfl)
theorem dX8_number_25 : decode cX8_number 25 = .ok (.invokestatic 87, 3) := dk_184 0 87 (dk_at dksX8_number_1 1 rfl rfl)
theorem dX8_number_28 : decode cX8_number 28 = .ok (.iconst 2, 1) := dk_5 (dk_at dksX8_number_1 4 rfl rfl)
theorem dX8_number_29 : decode cX8_number 29 = .ok (.invokevirtual 80, 3) := dk_182 0 80 (dk_at dksX8_number_1 5 rfl rfl)
theorem dX8_number_32 : decode cX8_number 32 = .ok (.aload_n 0, 1) := dk_42 (dk_at dksX8_number_1 8 rfl rfl)
theorem dX8_number_33 : decode cX8_number 33 = .ok (.getfield 66, 3) := dk_180 0 66 (dk_at dksX8_number_1 9 rfl rfl)
theorem dX8_number_36 : decode cX8_number 36 = .ok (.istore_n 3, 1) := dk_62 (dk_at dksX8_number_1 12 rfl rfl)
theorem dX8_number_37 : decode cX8_number 37 = .ok (.aload_n 0, 1) := dk_42 (dk_at dksX8_number_1 13 rfl rfl)
theorem dX8_number_38 : decode cX8_number 38 = .ok (.invokevirtual 84, 3) := dk_182 0 84 (dk_at dksX8_number_1 14 rfl rfl)
theorem dX8_number_41 : decode cX8_number 41 = .ok (.iload_n 3, 1) := dk_29 (dk_at dksX8_number_1 17 rfl rfl)
theorem dX8_number_42 : decode cX8_number 42 = .ok (.ireturn, 1) := dk_172 (dk_at dksX8_number_1 18 rfl rfl)
abbrev cX8_sign : ByteArray := prog_12_method_10_code
def yX8_sign : MethodName := ⟨RX8, "sign", "(I)V"⟩
def dkwX8_sign_1 : List UInt8 := [182, 0, 80, 42, 182, 0, 84, 177]
abbrev dktX8_sign_1 : List UInt8 := dkwX8_sign_1 ++ []
def dkwX8_sign_0 : List UInt8 := [42, 42, 180, 0, 36, 7, 160, 0, 15, 42, 180, 0, 52, 27, 160, 0, 7, 4, 167, 0, 4, 3, 4]
abbrev dktX8_sign_0 : List UInt8 := dkwX8_sign_0 ++ dktX8_sign_1
theorem dksX8_sign_0 : cX8_sign.data.toList.drop 0 = dktX8_sign_0 := by decide +kernel
theorem dksX8_sign_1 : cX8_sign.data.toList.drop 23 = dktX8_sign_1 := dk_seg dksX8_sign_0 23 rfl rfl
theorem dX8_sign_0 : decode cX8_sign 0 = .ok (.aload_n 0, 1) := dk_42 (dk_at dksX8_sign_0 0 rfl rfl)
theorem dX8_sign_1 : decode cX8_sign 1 = .ok (.aload_n 0, 1) := dk_42 (dk_at dksX8_sign_0 1 rfl rfl)
theorem dX8_sign_2 : decode cX8_sign 2 = .ok (.getfield 36, 3) := dk_180 0 36 (dk_at dksX8_sign_0 2 rfl rfl)
theorem dX8_sign_5 : decode cX8_sign 5 = .ok (.iconst 4, 1) := dk_7 (dk_at dksX8_sign_0 5 rfl rfl)
theorem dX8_sign_6 : decode cX8_sign 6 = .ok (.if_icmp .ne 15, 3) := dk_160 0 15 (dk_at dksX8_sign_0 6 rfl rfl)
theorem dX8_sign_9 : decode cX8_sign 9 = .ok (.aload_n 0, 1) := dk_42 (dk_at dksX8_sign_0 9 rfl rfl)
theorem dX8_sign_10 : decode cX8_sign 10 = .ok (.getfield 52, 3) := dk_180 0 52 (dk_at dksX8_sign_0 10 rfl rfl)
theorem dX8_sign_13 : decode cX8_sign 13 = .ok (.iload_n 1, 1) := dk_27 (dk_at dksX8_sign_0 13 rfl rfl)
theorem dX8_sign_14 : decode cX8_sign 14 = .ok (.if_icmp .ne 7, 3) := dk_160 0 7 (dk_at dksX8_sign_0 14 rfl rfl)
theorem dX8_sign_17 : decode cX8_sign 17 = .ok (.iconst 1, 1) := dk_4 (dk_at dksX8_sign_0 17 rfl rfl)
theorem dX8_sign_18 : decode cX8_sign 18 = .ok (.goto 4, 3) := dk_167 0 4 (dk_at dksX8_sign_0 18 rfl rfl)
theorem dX8_sign_21 : decode cX8_sign 21 = .ok (.iconst 0, 1) := dk_3 (dk_at dksX8_sign_0 21 rfl rfl)
theorem dX8_sign_22 : decode cX8_sign 22 = .ok (.iconst 1, 1) := dk_4 (dk_at dksX8_sign_0 22 rfl rfl)
theorem dX8_sign_23 : decode cX8_sign 23 = .ok (.invokevirtual 80, 3) := dk_182 0 80 (dk_at dksX8_sign_1 0 rfl rfl)
theorem dX8_sign_26 : decode cX8_sign 26 = .ok (.aload_n 0, 1) := dk_42 (dk_at dksX8_sign_1 3 rfl rfl)
theorem dX8_sign_27 : decode cX8_sign 27 = .ok (.invokevirtual 84, 3) := dk_182 0 84 (dk_at dksX8_sign_1 4 rfl rfl)
theorem dX8_sign_30 : decode cX8_sign 30 = .ok (.return_, 1) := dk_177 (dk_at dksX8_sign_1 7 rfl rfl)
abbrev cX8_is : ByteArray := prog_12_method_9_code
def yX8_is : MethodName := ⟨RX8, "is", "(Ljava/lang/String;)Z"⟩
def dkwX8_is_1 : List UInt8 := [172]
abbrev dktX8_is_1 : List UInt8 := dkwX8_is_1 ++ []
def dkwX8_is_0 : List UInt8 := [42, 180, 0, 36, 5, 160, 0, 18, 42, 180, 0, 9, 43, 182, 0, 74, 153, 0, 7, 4, 167, 0, 4, 3]
abbrev dktX8_is_0 : List UInt8 := dkwX8_is_0 ++ dktX8_is_1
theorem dksX8_is_0 : cX8_is.data.toList.drop 0 = dktX8_is_0 := by decide +kernel
theorem dksX8_is_1 : cX8_is.data.toList.drop 24 = dktX8_is_1 := dk_seg dksX8_is_0 24 rfl rfl
theorem dX8_is_0 : decode cX8_is 0 = .ok (.aload_n 0, 1) := dk_42 (dk_at dksX8_is_0 0 rfl rfl)
theorem dX8_is_1 : decode cX8_is 1 = .ok (.getfield 36, 3) := dk_180 0 36 (dk_at dksX8_is_0 1 rfl rfl)
theorem dX8_is_4 : decode cX8_is 4 = .ok (.iconst 2, 1) := dk_5 (dk_at dksX8_is_0 4 rfl rfl)
theorem dX8_is_5 : decode cX8_is 5 = .ok (.if_icmp .ne 18, 3) := dk_160 0 18 (dk_at dksX8_is_0 5 rfl rfl)
theorem dX8_is_8 : decode cX8_is 8 = .ok (.aload_n 0, 1) := dk_42 (dk_at dksX8_is_0 8 rfl rfl)
theorem dX8_is_9 : decode cX8_is 9 = .ok (.getfield 9, 3) := dk_180 0 9 (dk_at dksX8_is_0 9 rfl rfl)
theorem dX8_is_12 : decode cX8_is 12 = .ok (.aload_n 1, 1) := dk_43 (dk_at dksX8_is_0 12 rfl rfl)
theorem dX8_is_13 : decode cX8_is 13 = .ok (.invokevirtual 74, 3) := dk_182 0 74 (dk_at dksX8_is_0 13 rfl rfl)
theorem dX8_is_16 : decode cX8_is 16 = .ok (.ifCond .eq 7, 3) := dk_153 0 7 (dk_at dksX8_is_0 16 rfl rfl)
theorem dX8_is_19 : decode cX8_is 19 = .ok (.iconst 1, 1) := dk_4 (dk_at dksX8_is_0 19 rfl rfl)
theorem dX8_is_20 : decode cX8_is 20 = .ok (.goto 4, 3) := dk_167 0 4 (dk_at dksX8_is_0 20 rfl rfl)
theorem dX8_is_23 : decode cX8_is 23 = .ok (.iconst 0, 1) := dk_3 (dk_at dksX8_is_0 23 rfl rfl)
theorem dX8_is_24 : decode cX8_is 24 = .ok (.ireturn, 1) := dk_172 (dk_at dksX8_is_1 0 rfl rfl)
abbrev cX9_init : ByteArray := prog_10_method_1_code
def yX9_init : MethodName := ⟨RX9, "<init>", "([BI)V"⟩
def dkwX9_init_1 : List UInt8 := [188, 10, 181, 0, 20, 177]
abbrev dktX9_init_1 : List UInt8 := dkwX9_init_1 ++ []
def dkwX9_init_0 : List UInt8 := [42, 43, 28, 17, 2, 188, 183, 0, 3, 42, 187, 0, 9, 89, 183, 0, 11, 181, 0, 14, 42, 17, 0, 217]
abbrev dktX9_init_0 : List UInt8 := dkwX9_init_0 ++ dktX9_init_1
theorem dksX9_init_0 : cX9_init.data.toList.drop 0 = dktX9_init_0 := by decide +kernel
theorem dksX9_init_1 : cX9_init.data.toList.drop 24 = dktX9_init_1 := dk_seg dksX9_init_0 24 rfl rfl
theorem dX9_init_0 : decode cX9_init 0 = .ok (.aload_n 0, 1) := dk_42 (dk_at dksX9_init_0 0 rfl rfl)
theorem dX9_init_1 : decode cX9_init 1 = .ok (.aload_n 1, 1) := dk_43 (dk_at dksX9_init_0 1 rfl rfl)
theorem dX9_init_2 : decode cX9_init 2 = .ok (.iload_n 2, 1) := dk_28 (dk_at dksX9_init_0 2 rfl rfl)
theorem dX9_init_3 : decode cX9_init 3 = .ok (.sipush 700, 3) := dk_17 2 188 (dk_at dksX9_init_0 3 rfl rfl)
theorem dX9_init_6 : decode cX9_init 6 = .ok (.invokespecial 3, 3) := dk_183 0 3 (dk_at dksX9_init_0 6 rfl rfl)
theorem dX9_init_9 : decode cX9_init 9 = .ok (.aload_n 0, 1) := dk_42 (dk_at dksX9_init_0 9 rfl rfl)
theorem dX9_init_10 : decode cX9_init 10 = .ok (.new 9, 3) := dk_187 0 9 (dk_at dksX9_init_0 10 rfl rfl)
theorem dX9_init_13 : decode cX9_init 13 = .ok (.dup, 1) := dk_89 (dk_at dksX9_init_0 13 rfl rfl)
theorem dX9_init_14 : decode cX9_init 14 = .ok (.invokespecial 11, 3) := dk_183 0 11 (dk_at dksX9_init_0 14 rfl rfl)
theorem dX9_init_17 : decode cX9_init 17 = .ok (.putfield 14, 3) := dk_181 0 14 (dk_at dksX9_init_0 17 rfl rfl)
theorem dX9_init_20 : decode cX9_init 20 = .ok (.aload_n 0, 1) := dk_42 (dk_at dksX9_init_0 20 rfl rfl)
theorem dX9_init_21 : decode cX9_init 21 = .ok (.sipush 217, 3) := dk_17 0 217 (dk_at dksX9_init_0 21 rfl rfl)
theorem dX9_init_24 : decode cX9_init 24 = .ok (.newarray .int, 2) := dk_188_10 (dk_at dksX9_init_1 0 rfl rfl)
theorem dX9_init_26 : decode cX9_init 26 = .ok (.putfield 20, 3) := dk_181 0 20 (dk_at dksX9_init_1 2 rfl rfl)
theorem dX9_init_29 : decode cX9_init 29 = .ok (.return_, 1) := dk_177 (dk_at dksX9_init_1 5 rfl rfl)
abbrev cX9_read : ByteArray := prog_10_method_4_code
def yX9_read : MethodName := ⟨RX9, "read", "()LPlugHall$Board;"⟩
def dkwX9_read_2 : List UInt8 := [42, 180, 0, 14, 176]
abbrev dktX9_read_2 : List UInt8 := dkwX9_read_2 ++ []
def dkwX9_read_1 : List UInt8 := [27, 182, 0, 86, 61, 42, 16, 59, 182, 0, 73, 42, 180, 0, 14, 27, 28, 182, 0, 89, 87, 167, 255, 215]
abbrev dktX9_read_1 : List UInt8 := dkwX9_read_1 ++ dktX9_read_2
def dkwX9_read_0 : List UInt8 := [42, 182, 0, 59, 42, 180, 0, 28, 153, 0, 40, 42, 2, 182, 0, 86, 60, 42, 16, 45, 182, 0, 73, 42]
abbrev dktX9_read_0 : List UInt8 := dkwX9_read_0 ++ dktX9_read_1
theorem dksX9_read_0 : cX9_read.data.toList.drop 0 = dktX9_read_0 := by decide +kernel
theorem dksX9_read_1 : cX9_read.data.toList.drop 24 = dktX9_read_1 := dk_seg dksX9_read_0 24 rfl rfl
theorem dksX9_read_2 : cX9_read.data.toList.drop 48 = dktX9_read_2 := dk_seg dksX9_read_1 24 rfl rfl
theorem dX9_read_0 : decode cX9_read 0 = .ok (.aload_n 0, 1) := dk_42 (dk_at dksX9_read_0 0 rfl rfl)
theorem dX9_read_1 : decode cX9_read 1 = .ok (.invokevirtual 59, 3) := dk_182 0 59 (dk_at dksX9_read_0 1 rfl rfl)
theorem dX9_read_4 : decode cX9_read 4 = .ok (.aload_n 0, 1) := dk_42 (dk_at dksX9_read_0 4 rfl rfl)
theorem dX9_read_5 : decode cX9_read 5 = .ok (.getfield 28, 3) := dk_180 0 28 (dk_at dksX9_read_0 5 rfl rfl)
theorem dX9_read_8 : decode cX9_read 8 = .ok (.ifCond .eq 40, 3) := dk_153 0 40 (dk_at dksX9_read_0 8 rfl rfl)
theorem dX9_read_11 : decode cX9_read 11 = .ok (.aload_n 0, 1) := dk_42 (dk_at dksX9_read_0 11 rfl rfl)
theorem dX9_read_12 : decode cX9_read 12 = .ok (.iconst (-1), 1) := dk_2 (dk_at dksX9_read_0 12 rfl rfl)
theorem dX9_read_13 : decode cX9_read 13 = .ok (.invokevirtual 86, 3) := dk_182 0 86 (dk_at dksX9_read_0 13 rfl rfl)
theorem dX9_read_16 : decode cX9_read 16 = .ok (.istore_n 1, 1) := dk_60 (dk_at dksX9_read_0 16 rfl rfl)
theorem dX9_read_17 : decode cX9_read 17 = .ok (.aload_n 0, 1) := dk_42 (dk_at dksX9_read_0 17 rfl rfl)
theorem dX9_read_18 : decode cX9_read 18 = .ok (.bipush 45, 2) := dk_16 45 (dk_at dksX9_read_0 18 rfl rfl)
theorem dX9_read_20 : decode cX9_read 20 = .ok (.invokevirtual 73, 3) := dk_182 0 73 (dk_at dksX9_read_0 20 rfl rfl)
theorem dX9_read_23 : decode cX9_read 23 = .ok (.aload_n 0, 1) := dk_42 (dk_at dksX9_read_0 23 rfl rfl)
theorem dX9_read_24 : decode cX9_read 24 = .ok (.iload_n 1, 1) := dk_27 (dk_at dksX9_read_1 0 rfl rfl)
theorem dX9_read_25 : decode cX9_read 25 = .ok (.invokevirtual 86, 3) := dk_182 0 86 (dk_at dksX9_read_1 1 rfl rfl)
theorem dX9_read_28 : decode cX9_read 28 = .ok (.istore_n 2, 1) := dk_61 (dk_at dksX9_read_1 4 rfl rfl)
theorem dX9_read_29 : decode cX9_read 29 = .ok (.aload_n 0, 1) := dk_42 (dk_at dksX9_read_1 5 rfl rfl)
theorem dX9_read_30 : decode cX9_read 30 = .ok (.bipush 59, 2) := dk_16 59 (dk_at dksX9_read_1 6 rfl rfl)
theorem dX9_read_32 : decode cX9_read 32 = .ok (.invokevirtual 73, 3) := dk_182 0 73 (dk_at dksX9_read_1 8 rfl rfl)
theorem dX9_read_35 : decode cX9_read 35 = .ok (.aload_n 0, 1) := dk_42 (dk_at dksX9_read_1 11 rfl rfl)
theorem dX9_read_36 : decode cX9_read 36 = .ok (.getfield 14, 3) := dk_180 0 14 (dk_at dksX9_read_1 12 rfl rfl)
theorem dX9_read_39 : decode cX9_read 39 = .ok (.iload_n 1, 1) := dk_27 (dk_at dksX9_read_1 15 rfl rfl)
theorem dX9_read_40 : decode cX9_read 40 = .ok (.iload_n 2, 1) := dk_28 (dk_at dksX9_read_1 16 rfl rfl)
theorem dX9_read_41 : decode cX9_read 41 = .ok (.invokevirtual 89, 3) := dk_182 0 89 (dk_at dksX9_read_1 17 rfl rfl)
theorem dX9_read_44 : decode cX9_read 44 = .ok (.pop, 1) := dk_87 (dk_at dksX9_read_1 20 rfl rfl)
theorem dX9_read_45 : decode cX9_read 45 = .ok (.goto (-41), 3) := dk_167 255 215 (dk_at dksX9_read_1 21 rfl rfl)
theorem dX9_read_48 : decode cX9_read 48 = .ok (.aload_n 0, 1) := dk_42 (dk_at dksX9_read_2 0 rfl rfl)
theorem dX9_read_49 : decode cX9_read 49 = .ok (.getfield 14, 3) := dk_180 0 14 (dk_at dksX9_read_2 1 rfl rfl)
theorem dX9_read_52 : decode cX9_read 52 = .ok (.areturn, 1) := dk_176 (dk_at dksX9_read_2 4 rfl rfl)
abbrev cX9_hub : ByteArray := prog_10_method_3_code
def yX9_hub : MethodName := ⟨RX9, "hub", "(I)I"⟩
def dkwX9_hub_7 : List UInt8 := [183, 0, 83, 191, 42, 180, 0, 20, 21, 4, 92, 46, 4, 96, 79, 21, 4, 172]
abbrev dktX9_hub_7 : List UInt8 := dkwX9_hub_7 ++ []
def dkwX9_hub_6 : List UInt8 := [159, 0, 18, 42, 180, 0, 20, 21, 4, 46, 21, 4, 184, 0, 77, 160, 0, 13, 187, 0, 81, 89, 6, 29]
abbrev dktX9_hub_6 : List UInt8 := dkwX9_hub_6 ++ dktX9_hub_7
def dkwX9_hub_5 : List UInt8 := [182, 0, 73, 21, 4, 42, 4, 44, 180, 0, 70, 182, 0, 66, 4, 100, 96, 54, 4, 21, 4, 27]
abbrev dktX9_hub_5 : List UInt8 := dkwX9_hub_5 ++ dktX9_hub_6
def dkwX9_hub_4 : List UInt8 := [180, 0, 70, 104, 167, 0, 5, 21, 5, 96, 54, 4, 44, 180, 0, 70, 158, 0, 25, 42, 16, 46]
abbrev dktX9_hub_4 : List UInt8 := dkwX9_hub_4 ++ dktX9_hub_5
def dkwX9_hub_3 : List UInt8 := [44, 180, 0, 63, 182, 0, 66, 4, 100, 54, 5, 21, 4, 44, 180, 0, 70, 158, 0, 13, 21, 5, 44]
abbrev dktX9_hub_3 : List UInt8 := dkwX9_hub_3 ++ dktX9_hub_4
def dkwX9_hub_2 : List UInt8 := [42, 180, 0, 56, 62, 42, 182, 0, 59, 44, 180, 0, 62, 54, 4, 44, 180, 0, 63, 158, 0, 40, 42, 4]
abbrev dktX9_hub_2 : List UInt8 := dkwX9_hub_2 ++ dktX9_hub_3
def dkwX9_hub_1 : List UInt8 := [160, 0, 15, 42, 180, 0, 14, 180, 0, 53, 16, 60, 162, 0, 7, 4, 167, 0, 4, 3, 7, 182, 0, 49]
abbrev dktX9_hub_1 : List UInt8 := dkwX9_hub_1 ++ dktX9_hub_2
def dkwX9_hub_0 : List UInt8 := [42, 182, 0, 45, 77, 42, 44, 198, 0, 7, 4, 167, 0, 4, 3, 4, 182, 0, 49, 42, 27, 2]
abbrev dktX9_hub_0 : List UInt8 := dkwX9_hub_0 ++ dktX9_hub_1
theorem dksX9_hub_0 : cX9_hub.data.toList.drop 0 = dktX9_hub_0 := by decide +kernel
theorem dksX9_hub_1 : cX9_hub.data.toList.drop 22 = dktX9_hub_1 := dk_seg dksX9_hub_0 22 rfl rfl
theorem dksX9_hub_2 : cX9_hub.data.toList.drop 46 = dktX9_hub_2 := dk_seg dksX9_hub_1 24 rfl rfl
theorem dksX9_hub_3 : cX9_hub.data.toList.drop 70 = dktX9_hub_3 := dk_seg dksX9_hub_2 24 rfl rfl
theorem dksX9_hub_4 : cX9_hub.data.toList.drop 93 = dktX9_hub_4 := dk_seg dksX9_hub_3 23 rfl rfl
theorem dksX9_hub_5 : cX9_hub.data.toList.drop 115 = dktX9_hub_5 := dk_seg dksX9_hub_4 22 rfl rfl
theorem dksX9_hub_6 : cX9_hub.data.toList.drop 137 = dktX9_hub_6 := dk_seg dksX9_hub_5 22 rfl rfl
theorem dksX9_hub_7 : cX9_hub.data.toList.drop 161 = dktX9_hub_7 := dk_seg dksX9_hub_6 24 rfl rfl
theorem dX9_hub_0 : decode cX9_hub 0 = .ok (.aload_n 0, 1) := dk_42 (dk_at dksX9_hub_0 0 rfl rfl)
theorem dX9_hub_1 : decode cX9_hub 1 = .ok (.invokevirtual 45, 3) := dk_182 0 45 (dk_at dksX9_hub_0 1 rfl rfl)
theorem dX9_hub_4 : decode cX9_hub 4 = .ok (.astore_n 2, 1) := dk_77 (dk_at dksX9_hub_0 4 rfl rfl)
theorem dX9_hub_5 : decode cX9_hub 5 = .ok (.aload_n 0, 1) := dk_42 (dk_at dksX9_hub_0 5 rfl rfl)
theorem dX9_hub_6 : decode cX9_hub 6 = .ok (.aload_n 2, 1) := dk_44 (dk_at dksX9_hub_0 6 rfl rfl)
theorem dX9_hub_7 : decode cX9_hub 7 = .ok (.ifnull 7, 3) := dk_198 0 7 (dk_at dksX9_hub_0 7 rfl rfl)
theorem dX9_hub_10 : decode cX9_hub 10 = .ok (.iconst 1, 1) := dk_4 (dk_at dksX9_hub_0 10 rfl rfl)
theorem dX9_hub_11 : decode cX9_hub 11 = .ok (.goto 4, 3) := dk_167 0 4 (dk_at dksX9_hub_0 11 rfl rfl)
theorem dX9_hub_14 : decode cX9_hub 14 = .ok (.iconst 0, 1) := dk_3 (dk_at dksX9_hub_0 14 rfl rfl)
theorem dX9_hub_15 : decode cX9_hub 15 = .ok (.iconst 1, 1) := dk_4 (dk_at dksX9_hub_0 15 rfl rfl)
theorem dX9_hub_16 : decode cX9_hub 16 = .ok (.invokevirtual 49, 3) := dk_182 0 49 (dk_at dksX9_hub_0 16 rfl rfl)
theorem dX9_hub_19 : decode cX9_hub 19 = .ok (.aload_n 0, 1) := dk_42 (dk_at dksX9_hub_0 19 rfl rfl)
theorem dX9_hub_20 : decode cX9_hub 20 = .ok (.iload_n 1, 1) := dk_27 (dk_at dksX9_hub_0 20 rfl rfl)
theorem dX9_hub_21 : decode cX9_hub 21 = .ok (.iconst (-1), 1) := dk_2 (dk_at dksX9_hub_0 21 rfl rfl)
theorem dX9_hub_22 : decode cX9_hub 22 = .ok (.if_icmp .ne 15, 3) := dk_160 0 15 (dk_at dksX9_hub_1 0 rfl rfl)
theorem dX9_hub_25 : decode cX9_hub 25 = .ok (.aload_n 0, 1) := dk_42 (dk_at dksX9_hub_1 3 rfl rfl)
theorem dX9_hub_26 : decode cX9_hub 26 = .ok (.getfield 14, 3) := dk_180 0 14 (dk_at dksX9_hub_1 4 rfl rfl)
theorem dX9_hub_29 : decode cX9_hub 29 = .ok (.getfield 53, 3) := dk_180 0 53 (dk_at dksX9_hub_1 7 rfl rfl)
theorem dX9_hub_32 : decode cX9_hub 32 = .ok (.bipush 60, 2) := dk_16 60 (dk_at dksX9_hub_1 10 rfl rfl)
theorem dX9_hub_34 : decode cX9_hub 34 = .ok (.if_icmp .ge 7, 3) := dk_162 0 7 (dk_at dksX9_hub_1 12 rfl rfl)
theorem dX9_hub_37 : decode cX9_hub 37 = .ok (.iconst 1, 1) := dk_4 (dk_at dksX9_hub_1 15 rfl rfl)
theorem dX9_hub_38 : decode cX9_hub 38 = .ok (.goto 4, 3) := dk_167 0 4 (dk_at dksX9_hub_1 16 rfl rfl)
theorem dX9_hub_41 : decode cX9_hub 41 = .ok (.iconst 0, 1) := dk_3 (dk_at dksX9_hub_1 19 rfl rfl)
theorem dX9_hub_42 : decode cX9_hub 42 = .ok (.iconst 4, 1) := dk_7 (dk_at dksX9_hub_1 20 rfl rfl)
theorem dX9_hub_43 : decode cX9_hub 43 = .ok (.invokevirtual 49, 3) := dk_182 0 49 (dk_at dksX9_hub_1 21 rfl rfl)
theorem dX9_hub_46 : decode cX9_hub 46 = .ok (.aload_n 0, 1) := dk_42 (dk_at dksX9_hub_2 0 rfl rfl)
theorem dX9_hub_47 : decode cX9_hub 47 = .ok (.getfield 56, 3) := dk_180 0 56 (dk_at dksX9_hub_2 1 rfl rfl)
theorem dX9_hub_50 : decode cX9_hub 50 = .ok (.istore_n 3, 1) := dk_62 (dk_at dksX9_hub_2 4 rfl rfl)
theorem dX9_hub_51 : decode cX9_hub 51 = .ok (.aload_n 0, 1) := dk_42 (dk_at dksX9_hub_2 5 rfl rfl)
theorem dX9_hub_52 : decode cX9_hub 52 = .ok (.invokevirtual 59, 3) := dk_182 0 59 (dk_at dksX9_hub_2 6 rfl rfl)
theorem dX9_hub_55 : decode cX9_hub 55 = .ok (.aload_n 2, 1) := dk_44 (dk_at dksX9_hub_2 9 rfl rfl)
theorem dX9_hub_56 : decode cX9_hub 56 = .ok (.getfield 62, 3) := dk_180 0 62 (dk_at dksX9_hub_2 10 rfl rfl)
theorem dX9_hub_59 : decode cX9_hub 59 = .ok (.istore 4, 2) := dk_54 4 (dk_at dksX9_hub_2 13 rfl rfl)
theorem dX9_hub_61 : decode cX9_hub 61 = .ok (.aload_n 2, 1) := dk_44 (dk_at dksX9_hub_2 15 rfl rfl)
theorem dX9_hub_62 : decode cX9_hub 62 = .ok (.getfield 63, 3) := dk_180 0 63 (dk_at dksX9_hub_2 16 rfl rfl)
theorem dX9_hub_65 : decode cX9_hub 65 = .ok (.ifCond .le 40, 3) := dk_158 0 40 (dk_at dksX9_hub_2 19 rfl rfl)
theorem dX9_hub_68 : decode cX9_hub 68 = .ok (.aload_n 0, 1) := dk_42 (dk_at dksX9_hub_2 22 rfl rfl)
theorem dX9_hub_69 : decode cX9_hub 69 = .ok (.iconst 1, 1) := dk_4 (dk_at dksX9_hub_2 23 rfl rfl)
theorem dX9_hub_70 : decode cX9_hub 70 = .ok (.aload_n 2, 1) := dk_44 (dk_at dksX9_hub_3 0 rfl rfl)
theorem dX9_hub_71 : decode cX9_hub 71 = .ok (.getfield 63, 3) := dk_180 0 63 (dk_at dksX9_hub_3 1 rfl rfl)
theorem dX9_hub_74 : decode cX9_hub 74 = .ok (.invokevirtual 66, 3) := dk_182 0 66 (dk_at dksX9_hub_3 4 rfl rfl)
theorem dX9_hub_77 : decode cX9_hub 77 = .ok (.iconst 1, 1) := dk_4 (dk_at dksX9_hub_3 7 rfl rfl)
theorem dX9_hub_78 : decode cX9_hub 78 = .ok (.isub, 1) := dk_100 (dk_at dksX9_hub_3 8 rfl rfl)
theorem dX9_hub_79 : decode cX9_hub 79 = .ok (.istore 5, 2) := dk_54 5 (dk_at dksX9_hub_3 9 rfl rfl)
theorem dX9_hub_81 : decode cX9_hub 81 = .ok (.iload 4, 2) := dk_21 4 (dk_at dksX9_hub_3 11 rfl rfl)
theorem dX9_hub_83 : decode cX9_hub 83 = .ok (.aload_n 2, 1) := dk_44 (dk_at dksX9_hub_3 13 rfl rfl)
theorem dX9_hub_84 : decode cX9_hub 84 = .ok (.getfield 70, 3) := dk_180 0 70 (dk_at dksX9_hub_3 14 rfl rfl)
theorem dX9_hub_87 : decode cX9_hub 87 = .ok (.ifCond .le 13, 3) := dk_158 0 13 (dk_at dksX9_hub_3 17 rfl rfl)
theorem dX9_hub_90 : decode cX9_hub 90 = .ok (.iload 5, 2) := dk_21 5 (dk_at dksX9_hub_3 20 rfl rfl)
theorem dX9_hub_92 : decode cX9_hub 92 = .ok (.aload_n 2, 1) := dk_44 (dk_at dksX9_hub_3 22 rfl rfl)
theorem dX9_hub_93 : decode cX9_hub 93 = .ok (.getfield 70, 3) := dk_180 0 70 (dk_at dksX9_hub_4 0 rfl rfl)
theorem dX9_hub_96 : decode cX9_hub 96 = .ok (.imul, 1) := dk_104 (dk_at dksX9_hub_4 3 rfl rfl)
theorem dX9_hub_97 : decode cX9_hub 97 = .ok (.goto 5, 3) := dk_167 0 5 (dk_at dksX9_hub_4 4 rfl rfl)
theorem dX9_hub_100 : decode cX9_hub 100 = .ok (.iload 5, 2) := dk_21 5 (dk_at dksX9_hub_4 7 rfl rfl)
theorem dX9_hub_102 : decode cX9_hub 102 = .ok (.iadd, 1) := dk_96 (dk_at dksX9_hub_4 9 rfl rfl)
theorem dX9_hub_103 : decode cX9_hub 103 = .ok (.istore 4, 2) := dk_54 4 (dk_at dksX9_hub_4 10 rfl rfl)
theorem dX9_hub_105 : decode cX9_hub 105 = .ok (.aload_n 2, 1) := dk_44 (dk_at dksX9_hub_4 12 rfl rfl)
theorem dX9_hub_106 : decode cX9_hub 106 = .ok (.getfield 70, 3) := dk_180 0 70 (dk_at dksX9_hub_4 13 rfl rfl)
theorem dX9_hub_109 : decode cX9_hub 109 = .ok (.ifCond .le 25, 3) := dk_158 0 25 (dk_at dksX9_hub_4 16 rfl rfl)
theorem dX9_hub_112 : decode cX9_hub 112 = .ok (.aload_n 0, 1) := dk_42 (dk_at dksX9_hub_4 19 rfl rfl)
theorem dX9_hub_113 : decode cX9_hub 113 = .ok (.bipush 46, 2) := dk_16 46 (dk_at dksX9_hub_4 20 rfl rfl)
theorem dX9_hub_115 : decode cX9_hub 115 = .ok (.invokevirtual 73, 3) := dk_182 0 73 (dk_at dksX9_hub_5 0 rfl rfl)
theorem dX9_hub_118 : decode cX9_hub 118 = .ok (.iload 4, 2) := dk_21 4 (dk_at dksX9_hub_5 3 rfl rfl)
theorem dX9_hub_120 : decode cX9_hub 120 = .ok (.aload_n 0, 1) := dk_42 (dk_at dksX9_hub_5 5 rfl rfl)
theorem dX9_hub_121 : decode cX9_hub 121 = .ok (.iconst 1, 1) := dk_4 (dk_at dksX9_hub_5 6 rfl rfl)
theorem dX9_hub_122 : decode cX9_hub 122 = .ok (.aload_n 2, 1) := dk_44 (dk_at dksX9_hub_5 7 rfl rfl)
theorem dX9_hub_123 : decode cX9_hub 123 = .ok (.getfield 70, 3) := dk_180 0 70 (dk_at dksX9_hub_5 8 rfl rfl)
theorem dX9_hub_126 : decode cX9_hub 126 = .ok (.invokevirtual 66, 3) := dk_182 0 66 (dk_at dksX9_hub_5 11 rfl rfl)
theorem dX9_hub_129 : decode cX9_hub 129 = .ok (.iconst 1, 1) := dk_4 (dk_at dksX9_hub_5 14 rfl rfl)
theorem dX9_hub_130 : decode cX9_hub 130 = .ok (.isub, 1) := dk_100 (dk_at dksX9_hub_5 15 rfl rfl)
theorem dX9_hub_131 : decode cX9_hub 131 = .ok (.iadd, 1) := dk_96 (dk_at dksX9_hub_5 16 rfl rfl)
theorem dX9_hub_132 : decode cX9_hub 132 = .ok (.istore 4, 2) := dk_54 4 (dk_at dksX9_hub_5 17 rfl rfl)
theorem dX9_hub_134 : decode cX9_hub 134 = .ok (.iload 4, 2) := dk_21 4 (dk_at dksX9_hub_5 19 rfl rfl)
theorem dX9_hub_136 : decode cX9_hub 136 = .ok (.iload_n 1, 1) := dk_27 (dk_at dksX9_hub_5 21 rfl rfl)
theorem dX9_hub_137 : decode cX9_hub 137 = .ok (.if_icmp .eq 18, 3) := dk_159 0 18 (dk_at dksX9_hub_6 0 rfl rfl)
theorem dX9_hub_140 : decode cX9_hub 140 = .ok (.aload_n 0, 1) := dk_42 (dk_at dksX9_hub_6 3 rfl rfl)
theorem dX9_hub_141 : decode cX9_hub 141 = .ok (.getfield 20, 3) := dk_180 0 20 (dk_at dksX9_hub_6 4 rfl rfl)
theorem dX9_hub_144 : decode cX9_hub 144 = .ok (.iload 4, 2) := dk_21 4 (dk_at dksX9_hub_6 7 rfl rfl)
theorem dX9_hub_146 : decode cX9_hub 146 = .ok (.iaload, 1) := dk_46 (dk_at dksX9_hub_6 9 rfl rfl)
theorem dX9_hub_147 : decode cX9_hub 147 = .ok (.iload 4, 2) := dk_21 4 (dk_at dksX9_hub_6 10 rfl rfl)
theorem dX9_hub_149 : decode cX9_hub 149 = .ok (.invokestatic 77, 3) := dk_184 0 77 (dk_at dksX9_hub_6 12 rfl rfl)
theorem dX9_hub_152 : decode cX9_hub 152 = .ok (.if_icmp .ne 13, 3) := dk_160 0 13 (dk_at dksX9_hub_6 15 rfl rfl)
theorem dX9_hub_155 : decode cX9_hub 155 = .ok (.new 81, 3) := dk_187 0 81 (dk_at dksX9_hub_6 18 rfl rfl)
theorem dX9_hub_158 : decode cX9_hub 158 = .ok (.dup, 1) := dk_89 (dk_at dksX9_hub_6 21 rfl rfl)
theorem dX9_hub_159 : decode cX9_hub 159 = .ok (.iconst 3, 1) := dk_6 (dk_at dksX9_hub_6 22 rfl rfl)
theorem dX9_hub_160 : decode cX9_hub 160 = .ok (.iload_n 3, 1) := dk_29 (dk_at dksX9_hub_6 23 rfl rfl)
theorem dX9_hub_161 : decode cX9_hub 161 = .ok (.invokespecial 83, 3) := dk_183 0 83 (dk_at dksX9_hub_7 0 rfl rfl)
theorem dX9_hub_164 : decode cX9_hub 164 = .ok (.athrow, 1) := dk_191 (dk_at dksX9_hub_7 3 rfl rfl)
theorem dX9_hub_165 : decode cX9_hub 165 = .ok (.aload_n 0, 1) := dk_42 (dk_at dksX9_hub_7 4 rfl rfl)
theorem dX9_hub_166 : decode cX9_hub 166 = .ok (.getfield 20, 3) := dk_180 0 20 (dk_at dksX9_hub_7 5 rfl rfl)
theorem dX9_hub_169 : decode cX9_hub 169 = .ok (.iload 4, 2) := dk_21 4 (dk_at dksX9_hub_7 8 rfl rfl)
theorem dX9_hub_171 : decode cX9_hub 171 = .ok (.dup2, 1) := dk_92 (dk_at dksX9_hub_7 10 rfl rfl)
theorem dX9_hub_172 : decode cX9_hub 172 = .ok (.iaload, 1) := dk_46 (dk_at dksX9_hub_7 11 rfl rfl)
theorem dX9_hub_173 : decode cX9_hub 173 = .ok (.iconst 1, 1) := dk_4 (dk_at dksX9_hub_7 12 rfl rfl)
theorem dX9_hub_174 : decode cX9_hub 174 = .ok (.iadd, 1) := dk_96 (dk_at dksX9_hub_7 13 rfl rfl)
theorem dX9_hub_175 : decode cX9_hub 175 = .ok (.iastore, 1) := dk_79 (dk_at dksX9_hub_7 14 rfl rfl)
theorem dX9_hub_176 : decode cX9_hub 176 = .ok (.iload 4, 2) := dk_21 4 (dk_at dksX9_hub_7 15 rfl rfl)
theorem dX9_hub_178 : decode cX9_hub 178 = .ok (.ireturn, 1) := dk_172 (dk_at dksX9_hub_7 17 rfl rfl)
abbrev cX9_sort : ByteArray := prog_10_method_2_code
def yX9_sort : MethodName := ⟨RX9, "sort", "()LPlugHall$Sort;"⟩
def dkwX9_sort_2 : List UInt8 := [167, 255, 217, 1, 176]
abbrev dktX9_sort_2 : List UInt8 := dkwX9_sort_2 ++ []
def dkwX9_sort_1 : List UInt8 := [160, 0, 21, 25, 4, 180, 0, 32, 42, 180, 0, 38, 182, 0, 39, 153, 0, 6, 25, 4, 176, 132, 3, 1]
abbrev dktX9_sort_1 : List UInt8 := dkwX9_sort_1 ++ dktX9_sort_2
def dkwX9_sort_0 : List UInt8 := [178, 0, 24, 76, 43, 190, 61, 3, 62, 29, 28, 162, 0, 40, 43, 29, 50, 58, 4, 42, 180, 0, 28, 5]
abbrev dktX9_sort_0 : List UInt8 := dkwX9_sort_0 ++ dktX9_sort_1
theorem dksX9_sort_0 : cX9_sort.data.toList.drop 0 = dktX9_sort_0 := by decide +kernel
theorem dksX9_sort_1 : cX9_sort.data.toList.drop 24 = dktX9_sort_1 := dk_seg dksX9_sort_0 24 rfl rfl
theorem dksX9_sort_2 : cX9_sort.data.toList.drop 48 = dktX9_sort_2 := dk_seg dksX9_sort_1 24 rfl rfl
theorem dX9_sort_0 : decode cX9_sort 0 = .ok (.getstatic 24, 3) := dk_178 0 24 (dk_at dksX9_sort_0 0 rfl rfl)
theorem dX9_sort_3 : decode cX9_sort 3 = .ok (.astore_n 1, 1) := dk_76 (dk_at dksX9_sort_0 3 rfl rfl)
theorem dX9_sort_4 : decode cX9_sort 4 = .ok (.aload_n 1, 1) := dk_43 (dk_at dksX9_sort_0 4 rfl rfl)
theorem dX9_sort_5 : decode cX9_sort 5 = .ok (.arraylength, 1) := dk_190 (dk_at dksX9_sort_0 5 rfl rfl)
theorem dX9_sort_6 : decode cX9_sort 6 = .ok (.istore_n 2, 1) := dk_61 (dk_at dksX9_sort_0 6 rfl rfl)
theorem dX9_sort_7 : decode cX9_sort 7 = .ok (.iconst 0, 1) := dk_3 (dk_at dksX9_sort_0 7 rfl rfl)
theorem dX9_sort_8 : decode cX9_sort 8 = .ok (.istore_n 3, 1) := dk_62 (dk_at dksX9_sort_0 8 rfl rfl)
theorem dX9_sort_9 : decode cX9_sort 9 = .ok (.iload_n 3, 1) := dk_29 (dk_at dksX9_sort_0 9 rfl rfl)
theorem dX9_sort_10 : decode cX9_sort 10 = .ok (.iload_n 2, 1) := dk_28 (dk_at dksX9_sort_0 10 rfl rfl)
theorem dX9_sort_11 : decode cX9_sort 11 = .ok (.if_icmp .ge 40, 3) := dk_162 0 40 (dk_at dksX9_sort_0 11 rfl rfl)
theorem dX9_sort_14 : decode cX9_sort 14 = .ok (.aload_n 1, 1) := dk_43 (dk_at dksX9_sort_0 14 rfl rfl)
theorem dX9_sort_15 : decode cX9_sort 15 = .ok (.iload_n 3, 1) := dk_29 (dk_at dksX9_sort_0 15 rfl rfl)
theorem dX9_sort_16 : decode cX9_sort 16 = .ok (.aaload, 1) := dk_50 (dk_at dksX9_sort_0 16 rfl rfl)
theorem dX9_sort_17 : decode cX9_sort 17 = .ok (.astore 4, 2) := dk_58 4 (dk_at dksX9_sort_0 17 rfl rfl)
theorem dX9_sort_19 : decode cX9_sort 19 = .ok (.aload_n 0, 1) := dk_42 (dk_at dksX9_sort_0 19 rfl rfl)
theorem dX9_sort_20 : decode cX9_sort 20 = .ok (.getfield 28, 3) := dk_180 0 28 (dk_at dksX9_sort_0 20 rfl rfl)
theorem dX9_sort_23 : decode cX9_sort 23 = .ok (.iconst 2, 1) := dk_5 (dk_at dksX9_sort_0 23 rfl rfl)
theorem dX9_sort_24 : decode cX9_sort 24 = .ok (.if_icmp .ne 21, 3) := dk_160 0 21 (dk_at dksX9_sort_1 0 rfl rfl)
theorem dX9_sort_27 : decode cX9_sort 27 = .ok (.aload 4, 2) := dk_25 4 (dk_at dksX9_sort_1 3 rfl rfl)
theorem dX9_sort_29 : decode cX9_sort 29 = .ok (.getfield 32, 3) := dk_180 0 32 (dk_at dksX9_sort_1 5 rfl rfl)
theorem dX9_sort_32 : decode cX9_sort 32 = .ok (.aload_n 0, 1) := dk_42 (dk_at dksX9_sort_1 8 rfl rfl)
theorem dX9_sort_33 : decode cX9_sort 33 = .ok (.getfield 38, 3) := dk_180 0 38 (dk_at dksX9_sort_1 9 rfl rfl)
theorem dX9_sort_36 : decode cX9_sort 36 = .ok (.invokevirtual 39, 3) := dk_182 0 39 (dk_at dksX9_sort_1 12 rfl rfl)
theorem dX9_sort_39 : decode cX9_sort 39 = .ok (.ifCond .eq 6, 3) := dk_153 0 6 (dk_at dksX9_sort_1 15 rfl rfl)
theorem dX9_sort_42 : decode cX9_sort 42 = .ok (.aload 4, 2) := dk_25 4 (dk_at dksX9_sort_1 18 rfl rfl)
theorem dX9_sort_44 : decode cX9_sort 44 = .ok (.areturn, 1) := dk_176 (dk_at dksX9_sort_1 20 rfl rfl)
theorem dX9_sort_45 : decode cX9_sort 45 = .ok (.iinc 3 1, 3) := dk_132 3 1 (dk_at dksX9_sort_1 21 rfl rfl)
theorem dX9_sort_48 : decode cX9_sort 48 = .ok (.goto (-39), 3) := dk_167 255 217 (dk_at dksX9_sort_2 0 rfl rfl)
theorem dX9_sort_51 : decode cX9_sort 51 = .ok (.aconst_null, 1) := dk_1 (dk_at dksX9_sort_2 3 rfl rfl)
theorem dX9_sort_52 : decode cX9_sort 52 = .ok (.areturn, 1) := dk_176 (dk_at dksX9_sort_2 4 rfl rfl)
abbrev cL_law : ByteArray := code
def dkwL_law_51 : List UInt8 := [44, 42, 21, 4, 4, 96, 46, 182, 0, 189, 159, 0, 5, 3, 172, 132, 4, 6, 167, 250, 202, 4, 172]
abbrev dktL_law_51 : List UInt8 := dkwL_law_51 ++ []
def dkwL_law_50 : List UInt8 := [42, 21, 4, 4, 96, 46, 182, 0, 185, 159, 0, 30, 3, 172, 43, 42, 21, 4, 4, 96, 46, 182, 0, 186]
abbrev dktL_law_50 : List UInt8 := dkwL_law_50 ++ dktL_law_51
def dkwL_law_49 : List UInt8 := [43, 182, 0, 178, 44, 182, 0, 181, 159, 0, 55, 3, 172, 43, 42, 21, 4, 4, 96, 46, 182, 0, 182, 44]
abbrev dktL_law_49 : List UInt8 := dkwL_law_49 ++ dktL_law_50
def dkwL_law_48 : List UInt8 := [182, 0, 174, 44, 42, 21, 4, 4, 96, 46, 42, 21, 4, 5, 96, 46, 182, 0, 177, 159, 0, 68, 3, 172]
abbrev dktL_law_48 : List UInt8 := dkwL_law_48 ++ dktL_law_49
def dkwL_law_47 : List UInt8 := [46, 182, 0, 173, 159, 0, 105, 3, 172, 43, 42, 21, 4, 4, 96, 46, 42, 21, 4, 5, 96, 46]
abbrev dktL_law_47 : List UInt8 := dkwL_law_47 ++ dktL_law_48
def dkwL_law_46 : List UInt8 := [182, 0, 169, 159, 0, 130, 3, 172, 43, 42, 21, 4, 4, 96, 46, 182, 0, 170, 44, 42, 21, 4, 4, 96]
abbrev dktL_law_46 : List UInt8 := dkwL_law_46 ++ dktL_law_47
def dkwL_law_45 : List UInt8 := [159, 0, 155, 3, 172, 43, 42, 21, 4, 4, 96, 46, 182, 0, 166, 44, 42, 21, 4, 4, 96, 46]
abbrev dktL_law_45 : List UInt8 := dkwL_law_45 ++ dktL_law_46
def dkwL_law_44 : List UInt8 := [21, 4, 5, 96, 46, 182, 0, 162, 44, 42, 21, 4, 4, 96, 46, 42, 21, 4, 5, 96, 46, 182, 0, 165]
abbrev dktL_law_44 : List UInt8 := dkwL_law_44 ++ dktL_law_45
def dkwL_law_43 : List UInt8 := [44, 42, 21, 4, 4, 96, 46, 182, 0, 161, 159, 0, 192, 3, 172, 43, 42, 21, 4, 4, 96, 46, 42]
abbrev dktL_law_43 : List UInt8 := dkwL_law_43 ++ dktL_law_44
def dkwL_law_42 : List UInt8 := [42, 21, 4, 4, 96, 46, 182, 0, 157, 159, 0, 217, 3, 172, 43, 42, 21, 4, 4, 96, 46, 182, 0, 158]
abbrev dktL_law_42 : List UInt8 := dkwL_law_42 ++ dktL_law_43
def dkwL_law_41 : List UInt8 := [21, 4, 4, 96, 46, 182, 0, 153, 159, 0, 242, 3, 172, 43, 42, 21, 4, 4, 96, 46, 182, 0, 154, 44]
abbrev dktL_law_41 : List UInt8 := dkwL_law_41 ++ dktL_law_42
def dkwL_law_40 : List UInt8 := [182, 0, 146, 44, 182, 0, 149, 159, 1, 11, 3, 172, 43, 42, 21, 4, 4, 96, 46, 182, 0, 150, 44, 42]
abbrev dktL_law_40 : List UInt8 := dkwL_law_40 ++ dktL_law_41
def dkwL_law_39 : List UInt8 := [21, 4, 4, 96, 46, 182, 0, 142, 44, 42, 21, 4, 4, 96, 46, 182, 0, 145, 159, 1, 24, 3, 172, 43]
abbrev dktL_law_39 : List UInt8 := dkwL_law_39 ++ dktL_law_40
def dkwL_law_38 : List UInt8 := [44, 42, 21, 4, 4, 96, 46, 42, 21, 4, 5, 96, 46, 182, 0, 141, 159, 1, 49, 3, 172, 43, 42]
abbrev dktL_law_38 : List UInt8 := dkwL_law_38 ++ dktL_law_39
def dkwL_law_37 : List UInt8 := [153, 0, 5, 3, 172, 167, 1, 84, 43, 42, 21, 4, 4, 96, 46, 42, 21, 4, 5, 96, 46, 182, 0, 138]
abbrev dktL_law_37 : List UInt8 := dkwL_law_37 ++ dktL_law_38
def dkwL_law_36 : List UInt8 := [182, 0, 54, 21, 5, 159, 0, 5, 3, 172, 21, 5, 154, 0, 15, 45, 3, 47, 21, 6, 133, 148]
abbrev dktL_law_36 : List UInt8 := dkwL_law_36 ++ dktL_law_37
def dkwL_law_35 : List UInt8 := [184, 0, 135, 54, 5, 44, 42, 21, 4, 4, 96, 46, 42, 21, 4, 5, 96, 46, 182, 0, 137, 54, 6, 44]
abbrev dktL_law_35 : List UInt8 := dkwL_law_35 ++ dktL_law_36
def dkwL_law_34 : List UInt8 := [46, 182, 0, 134, 159, 1, 154, 3, 172, 43, 42, 21, 4, 4, 96, 46, 42, 21, 4, 5, 96, 46, 45]
abbrev dktL_law_34 : List UInt8 := dkwL_law_34 ++ dktL_law_35
def dkwL_law_33 : List UInt8 := [4, 96, 46, 42, 21, 4, 5, 96, 46, 182, 0, 131, 44, 42, 21, 4, 4, 96, 46, 42, 21, 4, 5, 96]
abbrev dktL_law_33 : List UInt8 := dkwL_law_33 ++ dktL_law_34
def dkwL_law_32 : List UInt8 := [96, 46, 182, 0, 127, 44, 42, 21, 4, 4, 96, 46, 182, 0, 130, 159, 1, 191, 3, 172, 43, 42, 21, 4]
abbrev dktL_law_32 : List UInt8 := dkwL_law_32 ++ dktL_law_33
def dkwL_law_31 : List UInt8 := [46, 182, 0, 123, 44, 42, 21, 4, 4, 96, 46, 182, 0, 126, 159, 1, 216, 3, 172, 43, 42, 21, 4, 4]
abbrev dktL_law_31 : List UInt8 := dkwL_law_31 ++ dktL_law_32
def dkwL_law_30 : List UInt8 := [159, 1, 254, 3, 172, 43, 182, 0, 119, 44, 182, 0, 122, 159, 1, 241, 3, 172, 43, 42, 21, 4, 4, 96]
abbrev dktL_law_30 : List UInt8 := dkwL_law_30 ++ dktL_law_31
def dkwL_law_29 : List UInt8 := [3, 172, 43, 182, 0, 111, 44, 182, 0, 114, 159, 2, 11, 3, 172, 43, 182, 0, 115, 44, 182, 0, 118]
abbrev dktL_law_29 : List UInt8 := dkwL_law_29 ++ dktL_law_30
def dkwL_law_28 : List UInt8 := [21, 4, 4, 96, 46, 182, 0, 106, 159, 2, 37, 3, 172, 43, 182, 0, 107, 44, 182, 0, 110, 159, 2, 24]
abbrev dktL_law_28 : List UInt8 := dkwL_law_28 ++ dktL_law_29
def dkwL_law_27 : List UInt8 := [4, 96, 46, 182, 0, 102, 159, 2, 62, 3, 172, 43, 42, 21, 4, 4, 96, 46, 182, 0, 103, 44, 42]
abbrev dktL_law_27 : List UInt8 := dkwL_law_27 ++ dktL_law_28
def dkwL_law_26 : List UInt8 := [96, 46, 182, 0, 98, 159, 2, 87, 3, 172, 43, 42, 21, 4, 4, 96, 46, 182, 0, 99, 44, 42, 21, 4]
abbrev dktL_law_26 : List UInt8 := dkwL_law_26 ++ dktL_law_27
def dkwL_law_25 : List UInt8 := [46, 182, 0, 94, 159, 2, 112, 3, 172, 43, 42, 21, 4, 4, 96, 46, 182, 0, 95, 44, 42, 21, 4, 4]
abbrev dktL_law_25 : List UInt8 := dkwL_law_25 ++ dktL_law_26
def dkwL_law_24 : List UInt8 := [182, 0, 90, 159, 2, 137, 3, 172, 43, 42, 21, 4, 4, 96, 46, 182, 0, 91, 44, 42, 21, 4, 4, 96]
abbrev dktL_law_24 : List UInt8 := dkwL_law_24 ++ dktL_law_25
def dkwL_law_23 : List UInt8 := [46, 42, 21, 4, 5, 96, 46, 182, 0, 86, 44, 42, 21, 4, 4, 96, 46, 42, 21, 4, 5, 96, 46]
abbrev dktL_law_23 : List UInt8 := dkwL_law_23 ++ dktL_law_24
def dkwL_law_22 : List UInt8 := [154, 0, 15, 45, 3, 47, 21, 6, 133, 148, 153, 0, 5, 3, 172, 167, 2, 172, 43, 42, 21, 4, 4, 96]
abbrev dktL_law_22 : List UInt8 := dkwL_law_22 ++ dktL_law_23
def dkwL_law_21 : List UInt8 := [21, 4, 4, 96, 46, 182, 0, 85, 54, 6, 44, 182, 0, 54, 21, 5, 159, 0, 5, 3, 172, 21, 5]
abbrev dktL_law_21 : List UInt8 := dkwL_law_21 ++ dktL_law_22
def dkwL_law_20 : List UInt8 := [148, 153, 0, 5, 3, 172, 167, 2, 228, 43, 42, 21, 4, 4, 96, 46, 45, 184, 0, 82, 54, 5, 44, 42]
abbrev dktL_law_20 : List UInt8 := dkwL_law_20 ++ dktL_law_21
def dkwL_law_19 : List UInt8 := [54, 6, 44, 182, 0, 54, 21, 5, 159, 0, 5, 3, 172, 21, 5, 154, 0, 15, 45, 3, 47, 21, 6, 133]
abbrev dktL_law_19 : List UInt8 := dkwL_law_19 ++ dktL_law_20
def dkwL_law_18 : List UInt8 := [96, 46, 45, 184, 0, 78, 54, 5, 44, 42, 21, 4, 4, 96, 46, 42, 21, 4, 5, 96, 46, 182, 0, 81]
abbrev dktL_law_18 : List UInt8 := dkwL_law_18 ++ dktL_law_19
def dkwL_law_17 : List UInt8 := [21, 4, 4, 96, 46, 182, 0, 77, 159, 3, 42, 3, 172, 43, 42, 21, 4, 4, 96, 46, 42, 21, 4, 5]
abbrev dktL_law_17 : List UInt8 := dkwL_law_17 ++ dktL_law_18
def dkwL_law_16 : List UInt8 := [5, 96, 46, 182, 0, 73, 159, 3, 67, 3, 172, 43, 42, 21, 4, 4, 96, 46, 182, 0, 74, 44, 42]
abbrev dktL_law_16 : List UInt8 := dkwL_law_16 ++ dktL_law_17
def dkwL_law_15 : List UInt8 := [21, 4, 4, 96, 46, 42, 21, 4, 5, 96, 46, 182, 0, 70, 44, 42, 21, 4, 4, 96, 46, 42, 21, 4]
abbrev dktL_law_15 : List UInt8 := dkwL_law_15 ++ dktL_law_16
def dkwL_law_14 : List UInt8 := [182, 0, 65, 159, 3, 117, 3, 172, 43, 182, 0, 66, 44, 182, 0, 69, 159, 3, 104, 3, 172, 43, 42]
abbrev dktL_law_14 : List UInt8 := dkwL_law_14 ++ dktL_law_15
def dkwL_law_13 : List UInt8 := [46, 182, 0, 58, 44, 42, 21, 4, 4, 96, 46, 182, 0, 61, 159, 3, 130, 3, 172, 43, 182, 0, 62, 44]
abbrev dktL_law_13 : List UInt8 := dkwL_law_13 ++ dktL_law_14
def dkwL_law_12 : List UInt8 := [154, 0, 15, 45, 3, 47, 21, 6, 133, 148, 153, 0, 5, 3, 172, 167, 3, 153, 43, 42, 21, 4, 4, 96]
abbrev dktL_law_12 : List UInt8 := dkwL_law_12 ++ dktL_law_13
def dkwL_law_11 : List UInt8 := [21, 4, 6, 96, 46, 182, 0, 53, 54, 6, 44, 182, 0, 54, 21, 5, 159, 0, 5, 3, 172, 21, 5]
abbrev dktL_law_11 : List UInt8 := dkwL_law_11 ++ dktL_law_12
def dkwL_law_10 : List UInt8 := [6, 96, 46, 45, 184, 0, 48, 54, 5, 44, 42, 21, 4, 4, 96, 46, 42, 21, 4, 5, 96, 46, 42]
abbrev dktL_law_10 : List UInt8 := dkwL_law_10 ++ dktL_law_11
def dkwL_law_9 : List UInt8 := [182, 0, 47, 159, 3, 235, 3, 172, 43, 42, 21, 4, 4, 96, 46, 42, 21, 4, 5, 96, 46, 42, 21, 4]
abbrev dktL_law_9 : List UInt8 := dkwL_law_9 ++ dktL_law_10
def dkwL_law_8 : List UInt8 := [159, 4, 4, 3, 172, 43, 42, 21, 4, 4, 96, 46, 182, 0, 44, 44, 42, 21, 4, 4, 96, 46]
abbrev dktL_law_8 : List UInt8 := dkwL_law_8 ++ dktL_law_9
def dkwL_law_7 : List UInt8 := [3, 172, 43, 42, 21, 4, 4, 96, 46, 182, 0, 40, 44, 42, 21, 4, 4, 96, 46, 182, 0, 43]
abbrev dktL_law_7 : List UInt8 := dkwL_law_7 ++ dktL_law_8
def dkwL_law_6 : List UInt8 := [172, 43, 42, 21, 4, 4, 96, 46, 182, 0, 35, 44, 42, 21, 4, 4, 96, 46, 182, 0, 39, 159, 4, 29]
abbrev dktL_law_6 : List UInt8 := dkwL_law_6 ++ dktL_law_7
def dkwL_law_5 : List UInt8 := [21, 4, 6, 96, 46, 42, 21, 4, 7, 96, 46, 42, 21, 4, 8, 96, 46, 182, 0, 34, 159, 4, 54, 3]
abbrev dktL_law_5 : List UInt8 := dkwL_law_5 ++ dktL_law_6
def dkwL_law_4 : List UInt8 := [46, 42, 21, 4, 8, 96, 46, 182, 0, 30, 44, 42, 21, 4, 4, 96, 46, 42, 21, 4, 5, 96, 46, 42]
abbrev dktL_law_4 : List UInt8 := dkwL_law_4 ++ dktL_law_5
def dkwL_law_3 : List UInt8 := [43, 42, 21, 4, 4, 96, 46, 42, 21, 4, 5, 96, 46, 42, 21, 4, 6, 96, 46, 42, 21, 4, 7, 96]
abbrev dktL_law_3 : List UInt8 := dkwL_law_3 ++ dktL_law_4
def dkwL_law_2 : List UInt8 := [170, 0, 0, 0, 0, 0, 5, 34, 0, 0, 0, 0, 0, 0, 0, 37, 0, 0, 0, 168, 0, 0, 0, 241, 0, 0, 1, 10, 0, 0, 1, 35, 0, 0, 1, 60, 0, 0, 1, 140, 0, 0, 1, 165, 0, 0, 1, 178, 0, 0, 1, 191, 0, 0, 1, 228, 0, 0, 1, 253, 0, 0, 2, 65, 0, 0, 2, 121, 0, 0, 2, 158, 0, 0, 2, 183, 0, 0, 2, 208, 0, 0, 2, 233, 0, 0, 3, 2, 0, 0, 3, 15, 0, 0, 3, 28, 0, 0, 3, 41, 0, 0, 3, 54, 0, 0, 3, 79, 0, 0, 3, 104, 0, 0, 3, 141, 0, 0, 3, 209, 0, 0, 3, 246, 0, 0, 4, 15, 0, 0, 4, 28, 0, 0, 4, 53, 0, 0, 4, 78, 0, 0, 4, 103, 0, 0, 4, 140, 0, 0, 4, 165, 0, 0, 4, 190, 0, 0, 4, 227, 0, 0, 4, 240, 0, 0, 5, 9]
abbrev dktL_law_2 : List UInt8 := dkwL_law_2 ++ dktL_law_3
def dkwL_law_1 : List UInt8 := [21, 4, 42, 190, 16, 6, 100, 163, 5, 50, 42, 21, 4, 46, 16, 63, 126]
abbrev dktL_law_1 : List UInt8 := dkwL_law_1 ++ dktL_law_2
def dkwL_law_0 : List UInt8 := [187, 0, 8, 89, 183, 0, 26, 76, 187, 0, 27, 89, 183, 0, 29, 77, 4, 188, 11, 78, 3, 54, 4]
abbrev dktL_law_0 : List UInt8 := dkwL_law_0 ++ dktL_law_1
theorem dksL_law_0 : cL_law.data.toList.drop 0 = dktL_law_0 := by decide +kernel
theorem dksL_law_1 : cL_law.data.toList.drop 23 = dktL_law_1 := dk_seg dksL_law_0 23 rfl rfl
theorem dksL_law_2 : cL_law.data.toList.drop 40 = dktL_law_2 := dk_seg dksL_law_1 17 rfl rfl
theorem dksL_law_3 : cL_law.data.toList.drop 208 = dktL_law_3 := dk_seg dksL_law_2 168 rfl rfl
theorem dksL_law_4 : cL_law.data.toList.drop 232 = dktL_law_4 := dk_seg dksL_law_3 24 rfl rfl
theorem dksL_law_5 : cL_law.data.toList.drop 256 = dktL_law_5 := dk_seg dksL_law_4 24 rfl rfl
theorem dksL_law_6 : cL_law.data.toList.drop 280 = dktL_law_6 := dk_seg dksL_law_5 24 rfl rfl
theorem dksL_law_7 : cL_law.data.toList.drop 304 = dktL_law_7 := dk_seg dksL_law_6 24 rfl rfl
theorem dksL_law_8 : cL_law.data.toList.drop 326 = dktL_law_8 := dk_seg dksL_law_7 22 rfl rfl
theorem dksL_law_9 : cL_law.data.toList.drop 348 = dktL_law_9 := dk_seg dksL_law_8 22 rfl rfl
theorem dksL_law_10 : cL_law.data.toList.drop 372 = dktL_law_10 := dk_seg dksL_law_9 24 rfl rfl
theorem dksL_law_11 : cL_law.data.toList.drop 395 = dktL_law_11 := dk_seg dksL_law_10 23 rfl rfl
theorem dksL_law_12 : cL_law.data.toList.drop 418 = dktL_law_12 := dk_seg dksL_law_11 23 rfl rfl
theorem dksL_law_13 : cL_law.data.toList.drop 442 = dktL_law_13 := dk_seg dksL_law_12 24 rfl rfl
theorem dksL_law_14 : cL_law.data.toList.drop 466 = dktL_law_14 := dk_seg dksL_law_13 24 rfl rfl
theorem dksL_law_15 : cL_law.data.toList.drop 489 = dktL_law_15 := dk_seg dksL_law_14 23 rfl rfl
theorem dksL_law_16 : cL_law.data.toList.drop 513 = dktL_law_16 := dk_seg dksL_law_15 24 rfl rfl
theorem dksL_law_17 : cL_law.data.toList.drop 536 = dktL_law_17 := dk_seg dksL_law_16 23 rfl rfl
theorem dksL_law_18 : cL_law.data.toList.drop 560 = dktL_law_18 := dk_seg dksL_law_17 24 rfl rfl
theorem dksL_law_19 : cL_law.data.toList.drop 584 = dktL_law_19 := dk_seg dksL_law_18 24 rfl rfl
theorem dksL_law_20 : cL_law.data.toList.drop 608 = dktL_law_20 := dk_seg dksL_law_19 24 rfl rfl
theorem dksL_law_21 : cL_law.data.toList.drop 632 = dktL_law_21 := dk_seg dksL_law_20 24 rfl rfl
theorem dksL_law_22 : cL_law.data.toList.drop 655 = dktL_law_22 := dk_seg dksL_law_21 23 rfl rfl
theorem dksL_law_23 : cL_law.data.toList.drop 679 = dktL_law_23 := dk_seg dksL_law_22 24 rfl rfl
theorem dksL_law_24 : cL_law.data.toList.drop 702 = dktL_law_24 := dk_seg dksL_law_23 23 rfl rfl
theorem dksL_law_25 : cL_law.data.toList.drop 726 = dktL_law_25 := dk_seg dksL_law_24 24 rfl rfl
theorem dksL_law_26 : cL_law.data.toList.drop 750 = dktL_law_26 := dk_seg dksL_law_25 24 rfl rfl
theorem dksL_law_27 : cL_law.data.toList.drop 774 = dktL_law_27 := dk_seg dksL_law_26 24 rfl rfl
theorem dksL_law_28 : cL_law.data.toList.drop 797 = dktL_law_28 := dk_seg dksL_law_27 23 rfl rfl
theorem dksL_law_29 : cL_law.data.toList.drop 821 = dktL_law_29 := dk_seg dksL_law_28 24 rfl rfl
theorem dksL_law_30 : cL_law.data.toList.drop 844 = dktL_law_30 := dk_seg dksL_law_29 23 rfl rfl
theorem dksL_law_31 : cL_law.data.toList.drop 868 = dktL_law_31 := dk_seg dksL_law_30 24 rfl rfl
theorem dksL_law_32 : cL_law.data.toList.drop 892 = dktL_law_32 := dk_seg dksL_law_31 24 rfl rfl
theorem dksL_law_33 : cL_law.data.toList.drop 916 = dktL_law_33 := dk_seg dksL_law_32 24 rfl rfl
theorem dksL_law_34 : cL_law.data.toList.drop 940 = dktL_law_34 := dk_seg dksL_law_33 24 rfl rfl
theorem dksL_law_35 : cL_law.data.toList.drop 963 = dktL_law_35 := dk_seg dksL_law_34 23 rfl rfl
theorem dksL_law_36 : cL_law.data.toList.drop 987 = dktL_law_36 := dk_seg dksL_law_35 24 rfl rfl
theorem dksL_law_37 : cL_law.data.toList.drop 1009 = dktL_law_37 := dk_seg dksL_law_36 22 rfl rfl
theorem dksL_law_38 : cL_law.data.toList.drop 1033 = dktL_law_38 := dk_seg dksL_law_37 24 rfl rfl
theorem dksL_law_39 : cL_law.data.toList.drop 1056 = dktL_law_39 := dk_seg dksL_law_38 23 rfl rfl
theorem dksL_law_40 : cL_law.data.toList.drop 1080 = dktL_law_40 := dk_seg dksL_law_39 24 rfl rfl
theorem dksL_law_41 : cL_law.data.toList.drop 1104 = dktL_law_41 := dk_seg dksL_law_40 24 rfl rfl
theorem dksL_law_42 : cL_law.data.toList.drop 1128 = dktL_law_42 := dk_seg dksL_law_41 24 rfl rfl
theorem dksL_law_43 : cL_law.data.toList.drop 1152 = dktL_law_43 := dk_seg dksL_law_42 24 rfl rfl
theorem dksL_law_44 : cL_law.data.toList.drop 1175 = dktL_law_44 := dk_seg dksL_law_43 23 rfl rfl
theorem dksL_law_45 : cL_law.data.toList.drop 1199 = dktL_law_45 := dk_seg dksL_law_44 24 rfl rfl
theorem dksL_law_46 : cL_law.data.toList.drop 1221 = dktL_law_46 := dk_seg dksL_law_45 22 rfl rfl
theorem dksL_law_47 : cL_law.data.toList.drop 1245 = dktL_law_47 := dk_seg dksL_law_46 24 rfl rfl
theorem dksL_law_48 : cL_law.data.toList.drop 1267 = dktL_law_48 := dk_seg dksL_law_47 22 rfl rfl
theorem dksL_law_49 : cL_law.data.toList.drop 1291 = dktL_law_49 := dk_seg dksL_law_48 24 rfl rfl
theorem dksL_law_50 : cL_law.data.toList.drop 1315 = dktL_law_50 := dk_seg dksL_law_49 24 rfl rfl
theorem dksL_law_51 : cL_law.data.toList.drop 1339 = dktL_law_51 := dk_seg dksL_law_50 24 rfl rfl
theorem dL_law_0 : decode cL_law 0 = .ok (.new 8, 3) := dk_187 0 8 (dk_at dksL_law_0 0 rfl rfl)
theorem dL_law_3 : decode cL_law 3 = .ok (.dup, 1) := dk_89 (dk_at dksL_law_0 3 rfl rfl)
theorem dL_law_4 : decode cL_law 4 = .ok (.invokespecial 26, 3) := dk_183 0 26 (dk_at dksL_law_0 4 rfl rfl)
theorem dL_law_7 : decode cL_law 7 = .ok (.astore_n 1, 1) := dk_76 (dk_at dksL_law_0 7 rfl rfl)
theorem dL_law_8 : decode cL_law 8 = .ok (.new 27, 3) := dk_187 0 27 (dk_at dksL_law_0 8 rfl rfl)
theorem dL_law_11 : decode cL_law 11 = .ok (.dup, 1) := dk_89 (dk_at dksL_law_0 11 rfl rfl)
theorem dL_law_12 : decode cL_law 12 = .ok (.invokespecial 29, 3) := dk_183 0 29 (dk_at dksL_law_0 12 rfl rfl)
theorem dL_law_15 : decode cL_law 15 = .ok (.astore_n 2, 1) := dk_77 (dk_at dksL_law_0 15 rfl rfl)
theorem dL_law_16 : decode cL_law 16 = .ok (.iconst 1, 1) := dk_4 (dk_at dksL_law_0 16 rfl rfl)
theorem dL_law_17 : decode cL_law 17 = .ok (.newarray .long, 2) := dk_188_11 (dk_at dksL_law_0 17 rfl rfl)
theorem dL_law_19 : decode cL_law 19 = .ok (.astore_n 3, 1) := dk_78 (dk_at dksL_law_0 19 rfl rfl)
theorem dL_law_20 : decode cL_law 20 = .ok (.iconst 0, 1) := dk_3 (dk_at dksL_law_0 20 rfl rfl)
theorem dL_law_21 : decode cL_law 21 = .ok (.istore 4, 2) := dk_54 4 (dk_at dksL_law_0 21 rfl rfl)
theorem dL_law_23 : decode cL_law 23 = .ok (.iload 4, 2) := dk_21 4 (dk_at dksL_law_1 0 rfl rfl)
theorem dL_law_25 : decode cL_law 25 = .ok (.aload_n 0, 1) := dk_42 (dk_at dksL_law_1 2 rfl rfl)
theorem dL_law_26 : decode cL_law 26 = .ok (.arraylength, 1) := dk_190 (dk_at dksL_law_1 3 rfl rfl)
theorem dL_law_27 : decode cL_law 27 = .ok (.bipush 6, 2) := dk_16 6 (dk_at dksL_law_1 4 rfl rfl)
theorem dL_law_29 : decode cL_law 29 = .ok (.isub, 1) := dk_100 (dk_at dksL_law_1 6 rfl rfl)
theorem dL_law_30 : decode cL_law 30 = .ok (.if_icmp .gt 1330, 3) := dk_163 5 50 (dk_at dksL_law_1 7 rfl rfl)
theorem dL_law_33 : decode cL_law 33 = .ok (.aload_n 0, 1) := dk_42 (dk_at dksL_law_1 10 rfl rfl)
theorem dL_law_34 : decode cL_law 34 = .ok (.iload 4, 2) := dk_21 4 (dk_at dksL_law_1 11 rfl rfl)
theorem dL_law_36 : decode cL_law 36 = .ok (.iaload, 1) := dk_46 (dk_at dksL_law_1 13 rfl rfl)
theorem dL_law_37 : decode cL_law 37 = .ok (.bipush 63, 2) := dk_16 63 (dk_at dksL_law_1 14 rfl rfl)
theorem dL_law_39 : decode cL_law 39 = .ok (.iand, 1) := dk_126 (dk_at dksL_law_1 16 rfl rfl)
theorem dL_law_40 : decode cL_law 40 = .ok (.tableswitch 1314 0 37 #[168, 241, 266, 291, 316, 396, 421, 434, 447, 484, 509, 577, 633, 670, 695, 720, 745, 770, 783, 796, 809, 822, 847, 872, 909, 977, 1014, 1039, 1052, 1077, 1102, 1127, 1164, 1189, 1214, 1251, 1264, 1289], 168) := by decide +kernel
theorem dL_law_208 : decode cL_law 208 = .ok (.aload_n 1, 1) := dk_43 (dk_at dksL_law_3 0 rfl rfl)
theorem dL_law_209 : decode cL_law 209 = .ok (.aload_n 0, 1) := dk_42 (dk_at dksL_law_3 1 rfl rfl)
theorem dL_law_210 : decode cL_law 210 = .ok (.iload 4, 2) := dk_21 4 (dk_at dksL_law_3 2 rfl rfl)
theorem dL_law_212 : decode cL_law 212 = .ok (.iconst 1, 1) := dk_4 (dk_at dksL_law_3 4 rfl rfl)
theorem dL_law_213 : decode cL_law 213 = .ok (.iadd, 1) := dk_96 (dk_at dksL_law_3 5 rfl rfl)
theorem dL_law_214 : decode cL_law 214 = .ok (.iaload, 1) := dk_46 (dk_at dksL_law_3 6 rfl rfl)
theorem dL_law_215 : decode cL_law 215 = .ok (.aload_n 0, 1) := dk_42 (dk_at dksL_law_3 7 rfl rfl)
theorem dL_law_216 : decode cL_law 216 = .ok (.iload 4, 2) := dk_21 4 (dk_at dksL_law_3 8 rfl rfl)
theorem dL_law_218 : decode cL_law 218 = .ok (.iconst 2, 1) := dk_5 (dk_at dksL_law_3 10 rfl rfl)
theorem dL_law_219 : decode cL_law 219 = .ok (.iadd, 1) := dk_96 (dk_at dksL_law_3 11 rfl rfl)
theorem dL_law_220 : decode cL_law 220 = .ok (.iaload, 1) := dk_46 (dk_at dksL_law_3 12 rfl rfl)
theorem dL_law_221 : decode cL_law 221 = .ok (.aload_n 0, 1) := dk_42 (dk_at dksL_law_3 13 rfl rfl)
theorem dL_law_222 : decode cL_law 222 = .ok (.iload 4, 2) := dk_21 4 (dk_at dksL_law_3 14 rfl rfl)
theorem dL_law_224 : decode cL_law 224 = .ok (.iconst 3, 1) := dk_6 (dk_at dksL_law_3 16 rfl rfl)
theorem dL_law_225 : decode cL_law 225 = .ok (.iadd, 1) := dk_96 (dk_at dksL_law_3 17 rfl rfl)
theorem dL_law_226 : decode cL_law 226 = .ok (.iaload, 1) := dk_46 (dk_at dksL_law_3 18 rfl rfl)
theorem dL_law_227 : decode cL_law 227 = .ok (.aload_n 0, 1) := dk_42 (dk_at dksL_law_3 19 rfl rfl)
theorem dL_law_228 : decode cL_law 228 = .ok (.iload 4, 2) := dk_21 4 (dk_at dksL_law_3 20 rfl rfl)
theorem dL_law_230 : decode cL_law 230 = .ok (.iconst 4, 1) := dk_7 (dk_at dksL_law_3 22 rfl rfl)
theorem dL_law_231 : decode cL_law 231 = .ok (.iadd, 1) := dk_96 (dk_at dksL_law_3 23 rfl rfl)
theorem dL_law_232 : decode cL_law 232 = .ok (.iaload, 1) := dk_46 (dk_at dksL_law_4 0 rfl rfl)
theorem dL_law_233 : decode cL_law 233 = .ok (.aload_n 0, 1) := dk_42 (dk_at dksL_law_4 1 rfl rfl)
theorem dL_law_234 : decode cL_law 234 = .ok (.iload 4, 2) := dk_21 4 (dk_at dksL_law_4 2 rfl rfl)
theorem dL_law_236 : decode cL_law 236 = .ok (.iconst 5, 1) := dk_8 (dk_at dksL_law_4 4 rfl rfl)
theorem dL_law_237 : decode cL_law 237 = .ok (.iadd, 1) := dk_96 (dk_at dksL_law_4 5 rfl rfl)
theorem dL_law_238 : decode cL_law 238 = .ok (.iaload, 1) := dk_46 (dk_at dksL_law_4 6 rfl rfl)
theorem dL_law_239 : decode cL_law 239 = .ok (.invokevirtual 30, 3) := dk_182 0 30 (dk_at dksL_law_4 7 rfl rfl)
theorem dL_law_242 : decode cL_law 242 = .ok (.aload_n 2, 1) := dk_44 (dk_at dksL_law_4 10 rfl rfl)
theorem dL_law_243 : decode cL_law 243 = .ok (.aload_n 0, 1) := dk_42 (dk_at dksL_law_4 11 rfl rfl)
theorem dL_law_244 : decode cL_law 244 = .ok (.iload 4, 2) := dk_21 4 (dk_at dksL_law_4 12 rfl rfl)
theorem dL_law_246 : decode cL_law 246 = .ok (.iconst 1, 1) := dk_4 (dk_at dksL_law_4 14 rfl rfl)
theorem dL_law_247 : decode cL_law 247 = .ok (.iadd, 1) := dk_96 (dk_at dksL_law_4 15 rfl rfl)
theorem dL_law_248 : decode cL_law 248 = .ok (.iaload, 1) := dk_46 (dk_at dksL_law_4 16 rfl rfl)
theorem dL_law_249 : decode cL_law 249 = .ok (.aload_n 0, 1) := dk_42 (dk_at dksL_law_4 17 rfl rfl)
theorem dL_law_250 : decode cL_law 250 = .ok (.iload 4, 2) := dk_21 4 (dk_at dksL_law_4 18 rfl rfl)
theorem dL_law_252 : decode cL_law 252 = .ok (.iconst 2, 1) := dk_5 (dk_at dksL_law_4 20 rfl rfl)
theorem dL_law_253 : decode cL_law 253 = .ok (.iadd, 1) := dk_96 (dk_at dksL_law_4 21 rfl rfl)
theorem dL_law_254 : decode cL_law 254 = .ok (.iaload, 1) := dk_46 (dk_at dksL_law_4 22 rfl rfl)
theorem dL_law_255 : decode cL_law 255 = .ok (.aload_n 0, 1) := dk_42 (dk_at dksL_law_4 23 rfl rfl)
theorem dL_law_256 : decode cL_law 256 = .ok (.iload 4, 2) := dk_21 4 (dk_at dksL_law_5 0 rfl rfl)
theorem dL_law_258 : decode cL_law 258 = .ok (.iconst 3, 1) := dk_6 (dk_at dksL_law_5 2 rfl rfl)
theorem dL_law_259 : decode cL_law 259 = .ok (.iadd, 1) := dk_96 (dk_at dksL_law_5 3 rfl rfl)
theorem dL_law_260 : decode cL_law 260 = .ok (.iaload, 1) := dk_46 (dk_at dksL_law_5 4 rfl rfl)
theorem dL_law_261 : decode cL_law 261 = .ok (.aload_n 0, 1) := dk_42 (dk_at dksL_law_5 5 rfl rfl)
theorem dL_law_262 : decode cL_law 262 = .ok (.iload 4, 2) := dk_21 4 (dk_at dksL_law_5 6 rfl rfl)
theorem dL_law_264 : decode cL_law 264 = .ok (.iconst 4, 1) := dk_7 (dk_at dksL_law_5 8 rfl rfl)
theorem dL_law_265 : decode cL_law 265 = .ok (.iadd, 1) := dk_96 (dk_at dksL_law_5 9 rfl rfl)
theorem dL_law_266 : decode cL_law 266 = .ok (.iaload, 1) := dk_46 (dk_at dksL_law_5 10 rfl rfl)
theorem dL_law_267 : decode cL_law 267 = .ok (.aload_n 0, 1) := dk_42 (dk_at dksL_law_5 11 rfl rfl)
theorem dL_law_268 : decode cL_law 268 = .ok (.iload 4, 2) := dk_21 4 (dk_at dksL_law_5 12 rfl rfl)
theorem dL_law_270 : decode cL_law 270 = .ok (.iconst 5, 1) := dk_8 (dk_at dksL_law_5 14 rfl rfl)
theorem dL_law_271 : decode cL_law 271 = .ok (.iadd, 1) := dk_96 (dk_at dksL_law_5 15 rfl rfl)
theorem dL_law_272 : decode cL_law 272 = .ok (.iaload, 1) := dk_46 (dk_at dksL_law_5 16 rfl rfl)
theorem dL_law_273 : decode cL_law 273 = .ok (.invokevirtual 34, 3) := dk_182 0 34 (dk_at dksL_law_5 17 rfl rfl)
theorem dL_law_276 : decode cL_law 276 = .ok (.if_icmp .eq 1078, 3) := dk_159 4 54 (dk_at dksL_law_5 20 rfl rfl)
theorem dL_law_279 : decode cL_law 279 = .ok (.iconst 0, 1) := dk_3 (dk_at dksL_law_5 23 rfl rfl)
theorem dL_law_280 : decode cL_law 280 = .ok (.ireturn, 1) := dk_172 (dk_at dksL_law_6 0 rfl rfl)
theorem dL_law_281 : decode cL_law 281 = .ok (.aload_n 1, 1) := dk_43 (dk_at dksL_law_6 1 rfl rfl)
theorem dL_law_282 : decode cL_law 282 = .ok (.aload_n 0, 1) := dk_42 (dk_at dksL_law_6 2 rfl rfl)
theorem dL_law_283 : decode cL_law 283 = .ok (.iload 4, 2) := dk_21 4 (dk_at dksL_law_6 3 rfl rfl)
theorem dL_law_285 : decode cL_law 285 = .ok (.iconst 1, 1) := dk_4 (dk_at dksL_law_6 5 rfl rfl)
theorem dL_law_286 : decode cL_law 286 = .ok (.iadd, 1) := dk_96 (dk_at dksL_law_6 6 rfl rfl)
theorem dL_law_287 : decode cL_law 287 = .ok (.iaload, 1) := dk_46 (dk_at dksL_law_6 7 rfl rfl)
theorem dL_law_288 : decode cL_law 288 = .ok (.invokevirtual 35, 3) := dk_182 0 35 (dk_at dksL_law_6 8 rfl rfl)
theorem dL_law_291 : decode cL_law 291 = .ok (.aload_n 2, 1) := dk_44 (dk_at dksL_law_6 11 rfl rfl)
theorem dL_law_292 : decode cL_law 292 = .ok (.aload_n 0, 1) := dk_42 (dk_at dksL_law_6 12 rfl rfl)
theorem dL_law_293 : decode cL_law 293 = .ok (.iload 4, 2) := dk_21 4 (dk_at dksL_law_6 13 rfl rfl)
theorem dL_law_295 : decode cL_law 295 = .ok (.iconst 1, 1) := dk_4 (dk_at dksL_law_6 15 rfl rfl)
theorem dL_law_296 : decode cL_law 296 = .ok (.iadd, 1) := dk_96 (dk_at dksL_law_6 16 rfl rfl)
theorem dL_law_297 : decode cL_law 297 = .ok (.iaload, 1) := dk_46 (dk_at dksL_law_6 17 rfl rfl)
theorem dL_law_298 : decode cL_law 298 = .ok (.invokevirtual 39, 3) := dk_182 0 39 (dk_at dksL_law_6 18 rfl rfl)
theorem dL_law_301 : decode cL_law 301 = .ok (.if_icmp .eq 1053, 3) := dk_159 4 29 (dk_at dksL_law_6 21 rfl rfl)
theorem dL_law_304 : decode cL_law 304 = .ok (.iconst 0, 1) := dk_3 (dk_at dksL_law_7 0 rfl rfl)
theorem dL_law_305 : decode cL_law 305 = .ok (.ireturn, 1) := dk_172 (dk_at dksL_law_7 1 rfl rfl)
theorem dL_law_306 : decode cL_law 306 = .ok (.aload_n 1, 1) := dk_43 (dk_at dksL_law_7 2 rfl rfl)
theorem dL_law_307 : decode cL_law 307 = .ok (.aload_n 0, 1) := dk_42 (dk_at dksL_law_7 3 rfl rfl)
theorem dL_law_308 : decode cL_law 308 = .ok (.iload 4, 2) := dk_21 4 (dk_at dksL_law_7 4 rfl rfl)
theorem dL_law_310 : decode cL_law 310 = .ok (.iconst 1, 1) := dk_4 (dk_at dksL_law_7 6 rfl rfl)
theorem dL_law_311 : decode cL_law 311 = .ok (.iadd, 1) := dk_96 (dk_at dksL_law_7 7 rfl rfl)
theorem dL_law_312 : decode cL_law 312 = .ok (.iaload, 1) := dk_46 (dk_at dksL_law_7 8 rfl rfl)
theorem dL_law_313 : decode cL_law 313 = .ok (.invokevirtual 40, 3) := dk_182 0 40 (dk_at dksL_law_7 9 rfl rfl)
theorem dL_law_316 : decode cL_law 316 = .ok (.aload_n 2, 1) := dk_44 (dk_at dksL_law_7 12 rfl rfl)
theorem dL_law_317 : decode cL_law 317 = .ok (.aload_n 0, 1) := dk_42 (dk_at dksL_law_7 13 rfl rfl)
theorem dL_law_318 : decode cL_law 318 = .ok (.iload 4, 2) := dk_21 4 (dk_at dksL_law_7 14 rfl rfl)
theorem dL_law_320 : decode cL_law 320 = .ok (.iconst 1, 1) := dk_4 (dk_at dksL_law_7 16 rfl rfl)
theorem dL_law_321 : decode cL_law 321 = .ok (.iadd, 1) := dk_96 (dk_at dksL_law_7 17 rfl rfl)
theorem dL_law_322 : decode cL_law 322 = .ok (.iaload, 1) := dk_46 (dk_at dksL_law_7 18 rfl rfl)
theorem dL_law_323 : decode cL_law 323 = .ok (.invokevirtual 43, 3) := dk_182 0 43 (dk_at dksL_law_7 19 rfl rfl)
theorem dL_law_326 : decode cL_law 326 = .ok (.if_icmp .eq 1028, 3) := dk_159 4 4 (dk_at dksL_law_8 0 rfl rfl)
theorem dL_law_329 : decode cL_law 329 = .ok (.iconst 0, 1) := dk_3 (dk_at dksL_law_8 3 rfl rfl)
theorem dL_law_330 : decode cL_law 330 = .ok (.ireturn, 1) := dk_172 (dk_at dksL_law_8 4 rfl rfl)
theorem dL_law_331 : decode cL_law 331 = .ok (.aload_n 1, 1) := dk_43 (dk_at dksL_law_8 5 rfl rfl)
theorem dL_law_332 : decode cL_law 332 = .ok (.aload_n 0, 1) := dk_42 (dk_at dksL_law_8 6 rfl rfl)
theorem dL_law_333 : decode cL_law 333 = .ok (.iload 4, 2) := dk_21 4 (dk_at dksL_law_8 7 rfl rfl)
theorem dL_law_335 : decode cL_law 335 = .ok (.iconst 1, 1) := dk_4 (dk_at dksL_law_8 9 rfl rfl)
theorem dL_law_336 : decode cL_law 336 = .ok (.iadd, 1) := dk_96 (dk_at dksL_law_8 10 rfl rfl)
theorem dL_law_337 : decode cL_law 337 = .ok (.iaload, 1) := dk_46 (dk_at dksL_law_8 11 rfl rfl)
theorem dL_law_338 : decode cL_law 338 = .ok (.invokevirtual 44, 3) := dk_182 0 44 (dk_at dksL_law_8 12 rfl rfl)
theorem dL_law_341 : decode cL_law 341 = .ok (.aload_n 2, 1) := dk_44 (dk_at dksL_law_8 15 rfl rfl)
theorem dL_law_342 : decode cL_law 342 = .ok (.aload_n 0, 1) := dk_42 (dk_at dksL_law_8 16 rfl rfl)
theorem dL_law_343 : decode cL_law 343 = .ok (.iload 4, 2) := dk_21 4 (dk_at dksL_law_8 17 rfl rfl)
theorem dL_law_345 : decode cL_law 345 = .ok (.iconst 1, 1) := dk_4 (dk_at dksL_law_8 19 rfl rfl)
theorem dL_law_346 : decode cL_law 346 = .ok (.iadd, 1) := dk_96 (dk_at dksL_law_8 20 rfl rfl)
theorem dL_law_347 : decode cL_law 347 = .ok (.iaload, 1) := dk_46 (dk_at dksL_law_8 21 rfl rfl)
theorem dL_law_348 : decode cL_law 348 = .ok (.invokevirtual 47, 3) := dk_182 0 47 (dk_at dksL_law_9 0 rfl rfl)
theorem dL_law_351 : decode cL_law 351 = .ok (.if_icmp .eq 1003, 3) := dk_159 3 235 (dk_at dksL_law_9 3 rfl rfl)
theorem dL_law_354 : decode cL_law 354 = .ok (.iconst 0, 1) := dk_3 (dk_at dksL_law_9 6 rfl rfl)
theorem dL_law_355 : decode cL_law 355 = .ok (.ireturn, 1) := dk_172 (dk_at dksL_law_9 7 rfl rfl)
theorem dL_law_356 : decode cL_law 356 = .ok (.aload_n 1, 1) := dk_43 (dk_at dksL_law_9 8 rfl rfl)
theorem dL_law_357 : decode cL_law 357 = .ok (.aload_n 0, 1) := dk_42 (dk_at dksL_law_9 9 rfl rfl)
theorem dL_law_358 : decode cL_law 358 = .ok (.iload 4, 2) := dk_21 4 (dk_at dksL_law_9 10 rfl rfl)
theorem dL_law_360 : decode cL_law 360 = .ok (.iconst 1, 1) := dk_4 (dk_at dksL_law_9 12 rfl rfl)
theorem dL_law_361 : decode cL_law 361 = .ok (.iadd, 1) := dk_96 (dk_at dksL_law_9 13 rfl rfl)
theorem dL_law_362 : decode cL_law 362 = .ok (.iaload, 1) := dk_46 (dk_at dksL_law_9 14 rfl rfl)
theorem dL_law_363 : decode cL_law 363 = .ok (.aload_n 0, 1) := dk_42 (dk_at dksL_law_9 15 rfl rfl)
theorem dL_law_364 : decode cL_law 364 = .ok (.iload 4, 2) := dk_21 4 (dk_at dksL_law_9 16 rfl rfl)
theorem dL_law_366 : decode cL_law 366 = .ok (.iconst 2, 1) := dk_5 (dk_at dksL_law_9 18 rfl rfl)
theorem dL_law_367 : decode cL_law 367 = .ok (.iadd, 1) := dk_96 (dk_at dksL_law_9 19 rfl rfl)
theorem dL_law_368 : decode cL_law 368 = .ok (.iaload, 1) := dk_46 (dk_at dksL_law_9 20 rfl rfl)
theorem dL_law_369 : decode cL_law 369 = .ok (.aload_n 0, 1) := dk_42 (dk_at dksL_law_9 21 rfl rfl)
theorem dL_law_370 : decode cL_law 370 = .ok (.iload 4, 2) := dk_21 4 (dk_at dksL_law_9 22 rfl rfl)
theorem dL_law_372 : decode cL_law 372 = .ok (.iconst 3, 1) := dk_6 (dk_at dksL_law_10 0 rfl rfl)
theorem dL_law_373 : decode cL_law 373 = .ok (.iadd, 1) := dk_96 (dk_at dksL_law_10 1 rfl rfl)
theorem dL_law_374 : decode cL_law 374 = .ok (.iaload, 1) := dk_46 (dk_at dksL_law_10 2 rfl rfl)
theorem dL_law_375 : decode cL_law 375 = .ok (.aload_n 3, 1) := dk_45 (dk_at dksL_law_10 3 rfl rfl)
theorem dL_law_376 : decode cL_law 376 = .ok (.invokestatic 48, 3) := dk_184 0 48 (dk_at dksL_law_10 4 rfl rfl)
theorem dL_law_379 : decode cL_law 379 = .ok (.istore 5, 2) := dk_54 5 (dk_at dksL_law_10 7 rfl rfl)
theorem dL_law_381 : decode cL_law 381 = .ok (.aload_n 2, 1) := dk_44 (dk_at dksL_law_10 9 rfl rfl)
theorem dL_law_382 : decode cL_law 382 = .ok (.aload_n 0, 1) := dk_42 (dk_at dksL_law_10 10 rfl rfl)
theorem dL_law_383 : decode cL_law 383 = .ok (.iload 4, 2) := dk_21 4 (dk_at dksL_law_10 11 rfl rfl)
theorem dL_law_385 : decode cL_law 385 = .ok (.iconst 1, 1) := dk_4 (dk_at dksL_law_10 13 rfl rfl)
theorem dL_law_386 : decode cL_law 386 = .ok (.iadd, 1) := dk_96 (dk_at dksL_law_10 14 rfl rfl)
theorem dL_law_387 : decode cL_law 387 = .ok (.iaload, 1) := dk_46 (dk_at dksL_law_10 15 rfl rfl)
theorem dL_law_388 : decode cL_law 388 = .ok (.aload_n 0, 1) := dk_42 (dk_at dksL_law_10 16 rfl rfl)
theorem dL_law_389 : decode cL_law 389 = .ok (.iload 4, 2) := dk_21 4 (dk_at dksL_law_10 17 rfl rfl)
theorem dL_law_391 : decode cL_law 391 = .ok (.iconst 2, 1) := dk_5 (dk_at dksL_law_10 19 rfl rfl)
theorem dL_law_392 : decode cL_law 392 = .ok (.iadd, 1) := dk_96 (dk_at dksL_law_10 20 rfl rfl)
theorem dL_law_393 : decode cL_law 393 = .ok (.iaload, 1) := dk_46 (dk_at dksL_law_10 21 rfl rfl)
theorem dL_law_394 : decode cL_law 394 = .ok (.aload_n 0, 1) := dk_42 (dk_at dksL_law_10 22 rfl rfl)
theorem dL_law_395 : decode cL_law 395 = .ok (.iload 4, 2) := dk_21 4 (dk_at dksL_law_11 0 rfl rfl)
theorem dL_law_397 : decode cL_law 397 = .ok (.iconst 3, 1) := dk_6 (dk_at dksL_law_11 2 rfl rfl)
theorem dL_law_398 : decode cL_law 398 = .ok (.iadd, 1) := dk_96 (dk_at dksL_law_11 3 rfl rfl)
theorem dL_law_399 : decode cL_law 399 = .ok (.iaload, 1) := dk_46 (dk_at dksL_law_11 4 rfl rfl)
theorem dL_law_400 : decode cL_law 400 = .ok (.invokevirtual 53, 3) := dk_182 0 53 (dk_at dksL_law_11 5 rfl rfl)
theorem dL_law_403 : decode cL_law 403 = .ok (.istore 6, 2) := dk_54 6 (dk_at dksL_law_11 8 rfl rfl)
theorem dL_law_405 : decode cL_law 405 = .ok (.aload_n 2, 1) := dk_44 (dk_at dksL_law_11 10 rfl rfl)
theorem dL_law_406 : decode cL_law 406 = .ok (.invokevirtual 54, 3) := dk_182 0 54 (dk_at dksL_law_11 11 rfl rfl)
theorem dL_law_409 : decode cL_law 409 = .ok (.iload 5, 2) := dk_21 5 (dk_at dksL_law_11 14 rfl rfl)
theorem dL_law_411 : decode cL_law 411 = .ok (.if_icmp .eq 5, 3) := dk_159 0 5 (dk_at dksL_law_11 16 rfl rfl)
theorem dL_law_414 : decode cL_law 414 = .ok (.iconst 0, 1) := dk_3 (dk_at dksL_law_11 19 rfl rfl)
theorem dL_law_415 : decode cL_law 415 = .ok (.ireturn, 1) := dk_172 (dk_at dksL_law_11 20 rfl rfl)
theorem dL_law_416 : decode cL_law 416 = .ok (.iload 5, 2) := dk_21 5 (dk_at dksL_law_11 21 rfl rfl)
theorem dL_law_418 : decode cL_law 418 = .ok (.ifCond .ne 15, 3) := dk_154 0 15 (dk_at dksL_law_12 0 rfl rfl)
theorem dL_law_421 : decode cL_law 421 = .ok (.aload_n 3, 1) := dk_45 (dk_at dksL_law_12 3 rfl rfl)
theorem dL_law_422 : decode cL_law 422 = .ok (.iconst 0, 1) := dk_3 (dk_at dksL_law_12 4 rfl rfl)
theorem dL_law_423 : decode cL_law 423 = .ok (.laload, 1) := dk_47 (dk_at dksL_law_12 5 rfl rfl)
theorem dL_law_424 : decode cL_law 424 = .ok (.iload 6, 2) := dk_21 6 (dk_at dksL_law_12 6 rfl rfl)
theorem dL_law_426 : decode cL_law 426 = .ok (.i2l, 1) := dk_133 (dk_at dksL_law_12 8 rfl rfl)
theorem dL_law_427 : decode cL_law 427 = .ok (.lcmp, 1) := dk_148 (dk_at dksL_law_12 9 rfl rfl)
theorem dL_law_428 : decode cL_law 428 = .ok (.ifCond .eq 5, 3) := dk_153 0 5 (dk_at dksL_law_12 10 rfl rfl)
theorem dL_law_431 : decode cL_law 431 = .ok (.iconst 0, 1) := dk_3 (dk_at dksL_law_12 13 rfl rfl)
theorem dL_law_432 : decode cL_law 432 = .ok (.ireturn, 1) := dk_172 (dk_at dksL_law_12 14 rfl rfl)
theorem dL_law_433 : decode cL_law 433 = .ok (.goto 921, 3) := dk_167 3 153 (dk_at dksL_law_12 15 rfl rfl)
theorem dL_law_436 : decode cL_law 436 = .ok (.aload_n 1, 1) := dk_43 (dk_at dksL_law_12 18 rfl rfl)
theorem dL_law_437 : decode cL_law 437 = .ok (.aload_n 0, 1) := dk_42 (dk_at dksL_law_12 19 rfl rfl)
theorem dL_law_438 : decode cL_law 438 = .ok (.iload 4, 2) := dk_21 4 (dk_at dksL_law_12 20 rfl rfl)
theorem dL_law_440 : decode cL_law 440 = .ok (.iconst 1, 1) := dk_4 (dk_at dksL_law_12 22 rfl rfl)
theorem dL_law_441 : decode cL_law 441 = .ok (.iadd, 1) := dk_96 (dk_at dksL_law_12 23 rfl rfl)
theorem dL_law_442 : decode cL_law 442 = .ok (.iaload, 1) := dk_46 (dk_at dksL_law_13 0 rfl rfl)
theorem dL_law_443 : decode cL_law 443 = .ok (.invokevirtual 58, 3) := dk_182 0 58 (dk_at dksL_law_13 1 rfl rfl)
theorem dL_law_446 : decode cL_law 446 = .ok (.aload_n 2, 1) := dk_44 (dk_at dksL_law_13 4 rfl rfl)
theorem dL_law_447 : decode cL_law 447 = .ok (.aload_n 0, 1) := dk_42 (dk_at dksL_law_13 5 rfl rfl)
theorem dL_law_448 : decode cL_law 448 = .ok (.iload 4, 2) := dk_21 4 (dk_at dksL_law_13 6 rfl rfl)
theorem dL_law_450 : decode cL_law 450 = .ok (.iconst 1, 1) := dk_4 (dk_at dksL_law_13 8 rfl rfl)
theorem dL_law_451 : decode cL_law 451 = .ok (.iadd, 1) := dk_96 (dk_at dksL_law_13 9 rfl rfl)
theorem dL_law_452 : decode cL_law 452 = .ok (.iaload, 1) := dk_46 (dk_at dksL_law_13 10 rfl rfl)
theorem dL_law_453 : decode cL_law 453 = .ok (.invokevirtual 61, 3) := dk_182 0 61 (dk_at dksL_law_13 11 rfl rfl)
theorem dL_law_456 : decode cL_law 456 = .ok (.if_icmp .eq 898, 3) := dk_159 3 130 (dk_at dksL_law_13 14 rfl rfl)
theorem dL_law_459 : decode cL_law 459 = .ok (.iconst 0, 1) := dk_3 (dk_at dksL_law_13 17 rfl rfl)
theorem dL_law_460 : decode cL_law 460 = .ok (.ireturn, 1) := dk_172 (dk_at dksL_law_13 18 rfl rfl)
theorem dL_law_461 : decode cL_law 461 = .ok (.aload_n 1, 1) := dk_43 (dk_at dksL_law_13 19 rfl rfl)
theorem dL_law_462 : decode cL_law 462 = .ok (.invokevirtual 62, 3) := dk_182 0 62 (dk_at dksL_law_13 20 rfl rfl)
theorem dL_law_465 : decode cL_law 465 = .ok (.aload_n 2, 1) := dk_44 (dk_at dksL_law_13 23 rfl rfl)
theorem dL_law_466 : decode cL_law 466 = .ok (.invokevirtual 65, 3) := dk_182 0 65 (dk_at dksL_law_14 0 rfl rfl)
theorem dL_law_469 : decode cL_law 469 = .ok (.if_icmp .eq 885, 3) := dk_159 3 117 (dk_at dksL_law_14 3 rfl rfl)
theorem dL_law_472 : decode cL_law 472 = .ok (.iconst 0, 1) := dk_3 (dk_at dksL_law_14 6 rfl rfl)
theorem dL_law_473 : decode cL_law 473 = .ok (.ireturn, 1) := dk_172 (dk_at dksL_law_14 7 rfl rfl)
theorem dL_law_474 : decode cL_law 474 = .ok (.aload_n 1, 1) := dk_43 (dk_at dksL_law_14 8 rfl rfl)
theorem dL_law_475 : decode cL_law 475 = .ok (.invokevirtual 66, 3) := dk_182 0 66 (dk_at dksL_law_14 9 rfl rfl)
theorem dL_law_478 : decode cL_law 478 = .ok (.aload_n 2, 1) := dk_44 (dk_at dksL_law_14 12 rfl rfl)
theorem dL_law_479 : decode cL_law 479 = .ok (.invokevirtual 69, 3) := dk_182 0 69 (dk_at dksL_law_14 13 rfl rfl)
theorem dL_law_482 : decode cL_law 482 = .ok (.if_icmp .eq 872, 3) := dk_159 3 104 (dk_at dksL_law_14 16 rfl rfl)
theorem dL_law_485 : decode cL_law 485 = .ok (.iconst 0, 1) := dk_3 (dk_at dksL_law_14 19 rfl rfl)
theorem dL_law_486 : decode cL_law 486 = .ok (.ireturn, 1) := dk_172 (dk_at dksL_law_14 20 rfl rfl)
theorem dL_law_487 : decode cL_law 487 = .ok (.aload_n 1, 1) := dk_43 (dk_at dksL_law_14 21 rfl rfl)
theorem dL_law_488 : decode cL_law 488 = .ok (.aload_n 0, 1) := dk_42 (dk_at dksL_law_14 22 rfl rfl)
theorem dL_law_489 : decode cL_law 489 = .ok (.iload 4, 2) := dk_21 4 (dk_at dksL_law_15 0 rfl rfl)
theorem dL_law_491 : decode cL_law 491 = .ok (.iconst 1, 1) := dk_4 (dk_at dksL_law_15 2 rfl rfl)
theorem dL_law_492 : decode cL_law 492 = .ok (.iadd, 1) := dk_96 (dk_at dksL_law_15 3 rfl rfl)
theorem dL_law_493 : decode cL_law 493 = .ok (.iaload, 1) := dk_46 (dk_at dksL_law_15 4 rfl rfl)
theorem dL_law_494 : decode cL_law 494 = .ok (.aload_n 0, 1) := dk_42 (dk_at dksL_law_15 5 rfl rfl)
theorem dL_law_495 : decode cL_law 495 = .ok (.iload 4, 2) := dk_21 4 (dk_at dksL_law_15 6 rfl rfl)
theorem dL_law_497 : decode cL_law 497 = .ok (.iconst 2, 1) := dk_5 (dk_at dksL_law_15 8 rfl rfl)
theorem dL_law_498 : decode cL_law 498 = .ok (.iadd, 1) := dk_96 (dk_at dksL_law_15 9 rfl rfl)
theorem dL_law_499 : decode cL_law 499 = .ok (.iaload, 1) := dk_46 (dk_at dksL_law_15 10 rfl rfl)
theorem dL_law_500 : decode cL_law 500 = .ok (.invokevirtual 70, 3) := dk_182 0 70 (dk_at dksL_law_15 11 rfl rfl)
theorem dL_law_503 : decode cL_law 503 = .ok (.aload_n 2, 1) := dk_44 (dk_at dksL_law_15 14 rfl rfl)
theorem dL_law_504 : decode cL_law 504 = .ok (.aload_n 0, 1) := dk_42 (dk_at dksL_law_15 15 rfl rfl)
theorem dL_law_505 : decode cL_law 505 = .ok (.iload 4, 2) := dk_21 4 (dk_at dksL_law_15 16 rfl rfl)
theorem dL_law_507 : decode cL_law 507 = .ok (.iconst 1, 1) := dk_4 (dk_at dksL_law_15 18 rfl rfl)
theorem dL_law_508 : decode cL_law 508 = .ok (.iadd, 1) := dk_96 (dk_at dksL_law_15 19 rfl rfl)
theorem dL_law_509 : decode cL_law 509 = .ok (.iaload, 1) := dk_46 (dk_at dksL_law_15 20 rfl rfl)
theorem dL_law_510 : decode cL_law 510 = .ok (.aload_n 0, 1) := dk_42 (dk_at dksL_law_15 21 rfl rfl)
theorem dL_law_511 : decode cL_law 511 = .ok (.iload 4, 2) := dk_21 4 (dk_at dksL_law_15 22 rfl rfl)
theorem dL_law_513 : decode cL_law 513 = .ok (.iconst 2, 1) := dk_5 (dk_at dksL_law_16 0 rfl rfl)
theorem dL_law_514 : decode cL_law 514 = .ok (.iadd, 1) := dk_96 (dk_at dksL_law_16 1 rfl rfl)
theorem dL_law_515 : decode cL_law 515 = .ok (.iaload, 1) := dk_46 (dk_at dksL_law_16 2 rfl rfl)
theorem dL_law_516 : decode cL_law 516 = .ok (.invokevirtual 73, 3) := dk_182 0 73 (dk_at dksL_law_16 3 rfl rfl)
theorem dL_law_519 : decode cL_law 519 = .ok (.if_icmp .eq 835, 3) := dk_159 3 67 (dk_at dksL_law_16 6 rfl rfl)
theorem dL_law_522 : decode cL_law 522 = .ok (.iconst 0, 1) := dk_3 (dk_at dksL_law_16 9 rfl rfl)
theorem dL_law_523 : decode cL_law 523 = .ok (.ireturn, 1) := dk_172 (dk_at dksL_law_16 10 rfl rfl)
theorem dL_law_524 : decode cL_law 524 = .ok (.aload_n 1, 1) := dk_43 (dk_at dksL_law_16 11 rfl rfl)
theorem dL_law_525 : decode cL_law 525 = .ok (.aload_n 0, 1) := dk_42 (dk_at dksL_law_16 12 rfl rfl)
theorem dL_law_526 : decode cL_law 526 = .ok (.iload 4, 2) := dk_21 4 (dk_at dksL_law_16 13 rfl rfl)
theorem dL_law_528 : decode cL_law 528 = .ok (.iconst 1, 1) := dk_4 (dk_at dksL_law_16 15 rfl rfl)
theorem dL_law_529 : decode cL_law 529 = .ok (.iadd, 1) := dk_96 (dk_at dksL_law_16 16 rfl rfl)
theorem dL_law_530 : decode cL_law 530 = .ok (.iaload, 1) := dk_46 (dk_at dksL_law_16 17 rfl rfl)
theorem dL_law_531 : decode cL_law 531 = .ok (.invokevirtual 74, 3) := dk_182 0 74 (dk_at dksL_law_16 18 rfl rfl)
theorem dL_law_534 : decode cL_law 534 = .ok (.aload_n 2, 1) := dk_44 (dk_at dksL_law_16 21 rfl rfl)
theorem dL_law_535 : decode cL_law 535 = .ok (.aload_n 0, 1) := dk_42 (dk_at dksL_law_16 22 rfl rfl)
theorem dL_law_536 : decode cL_law 536 = .ok (.iload 4, 2) := dk_21 4 (dk_at dksL_law_17 0 rfl rfl)
theorem dL_law_538 : decode cL_law 538 = .ok (.iconst 1, 1) := dk_4 (dk_at dksL_law_17 2 rfl rfl)
theorem dL_law_539 : decode cL_law 539 = .ok (.iadd, 1) := dk_96 (dk_at dksL_law_17 3 rfl rfl)
theorem dL_law_540 : decode cL_law 540 = .ok (.iaload, 1) := dk_46 (dk_at dksL_law_17 4 rfl rfl)
theorem dL_law_541 : decode cL_law 541 = .ok (.invokevirtual 77, 3) := dk_182 0 77 (dk_at dksL_law_17 5 rfl rfl)
theorem dL_law_544 : decode cL_law 544 = .ok (.if_icmp .eq 810, 3) := dk_159 3 42 (dk_at dksL_law_17 8 rfl rfl)
theorem dL_law_547 : decode cL_law 547 = .ok (.iconst 0, 1) := dk_3 (dk_at dksL_law_17 11 rfl rfl)
theorem dL_law_548 : decode cL_law 548 = .ok (.ireturn, 1) := dk_172 (dk_at dksL_law_17 12 rfl rfl)
theorem dL_law_549 : decode cL_law 549 = .ok (.aload_n 1, 1) := dk_43 (dk_at dksL_law_17 13 rfl rfl)
theorem dL_law_550 : decode cL_law 550 = .ok (.aload_n 0, 1) := dk_42 (dk_at dksL_law_17 14 rfl rfl)
theorem dL_law_551 : decode cL_law 551 = .ok (.iload 4, 2) := dk_21 4 (dk_at dksL_law_17 15 rfl rfl)
theorem dL_law_553 : decode cL_law 553 = .ok (.iconst 1, 1) := dk_4 (dk_at dksL_law_17 17 rfl rfl)
theorem dL_law_554 : decode cL_law 554 = .ok (.iadd, 1) := dk_96 (dk_at dksL_law_17 18 rfl rfl)
theorem dL_law_555 : decode cL_law 555 = .ok (.iaload, 1) := dk_46 (dk_at dksL_law_17 19 rfl rfl)
theorem dL_law_556 : decode cL_law 556 = .ok (.aload_n 0, 1) := dk_42 (dk_at dksL_law_17 20 rfl rfl)
theorem dL_law_557 : decode cL_law 557 = .ok (.iload 4, 2) := dk_21 4 (dk_at dksL_law_17 21 rfl rfl)
theorem dL_law_559 : decode cL_law 559 = .ok (.iconst 2, 1) := dk_5 (dk_at dksL_law_17 23 rfl rfl)
theorem dL_law_560 : decode cL_law 560 = .ok (.iadd, 1) := dk_96 (dk_at dksL_law_18 0 rfl rfl)
theorem dL_law_561 : decode cL_law 561 = .ok (.iaload, 1) := dk_46 (dk_at dksL_law_18 1 rfl rfl)
theorem dL_law_562 : decode cL_law 562 = .ok (.aload_n 3, 1) := dk_45 (dk_at dksL_law_18 2 rfl rfl)
theorem dL_law_563 : decode cL_law 563 = .ok (.invokestatic 78, 3) := dk_184 0 78 (dk_at dksL_law_18 3 rfl rfl)
theorem dL_law_566 : decode cL_law 566 = .ok (.istore 5, 2) := dk_54 5 (dk_at dksL_law_18 6 rfl rfl)
theorem dL_law_568 : decode cL_law 568 = .ok (.aload_n 2, 1) := dk_44 (dk_at dksL_law_18 8 rfl rfl)
theorem dL_law_569 : decode cL_law 569 = .ok (.aload_n 0, 1) := dk_42 (dk_at dksL_law_18 9 rfl rfl)
theorem dL_law_570 : decode cL_law 570 = .ok (.iload 4, 2) := dk_21 4 (dk_at dksL_law_18 10 rfl rfl)
theorem dL_law_572 : decode cL_law 572 = .ok (.iconst 1, 1) := dk_4 (dk_at dksL_law_18 12 rfl rfl)
theorem dL_law_573 : decode cL_law 573 = .ok (.iadd, 1) := dk_96 (dk_at dksL_law_18 13 rfl rfl)
theorem dL_law_574 : decode cL_law 574 = .ok (.iaload, 1) := dk_46 (dk_at dksL_law_18 14 rfl rfl)
theorem dL_law_575 : decode cL_law 575 = .ok (.aload_n 0, 1) := dk_42 (dk_at dksL_law_18 15 rfl rfl)
theorem dL_law_576 : decode cL_law 576 = .ok (.iload 4, 2) := dk_21 4 (dk_at dksL_law_18 16 rfl rfl)
theorem dL_law_578 : decode cL_law 578 = .ok (.iconst 2, 1) := dk_5 (dk_at dksL_law_18 18 rfl rfl)
theorem dL_law_579 : decode cL_law 579 = .ok (.iadd, 1) := dk_96 (dk_at dksL_law_18 19 rfl rfl)
theorem dL_law_580 : decode cL_law 580 = .ok (.iaload, 1) := dk_46 (dk_at dksL_law_18 20 rfl rfl)
theorem dL_law_581 : decode cL_law 581 = .ok (.invokevirtual 81, 3) := dk_182 0 81 (dk_at dksL_law_18 21 rfl rfl)
theorem dL_law_584 : decode cL_law 584 = .ok (.istore 6, 2) := dk_54 6 (dk_at dksL_law_19 0 rfl rfl)
theorem dL_law_586 : decode cL_law 586 = .ok (.aload_n 2, 1) := dk_44 (dk_at dksL_law_19 2 rfl rfl)
theorem dL_law_587 : decode cL_law 587 = .ok (.invokevirtual 54, 3) := dk_182 0 54 (dk_at dksL_law_19 3 rfl rfl)
theorem dL_law_590 : decode cL_law 590 = .ok (.iload 5, 2) := dk_21 5 (dk_at dksL_law_19 6 rfl rfl)
theorem dL_law_592 : decode cL_law 592 = .ok (.if_icmp .eq 5, 3) := dk_159 0 5 (dk_at dksL_law_19 8 rfl rfl)
theorem dL_law_595 : decode cL_law 595 = .ok (.iconst 0, 1) := dk_3 (dk_at dksL_law_19 11 rfl rfl)
theorem dL_law_596 : decode cL_law 596 = .ok (.ireturn, 1) := dk_172 (dk_at dksL_law_19 12 rfl rfl)
theorem dL_law_597 : decode cL_law 597 = .ok (.iload 5, 2) := dk_21 5 (dk_at dksL_law_19 13 rfl rfl)
theorem dL_law_599 : decode cL_law 599 = .ok (.ifCond .ne 15, 3) := dk_154 0 15 (dk_at dksL_law_19 15 rfl rfl)
theorem dL_law_602 : decode cL_law 602 = .ok (.aload_n 3, 1) := dk_45 (dk_at dksL_law_19 18 rfl rfl)
theorem dL_law_603 : decode cL_law 603 = .ok (.iconst 0, 1) := dk_3 (dk_at dksL_law_19 19 rfl rfl)
theorem dL_law_604 : decode cL_law 604 = .ok (.laload, 1) := dk_47 (dk_at dksL_law_19 20 rfl rfl)
theorem dL_law_605 : decode cL_law 605 = .ok (.iload 6, 2) := dk_21 6 (dk_at dksL_law_19 21 rfl rfl)
theorem dL_law_607 : decode cL_law 607 = .ok (.i2l, 1) := dk_133 (dk_at dksL_law_19 23 rfl rfl)
theorem dL_law_608 : decode cL_law 608 = .ok (.lcmp, 1) := dk_148 (dk_at dksL_law_20 0 rfl rfl)
theorem dL_law_609 : decode cL_law 609 = .ok (.ifCond .eq 5, 3) := dk_153 0 5 (dk_at dksL_law_20 1 rfl rfl)
theorem dL_law_612 : decode cL_law 612 = .ok (.iconst 0, 1) := dk_3 (dk_at dksL_law_20 4 rfl rfl)
theorem dL_law_613 : decode cL_law 613 = .ok (.ireturn, 1) := dk_172 (dk_at dksL_law_20 5 rfl rfl)
theorem dL_law_614 : decode cL_law 614 = .ok (.goto 740, 3) := dk_167 2 228 (dk_at dksL_law_20 6 rfl rfl)
theorem dL_law_617 : decode cL_law 617 = .ok (.aload_n 1, 1) := dk_43 (dk_at dksL_law_20 9 rfl rfl)
theorem dL_law_618 : decode cL_law 618 = .ok (.aload_n 0, 1) := dk_42 (dk_at dksL_law_20 10 rfl rfl)
theorem dL_law_619 : decode cL_law 619 = .ok (.iload 4, 2) := dk_21 4 (dk_at dksL_law_20 11 rfl rfl)
theorem dL_law_621 : decode cL_law 621 = .ok (.iconst 1, 1) := dk_4 (dk_at dksL_law_20 13 rfl rfl)
theorem dL_law_622 : decode cL_law 622 = .ok (.iadd, 1) := dk_96 (dk_at dksL_law_20 14 rfl rfl)
theorem dL_law_623 : decode cL_law 623 = .ok (.iaload, 1) := dk_46 (dk_at dksL_law_20 15 rfl rfl)
theorem dL_law_624 : decode cL_law 624 = .ok (.aload_n 3, 1) := dk_45 (dk_at dksL_law_20 16 rfl rfl)
theorem dL_law_625 : decode cL_law 625 = .ok (.invokestatic 82, 3) := dk_184 0 82 (dk_at dksL_law_20 17 rfl rfl)
theorem dL_law_628 : decode cL_law 628 = .ok (.istore 5, 2) := dk_54 5 (dk_at dksL_law_20 20 rfl rfl)
theorem dL_law_630 : decode cL_law 630 = .ok (.aload_n 2, 1) := dk_44 (dk_at dksL_law_20 22 rfl rfl)
theorem dL_law_631 : decode cL_law 631 = .ok (.aload_n 0, 1) := dk_42 (dk_at dksL_law_20 23 rfl rfl)
theorem dL_law_632 : decode cL_law 632 = .ok (.iload 4, 2) := dk_21 4 (dk_at dksL_law_21 0 rfl rfl)
theorem dL_law_634 : decode cL_law 634 = .ok (.iconst 1, 1) := dk_4 (dk_at dksL_law_21 2 rfl rfl)
theorem dL_law_635 : decode cL_law 635 = .ok (.iadd, 1) := dk_96 (dk_at dksL_law_21 3 rfl rfl)
theorem dL_law_636 : decode cL_law 636 = .ok (.iaload, 1) := dk_46 (dk_at dksL_law_21 4 rfl rfl)
theorem dL_law_637 : decode cL_law 637 = .ok (.invokevirtual 85, 3) := dk_182 0 85 (dk_at dksL_law_21 5 rfl rfl)
theorem dL_law_640 : decode cL_law 640 = .ok (.istore 6, 2) := dk_54 6 (dk_at dksL_law_21 8 rfl rfl)
theorem dL_law_642 : decode cL_law 642 = .ok (.aload_n 2, 1) := dk_44 (dk_at dksL_law_21 10 rfl rfl)
theorem dL_law_643 : decode cL_law 643 = .ok (.invokevirtual 54, 3) := dk_182 0 54 (dk_at dksL_law_21 11 rfl rfl)
theorem dL_law_646 : decode cL_law 646 = .ok (.iload 5, 2) := dk_21 5 (dk_at dksL_law_21 14 rfl rfl)
theorem dL_law_648 : decode cL_law 648 = .ok (.if_icmp .eq 5, 3) := dk_159 0 5 (dk_at dksL_law_21 16 rfl rfl)
theorem dL_law_651 : decode cL_law 651 = .ok (.iconst 0, 1) := dk_3 (dk_at dksL_law_21 19 rfl rfl)
theorem dL_law_652 : decode cL_law 652 = .ok (.ireturn, 1) := dk_172 (dk_at dksL_law_21 20 rfl rfl)
theorem dL_law_653 : decode cL_law 653 = .ok (.iload 5, 2) := dk_21 5 (dk_at dksL_law_21 21 rfl rfl)
theorem dL_law_655 : decode cL_law 655 = .ok (.ifCond .ne 15, 3) := dk_154 0 15 (dk_at dksL_law_22 0 rfl rfl)
theorem dL_law_658 : decode cL_law 658 = .ok (.aload_n 3, 1) := dk_45 (dk_at dksL_law_22 3 rfl rfl)
theorem dL_law_659 : decode cL_law 659 = .ok (.iconst 0, 1) := dk_3 (dk_at dksL_law_22 4 rfl rfl)
theorem dL_law_660 : decode cL_law 660 = .ok (.laload, 1) := dk_47 (dk_at dksL_law_22 5 rfl rfl)
theorem dL_law_661 : decode cL_law 661 = .ok (.iload 6, 2) := dk_21 6 (dk_at dksL_law_22 6 rfl rfl)
theorem dL_law_663 : decode cL_law 663 = .ok (.i2l, 1) := dk_133 (dk_at dksL_law_22 8 rfl rfl)
theorem dL_law_664 : decode cL_law 664 = .ok (.lcmp, 1) := dk_148 (dk_at dksL_law_22 9 rfl rfl)
theorem dL_law_665 : decode cL_law 665 = .ok (.ifCond .eq 5, 3) := dk_153 0 5 (dk_at dksL_law_22 10 rfl rfl)
theorem dL_law_668 : decode cL_law 668 = .ok (.iconst 0, 1) := dk_3 (dk_at dksL_law_22 13 rfl rfl)
theorem dL_law_669 : decode cL_law 669 = .ok (.ireturn, 1) := dk_172 (dk_at dksL_law_22 14 rfl rfl)
theorem dL_law_670 : decode cL_law 670 = .ok (.goto 684, 3) := dk_167 2 172 (dk_at dksL_law_22 15 rfl rfl)
theorem dL_law_673 : decode cL_law 673 = .ok (.aload_n 1, 1) := dk_43 (dk_at dksL_law_22 18 rfl rfl)
theorem dL_law_674 : decode cL_law 674 = .ok (.aload_n 0, 1) := dk_42 (dk_at dksL_law_22 19 rfl rfl)
theorem dL_law_675 : decode cL_law 675 = .ok (.iload 4, 2) := dk_21 4 (dk_at dksL_law_22 20 rfl rfl)
theorem dL_law_677 : decode cL_law 677 = .ok (.iconst 1, 1) := dk_4 (dk_at dksL_law_22 22 rfl rfl)
theorem dL_law_678 : decode cL_law 678 = .ok (.iadd, 1) := dk_96 (dk_at dksL_law_22 23 rfl rfl)
theorem dL_law_679 : decode cL_law 679 = .ok (.iaload, 1) := dk_46 (dk_at dksL_law_23 0 rfl rfl)
theorem dL_law_680 : decode cL_law 680 = .ok (.aload_n 0, 1) := dk_42 (dk_at dksL_law_23 1 rfl rfl)
theorem dL_law_681 : decode cL_law 681 = .ok (.iload 4, 2) := dk_21 4 (dk_at dksL_law_23 2 rfl rfl)
theorem dL_law_683 : decode cL_law 683 = .ok (.iconst 2, 1) := dk_5 (dk_at dksL_law_23 4 rfl rfl)
theorem dL_law_684 : decode cL_law 684 = .ok (.iadd, 1) := dk_96 (dk_at dksL_law_23 5 rfl rfl)
theorem dL_law_685 : decode cL_law 685 = .ok (.iaload, 1) := dk_46 (dk_at dksL_law_23 6 rfl rfl)
theorem dL_law_686 : decode cL_law 686 = .ok (.invokevirtual 86, 3) := dk_182 0 86 (dk_at dksL_law_23 7 rfl rfl)
theorem dL_law_689 : decode cL_law 689 = .ok (.aload_n 2, 1) := dk_44 (dk_at dksL_law_23 10 rfl rfl)
theorem dL_law_690 : decode cL_law 690 = .ok (.aload_n 0, 1) := dk_42 (dk_at dksL_law_23 11 rfl rfl)
theorem dL_law_691 : decode cL_law 691 = .ok (.iload 4, 2) := dk_21 4 (dk_at dksL_law_23 12 rfl rfl)
theorem dL_law_693 : decode cL_law 693 = .ok (.iconst 1, 1) := dk_4 (dk_at dksL_law_23 14 rfl rfl)
theorem dL_law_694 : decode cL_law 694 = .ok (.iadd, 1) := dk_96 (dk_at dksL_law_23 15 rfl rfl)
theorem dL_law_695 : decode cL_law 695 = .ok (.iaload, 1) := dk_46 (dk_at dksL_law_23 16 rfl rfl)
theorem dL_law_696 : decode cL_law 696 = .ok (.aload_n 0, 1) := dk_42 (dk_at dksL_law_23 17 rfl rfl)
theorem dL_law_697 : decode cL_law 697 = .ok (.iload 4, 2) := dk_21 4 (dk_at dksL_law_23 18 rfl rfl)
theorem dL_law_699 : decode cL_law 699 = .ok (.iconst 2, 1) := dk_5 (dk_at dksL_law_23 20 rfl rfl)
theorem dL_law_700 : decode cL_law 700 = .ok (.iadd, 1) := dk_96 (dk_at dksL_law_23 21 rfl rfl)
theorem dL_law_701 : decode cL_law 701 = .ok (.iaload, 1) := dk_46 (dk_at dksL_law_23 22 rfl rfl)
theorem dL_law_702 : decode cL_law 702 = .ok (.invokevirtual 90, 3) := dk_182 0 90 (dk_at dksL_law_24 0 rfl rfl)
theorem dL_law_705 : decode cL_law 705 = .ok (.if_icmp .eq 649, 3) := dk_159 2 137 (dk_at dksL_law_24 3 rfl rfl)
theorem dL_law_708 : decode cL_law 708 = .ok (.iconst 0, 1) := dk_3 (dk_at dksL_law_24 6 rfl rfl)
theorem dL_law_709 : decode cL_law 709 = .ok (.ireturn, 1) := dk_172 (dk_at dksL_law_24 7 rfl rfl)
theorem dL_law_710 : decode cL_law 710 = .ok (.aload_n 1, 1) := dk_43 (dk_at dksL_law_24 8 rfl rfl)
theorem dL_law_711 : decode cL_law 711 = .ok (.aload_n 0, 1) := dk_42 (dk_at dksL_law_24 9 rfl rfl)
theorem dL_law_712 : decode cL_law 712 = .ok (.iload 4, 2) := dk_21 4 (dk_at dksL_law_24 10 rfl rfl)
theorem dL_law_714 : decode cL_law 714 = .ok (.iconst 1, 1) := dk_4 (dk_at dksL_law_24 12 rfl rfl)
theorem dL_law_715 : decode cL_law 715 = .ok (.iadd, 1) := dk_96 (dk_at dksL_law_24 13 rfl rfl)
theorem dL_law_716 : decode cL_law 716 = .ok (.iaload, 1) := dk_46 (dk_at dksL_law_24 14 rfl rfl)
theorem dL_law_717 : decode cL_law 717 = .ok (.invokevirtual 91, 3) := dk_182 0 91 (dk_at dksL_law_24 15 rfl rfl)
theorem dL_law_720 : decode cL_law 720 = .ok (.aload_n 2, 1) := dk_44 (dk_at dksL_law_24 18 rfl rfl)
theorem dL_law_721 : decode cL_law 721 = .ok (.aload_n 0, 1) := dk_42 (dk_at dksL_law_24 19 rfl rfl)
theorem dL_law_722 : decode cL_law 722 = .ok (.iload 4, 2) := dk_21 4 (dk_at dksL_law_24 20 rfl rfl)
theorem dL_law_724 : decode cL_law 724 = .ok (.iconst 1, 1) := dk_4 (dk_at dksL_law_24 22 rfl rfl)
theorem dL_law_725 : decode cL_law 725 = .ok (.iadd, 1) := dk_96 (dk_at dksL_law_24 23 rfl rfl)
theorem dL_law_726 : decode cL_law 726 = .ok (.iaload, 1) := dk_46 (dk_at dksL_law_25 0 rfl rfl)
theorem dL_law_727 : decode cL_law 727 = .ok (.invokevirtual 94, 3) := dk_182 0 94 (dk_at dksL_law_25 1 rfl rfl)
theorem dL_law_730 : decode cL_law 730 = .ok (.if_icmp .eq 624, 3) := dk_159 2 112 (dk_at dksL_law_25 4 rfl rfl)
theorem dL_law_733 : decode cL_law 733 = .ok (.iconst 0, 1) := dk_3 (dk_at dksL_law_25 7 rfl rfl)
theorem dL_law_734 : decode cL_law 734 = .ok (.ireturn, 1) := dk_172 (dk_at dksL_law_25 8 rfl rfl)
theorem dL_law_735 : decode cL_law 735 = .ok (.aload_n 1, 1) := dk_43 (dk_at dksL_law_25 9 rfl rfl)
theorem dL_law_736 : decode cL_law 736 = .ok (.aload_n 0, 1) := dk_42 (dk_at dksL_law_25 10 rfl rfl)
theorem dL_law_737 : decode cL_law 737 = .ok (.iload 4, 2) := dk_21 4 (dk_at dksL_law_25 11 rfl rfl)
theorem dL_law_739 : decode cL_law 739 = .ok (.iconst 1, 1) := dk_4 (dk_at dksL_law_25 13 rfl rfl)
theorem dL_law_740 : decode cL_law 740 = .ok (.iadd, 1) := dk_96 (dk_at dksL_law_25 14 rfl rfl)
theorem dL_law_741 : decode cL_law 741 = .ok (.iaload, 1) := dk_46 (dk_at dksL_law_25 15 rfl rfl)
theorem dL_law_742 : decode cL_law 742 = .ok (.invokevirtual 95, 3) := dk_182 0 95 (dk_at dksL_law_25 16 rfl rfl)
theorem dL_law_745 : decode cL_law 745 = .ok (.aload_n 2, 1) := dk_44 (dk_at dksL_law_25 19 rfl rfl)
theorem dL_law_746 : decode cL_law 746 = .ok (.aload_n 0, 1) := dk_42 (dk_at dksL_law_25 20 rfl rfl)
theorem dL_law_747 : decode cL_law 747 = .ok (.iload 4, 2) := dk_21 4 (dk_at dksL_law_25 21 rfl rfl)
theorem dL_law_749 : decode cL_law 749 = .ok (.iconst 1, 1) := dk_4 (dk_at dksL_law_25 23 rfl rfl)
theorem dL_law_750 : decode cL_law 750 = .ok (.iadd, 1) := dk_96 (dk_at dksL_law_26 0 rfl rfl)
theorem dL_law_751 : decode cL_law 751 = .ok (.iaload, 1) := dk_46 (dk_at dksL_law_26 1 rfl rfl)
theorem dL_law_752 : decode cL_law 752 = .ok (.invokevirtual 98, 3) := dk_182 0 98 (dk_at dksL_law_26 2 rfl rfl)
theorem dL_law_755 : decode cL_law 755 = .ok (.if_icmp .eq 599, 3) := dk_159 2 87 (dk_at dksL_law_26 5 rfl rfl)
theorem dL_law_758 : decode cL_law 758 = .ok (.iconst 0, 1) := dk_3 (dk_at dksL_law_26 8 rfl rfl)
theorem dL_law_759 : decode cL_law 759 = .ok (.ireturn, 1) := dk_172 (dk_at dksL_law_26 9 rfl rfl)
theorem dL_law_760 : decode cL_law 760 = .ok (.aload_n 1, 1) := dk_43 (dk_at dksL_law_26 10 rfl rfl)
theorem dL_law_761 : decode cL_law 761 = .ok (.aload_n 0, 1) := dk_42 (dk_at dksL_law_26 11 rfl rfl)
theorem dL_law_762 : decode cL_law 762 = .ok (.iload 4, 2) := dk_21 4 (dk_at dksL_law_26 12 rfl rfl)
theorem dL_law_764 : decode cL_law 764 = .ok (.iconst 1, 1) := dk_4 (dk_at dksL_law_26 14 rfl rfl)
theorem dL_law_765 : decode cL_law 765 = .ok (.iadd, 1) := dk_96 (dk_at dksL_law_26 15 rfl rfl)
theorem dL_law_766 : decode cL_law 766 = .ok (.iaload, 1) := dk_46 (dk_at dksL_law_26 16 rfl rfl)
theorem dL_law_767 : decode cL_law 767 = .ok (.invokevirtual 99, 3) := dk_182 0 99 (dk_at dksL_law_26 17 rfl rfl)
theorem dL_law_770 : decode cL_law 770 = .ok (.aload_n 2, 1) := dk_44 (dk_at dksL_law_26 20 rfl rfl)
theorem dL_law_771 : decode cL_law 771 = .ok (.aload_n 0, 1) := dk_42 (dk_at dksL_law_26 21 rfl rfl)
theorem dL_law_772 : decode cL_law 772 = .ok (.iload 4, 2) := dk_21 4 (dk_at dksL_law_26 22 rfl rfl)
theorem dL_law_774 : decode cL_law 774 = .ok (.iconst 1, 1) := dk_4 (dk_at dksL_law_27 0 rfl rfl)
theorem dL_law_775 : decode cL_law 775 = .ok (.iadd, 1) := dk_96 (dk_at dksL_law_27 1 rfl rfl)
theorem dL_law_776 : decode cL_law 776 = .ok (.iaload, 1) := dk_46 (dk_at dksL_law_27 2 rfl rfl)
theorem dL_law_777 : decode cL_law 777 = .ok (.invokevirtual 102, 3) := dk_182 0 102 (dk_at dksL_law_27 3 rfl rfl)
theorem dL_law_780 : decode cL_law 780 = .ok (.if_icmp .eq 574, 3) := dk_159 2 62 (dk_at dksL_law_27 6 rfl rfl)
theorem dL_law_783 : decode cL_law 783 = .ok (.iconst 0, 1) := dk_3 (dk_at dksL_law_27 9 rfl rfl)
theorem dL_law_784 : decode cL_law 784 = .ok (.ireturn, 1) := dk_172 (dk_at dksL_law_27 10 rfl rfl)
theorem dL_law_785 : decode cL_law 785 = .ok (.aload_n 1, 1) := dk_43 (dk_at dksL_law_27 11 rfl rfl)
theorem dL_law_786 : decode cL_law 786 = .ok (.aload_n 0, 1) := dk_42 (dk_at dksL_law_27 12 rfl rfl)
theorem dL_law_787 : decode cL_law 787 = .ok (.iload 4, 2) := dk_21 4 (dk_at dksL_law_27 13 rfl rfl)
theorem dL_law_789 : decode cL_law 789 = .ok (.iconst 1, 1) := dk_4 (dk_at dksL_law_27 15 rfl rfl)
theorem dL_law_790 : decode cL_law 790 = .ok (.iadd, 1) := dk_96 (dk_at dksL_law_27 16 rfl rfl)
theorem dL_law_791 : decode cL_law 791 = .ok (.iaload, 1) := dk_46 (dk_at dksL_law_27 17 rfl rfl)
theorem dL_law_792 : decode cL_law 792 = .ok (.invokevirtual 103, 3) := dk_182 0 103 (dk_at dksL_law_27 18 rfl rfl)
theorem dL_law_795 : decode cL_law 795 = .ok (.aload_n 2, 1) := dk_44 (dk_at dksL_law_27 21 rfl rfl)
theorem dL_law_796 : decode cL_law 796 = .ok (.aload_n 0, 1) := dk_42 (dk_at dksL_law_27 22 rfl rfl)
theorem dL_law_797 : decode cL_law 797 = .ok (.iload 4, 2) := dk_21 4 (dk_at dksL_law_28 0 rfl rfl)
theorem dL_law_799 : decode cL_law 799 = .ok (.iconst 1, 1) := dk_4 (dk_at dksL_law_28 2 rfl rfl)
theorem dL_law_800 : decode cL_law 800 = .ok (.iadd, 1) := dk_96 (dk_at dksL_law_28 3 rfl rfl)
theorem dL_law_801 : decode cL_law 801 = .ok (.iaload, 1) := dk_46 (dk_at dksL_law_28 4 rfl rfl)
theorem dL_law_802 : decode cL_law 802 = .ok (.invokevirtual 106, 3) := dk_182 0 106 (dk_at dksL_law_28 5 rfl rfl)
theorem dL_law_805 : decode cL_law 805 = .ok (.if_icmp .eq 549, 3) := dk_159 2 37 (dk_at dksL_law_28 8 rfl rfl)
theorem dL_law_808 : decode cL_law 808 = .ok (.iconst 0, 1) := dk_3 (dk_at dksL_law_28 11 rfl rfl)
theorem dL_law_809 : decode cL_law 809 = .ok (.ireturn, 1) := dk_172 (dk_at dksL_law_28 12 rfl rfl)
theorem dL_law_810 : decode cL_law 810 = .ok (.aload_n 1, 1) := dk_43 (dk_at dksL_law_28 13 rfl rfl)
theorem dL_law_811 : decode cL_law 811 = .ok (.invokevirtual 107, 3) := dk_182 0 107 (dk_at dksL_law_28 14 rfl rfl)
theorem dL_law_814 : decode cL_law 814 = .ok (.aload_n 2, 1) := dk_44 (dk_at dksL_law_28 17 rfl rfl)
theorem dL_law_815 : decode cL_law 815 = .ok (.invokevirtual 110, 3) := dk_182 0 110 (dk_at dksL_law_28 18 rfl rfl)
theorem dL_law_818 : decode cL_law 818 = .ok (.if_icmp .eq 536, 3) := dk_159 2 24 (dk_at dksL_law_28 21 rfl rfl)
theorem dL_law_821 : decode cL_law 821 = .ok (.iconst 0, 1) := dk_3 (dk_at dksL_law_29 0 rfl rfl)
theorem dL_law_822 : decode cL_law 822 = .ok (.ireturn, 1) := dk_172 (dk_at dksL_law_29 1 rfl rfl)
theorem dL_law_823 : decode cL_law 823 = .ok (.aload_n 1, 1) := dk_43 (dk_at dksL_law_29 2 rfl rfl)
theorem dL_law_824 : decode cL_law 824 = .ok (.invokevirtual 111, 3) := dk_182 0 111 (dk_at dksL_law_29 3 rfl rfl)
theorem dL_law_827 : decode cL_law 827 = .ok (.aload_n 2, 1) := dk_44 (dk_at dksL_law_29 6 rfl rfl)
theorem dL_law_828 : decode cL_law 828 = .ok (.invokevirtual 114, 3) := dk_182 0 114 (dk_at dksL_law_29 7 rfl rfl)
theorem dL_law_831 : decode cL_law 831 = .ok (.if_icmp .eq 523, 3) := dk_159 2 11 (dk_at dksL_law_29 10 rfl rfl)
theorem dL_law_834 : decode cL_law 834 = .ok (.iconst 0, 1) := dk_3 (dk_at dksL_law_29 13 rfl rfl)
theorem dL_law_835 : decode cL_law 835 = .ok (.ireturn, 1) := dk_172 (dk_at dksL_law_29 14 rfl rfl)
theorem dL_law_836 : decode cL_law 836 = .ok (.aload_n 1, 1) := dk_43 (dk_at dksL_law_29 15 rfl rfl)
theorem dL_law_837 : decode cL_law 837 = .ok (.invokevirtual 115, 3) := dk_182 0 115 (dk_at dksL_law_29 16 rfl rfl)
theorem dL_law_840 : decode cL_law 840 = .ok (.aload_n 2, 1) := dk_44 (dk_at dksL_law_29 19 rfl rfl)
theorem dL_law_841 : decode cL_law 841 = .ok (.invokevirtual 118, 3) := dk_182 0 118 (dk_at dksL_law_29 20 rfl rfl)
theorem dL_law_844 : decode cL_law 844 = .ok (.if_icmp .eq 510, 3) := dk_159 1 254 (dk_at dksL_law_30 0 rfl rfl)
theorem dL_law_847 : decode cL_law 847 = .ok (.iconst 0, 1) := dk_3 (dk_at dksL_law_30 3 rfl rfl)
theorem dL_law_848 : decode cL_law 848 = .ok (.ireturn, 1) := dk_172 (dk_at dksL_law_30 4 rfl rfl)
theorem dL_law_849 : decode cL_law 849 = .ok (.aload_n 1, 1) := dk_43 (dk_at dksL_law_30 5 rfl rfl)
theorem dL_law_850 : decode cL_law 850 = .ok (.invokevirtual 119, 3) := dk_182 0 119 (dk_at dksL_law_30 6 rfl rfl)
theorem dL_law_853 : decode cL_law 853 = .ok (.aload_n 2, 1) := dk_44 (dk_at dksL_law_30 9 rfl rfl)
theorem dL_law_854 : decode cL_law 854 = .ok (.invokevirtual 122, 3) := dk_182 0 122 (dk_at dksL_law_30 10 rfl rfl)
theorem dL_law_857 : decode cL_law 857 = .ok (.if_icmp .eq 497, 3) := dk_159 1 241 (dk_at dksL_law_30 13 rfl rfl)
theorem dL_law_860 : decode cL_law 860 = .ok (.iconst 0, 1) := dk_3 (dk_at dksL_law_30 16 rfl rfl)
theorem dL_law_861 : decode cL_law 861 = .ok (.ireturn, 1) := dk_172 (dk_at dksL_law_30 17 rfl rfl)
theorem dL_law_862 : decode cL_law 862 = .ok (.aload_n 1, 1) := dk_43 (dk_at dksL_law_30 18 rfl rfl)
theorem dL_law_863 : decode cL_law 863 = .ok (.aload_n 0, 1) := dk_42 (dk_at dksL_law_30 19 rfl rfl)
theorem dL_law_864 : decode cL_law 864 = .ok (.iload 4, 2) := dk_21 4 (dk_at dksL_law_30 20 rfl rfl)
theorem dL_law_866 : decode cL_law 866 = .ok (.iconst 1, 1) := dk_4 (dk_at dksL_law_30 22 rfl rfl)
theorem dL_law_867 : decode cL_law 867 = .ok (.iadd, 1) := dk_96 (dk_at dksL_law_30 23 rfl rfl)
theorem dL_law_868 : decode cL_law 868 = .ok (.iaload, 1) := dk_46 (dk_at dksL_law_31 0 rfl rfl)
theorem dL_law_869 : decode cL_law 869 = .ok (.invokevirtual 123, 3) := dk_182 0 123 (dk_at dksL_law_31 1 rfl rfl)
theorem dL_law_872 : decode cL_law 872 = .ok (.aload_n 2, 1) := dk_44 (dk_at dksL_law_31 4 rfl rfl)
theorem dL_law_873 : decode cL_law 873 = .ok (.aload_n 0, 1) := dk_42 (dk_at dksL_law_31 5 rfl rfl)
theorem dL_law_874 : decode cL_law 874 = .ok (.iload 4, 2) := dk_21 4 (dk_at dksL_law_31 6 rfl rfl)
theorem dL_law_876 : decode cL_law 876 = .ok (.iconst 1, 1) := dk_4 (dk_at dksL_law_31 8 rfl rfl)
theorem dL_law_877 : decode cL_law 877 = .ok (.iadd, 1) := dk_96 (dk_at dksL_law_31 9 rfl rfl)
theorem dL_law_878 : decode cL_law 878 = .ok (.iaload, 1) := dk_46 (dk_at dksL_law_31 10 rfl rfl)
theorem dL_law_879 : decode cL_law 879 = .ok (.invokevirtual 126, 3) := dk_182 0 126 (dk_at dksL_law_31 11 rfl rfl)
theorem dL_law_882 : decode cL_law 882 = .ok (.if_icmp .eq 472, 3) := dk_159 1 216 (dk_at dksL_law_31 14 rfl rfl)
theorem dL_law_885 : decode cL_law 885 = .ok (.iconst 0, 1) := dk_3 (dk_at dksL_law_31 17 rfl rfl)
theorem dL_law_886 : decode cL_law 886 = .ok (.ireturn, 1) := dk_172 (dk_at dksL_law_31 18 rfl rfl)
theorem dL_law_887 : decode cL_law 887 = .ok (.aload_n 1, 1) := dk_43 (dk_at dksL_law_31 19 rfl rfl)
theorem dL_law_888 : decode cL_law 888 = .ok (.aload_n 0, 1) := dk_42 (dk_at dksL_law_31 20 rfl rfl)
theorem dL_law_889 : decode cL_law 889 = .ok (.iload 4, 2) := dk_21 4 (dk_at dksL_law_31 21 rfl rfl)
theorem dL_law_891 : decode cL_law 891 = .ok (.iconst 1, 1) := dk_4 (dk_at dksL_law_31 23 rfl rfl)
theorem dL_law_892 : decode cL_law 892 = .ok (.iadd, 1) := dk_96 (dk_at dksL_law_32 0 rfl rfl)
theorem dL_law_893 : decode cL_law 893 = .ok (.iaload, 1) := dk_46 (dk_at dksL_law_32 1 rfl rfl)
theorem dL_law_894 : decode cL_law 894 = .ok (.invokevirtual 127, 3) := dk_182 0 127 (dk_at dksL_law_32 2 rfl rfl)
theorem dL_law_897 : decode cL_law 897 = .ok (.aload_n 2, 1) := dk_44 (dk_at dksL_law_32 5 rfl rfl)
theorem dL_law_898 : decode cL_law 898 = .ok (.aload_n 0, 1) := dk_42 (dk_at dksL_law_32 6 rfl rfl)
theorem dL_law_899 : decode cL_law 899 = .ok (.iload 4, 2) := dk_21 4 (dk_at dksL_law_32 7 rfl rfl)
theorem dL_law_901 : decode cL_law 901 = .ok (.iconst 1, 1) := dk_4 (dk_at dksL_law_32 9 rfl rfl)
theorem dL_law_902 : decode cL_law 902 = .ok (.iadd, 1) := dk_96 (dk_at dksL_law_32 10 rfl rfl)
theorem dL_law_903 : decode cL_law 903 = .ok (.iaload, 1) := dk_46 (dk_at dksL_law_32 11 rfl rfl)
theorem dL_law_904 : decode cL_law 904 = .ok (.invokevirtual 130, 3) := dk_182 0 130 (dk_at dksL_law_32 12 rfl rfl)
theorem dL_law_907 : decode cL_law 907 = .ok (.if_icmp .eq 447, 3) := dk_159 1 191 (dk_at dksL_law_32 15 rfl rfl)
theorem dL_law_910 : decode cL_law 910 = .ok (.iconst 0, 1) := dk_3 (dk_at dksL_law_32 18 rfl rfl)
theorem dL_law_911 : decode cL_law 911 = .ok (.ireturn, 1) := dk_172 (dk_at dksL_law_32 19 rfl rfl)
theorem dL_law_912 : decode cL_law 912 = .ok (.aload_n 1, 1) := dk_43 (dk_at dksL_law_32 20 rfl rfl)
theorem dL_law_913 : decode cL_law 913 = .ok (.aload_n 0, 1) := dk_42 (dk_at dksL_law_32 21 rfl rfl)
theorem dL_law_914 : decode cL_law 914 = .ok (.iload 4, 2) := dk_21 4 (dk_at dksL_law_32 22 rfl rfl)
theorem dL_law_916 : decode cL_law 916 = .ok (.iconst 1, 1) := dk_4 (dk_at dksL_law_33 0 rfl rfl)
theorem dL_law_917 : decode cL_law 917 = .ok (.iadd, 1) := dk_96 (dk_at dksL_law_33 1 rfl rfl)
theorem dL_law_918 : decode cL_law 918 = .ok (.iaload, 1) := dk_46 (dk_at dksL_law_33 2 rfl rfl)
theorem dL_law_919 : decode cL_law 919 = .ok (.aload_n 0, 1) := dk_42 (dk_at dksL_law_33 3 rfl rfl)
theorem dL_law_920 : decode cL_law 920 = .ok (.iload 4, 2) := dk_21 4 (dk_at dksL_law_33 4 rfl rfl)
theorem dL_law_922 : decode cL_law 922 = .ok (.iconst 2, 1) := dk_5 (dk_at dksL_law_33 6 rfl rfl)
theorem dL_law_923 : decode cL_law 923 = .ok (.iadd, 1) := dk_96 (dk_at dksL_law_33 7 rfl rfl)
theorem dL_law_924 : decode cL_law 924 = .ok (.iaload, 1) := dk_46 (dk_at dksL_law_33 8 rfl rfl)
theorem dL_law_925 : decode cL_law 925 = .ok (.invokevirtual 131, 3) := dk_182 0 131 (dk_at dksL_law_33 9 rfl rfl)
theorem dL_law_928 : decode cL_law 928 = .ok (.aload_n 2, 1) := dk_44 (dk_at dksL_law_33 12 rfl rfl)
theorem dL_law_929 : decode cL_law 929 = .ok (.aload_n 0, 1) := dk_42 (dk_at dksL_law_33 13 rfl rfl)
theorem dL_law_930 : decode cL_law 930 = .ok (.iload 4, 2) := dk_21 4 (dk_at dksL_law_33 14 rfl rfl)
theorem dL_law_932 : decode cL_law 932 = .ok (.iconst 1, 1) := dk_4 (dk_at dksL_law_33 16 rfl rfl)
theorem dL_law_933 : decode cL_law 933 = .ok (.iadd, 1) := dk_96 (dk_at dksL_law_33 17 rfl rfl)
theorem dL_law_934 : decode cL_law 934 = .ok (.iaload, 1) := dk_46 (dk_at dksL_law_33 18 rfl rfl)
theorem dL_law_935 : decode cL_law 935 = .ok (.aload_n 0, 1) := dk_42 (dk_at dksL_law_33 19 rfl rfl)
theorem dL_law_936 : decode cL_law 936 = .ok (.iload 4, 2) := dk_21 4 (dk_at dksL_law_33 20 rfl rfl)
theorem dL_law_938 : decode cL_law 938 = .ok (.iconst 2, 1) := dk_5 (dk_at dksL_law_33 22 rfl rfl)
theorem dL_law_939 : decode cL_law 939 = .ok (.iadd, 1) := dk_96 (dk_at dksL_law_33 23 rfl rfl)
theorem dL_law_940 : decode cL_law 940 = .ok (.iaload, 1) := dk_46 (dk_at dksL_law_34 0 rfl rfl)
theorem dL_law_941 : decode cL_law 941 = .ok (.invokevirtual 134, 3) := dk_182 0 134 (dk_at dksL_law_34 1 rfl rfl)
theorem dL_law_944 : decode cL_law 944 = .ok (.if_icmp .eq 410, 3) := dk_159 1 154 (dk_at dksL_law_34 4 rfl rfl)
theorem dL_law_947 : decode cL_law 947 = .ok (.iconst 0, 1) := dk_3 (dk_at dksL_law_34 7 rfl rfl)
theorem dL_law_948 : decode cL_law 948 = .ok (.ireturn, 1) := dk_172 (dk_at dksL_law_34 8 rfl rfl)
theorem dL_law_949 : decode cL_law 949 = .ok (.aload_n 1, 1) := dk_43 (dk_at dksL_law_34 9 rfl rfl)
theorem dL_law_950 : decode cL_law 950 = .ok (.aload_n 0, 1) := dk_42 (dk_at dksL_law_34 10 rfl rfl)
theorem dL_law_951 : decode cL_law 951 = .ok (.iload 4, 2) := dk_21 4 (dk_at dksL_law_34 11 rfl rfl)
theorem dL_law_953 : decode cL_law 953 = .ok (.iconst 1, 1) := dk_4 (dk_at dksL_law_34 13 rfl rfl)
theorem dL_law_954 : decode cL_law 954 = .ok (.iadd, 1) := dk_96 (dk_at dksL_law_34 14 rfl rfl)
theorem dL_law_955 : decode cL_law 955 = .ok (.iaload, 1) := dk_46 (dk_at dksL_law_34 15 rfl rfl)
theorem dL_law_956 : decode cL_law 956 = .ok (.aload_n 0, 1) := dk_42 (dk_at dksL_law_34 16 rfl rfl)
theorem dL_law_957 : decode cL_law 957 = .ok (.iload 4, 2) := dk_21 4 (dk_at dksL_law_34 17 rfl rfl)
theorem dL_law_959 : decode cL_law 959 = .ok (.iconst 2, 1) := dk_5 (dk_at dksL_law_34 19 rfl rfl)
theorem dL_law_960 : decode cL_law 960 = .ok (.iadd, 1) := dk_96 (dk_at dksL_law_34 20 rfl rfl)
theorem dL_law_961 : decode cL_law 961 = .ok (.iaload, 1) := dk_46 (dk_at dksL_law_34 21 rfl rfl)
theorem dL_law_962 : decode cL_law 962 = .ok (.aload_n 3, 1) := dk_45 (dk_at dksL_law_34 22 rfl rfl)
theorem dL_law_963 : decode cL_law 963 = .ok (.invokestatic 135, 3) := dk_184 0 135 (dk_at dksL_law_35 0 rfl rfl)
theorem dL_law_966 : decode cL_law 966 = .ok (.istore 5, 2) := dk_54 5 (dk_at dksL_law_35 3 rfl rfl)
theorem dL_law_968 : decode cL_law 968 = .ok (.aload_n 2, 1) := dk_44 (dk_at dksL_law_35 5 rfl rfl)
theorem dL_law_969 : decode cL_law 969 = .ok (.aload_n 0, 1) := dk_42 (dk_at dksL_law_35 6 rfl rfl)
theorem dL_law_970 : decode cL_law 970 = .ok (.iload 4, 2) := dk_21 4 (dk_at dksL_law_35 7 rfl rfl)
theorem dL_law_972 : decode cL_law 972 = .ok (.iconst 1, 1) := dk_4 (dk_at dksL_law_35 9 rfl rfl)
theorem dL_law_973 : decode cL_law 973 = .ok (.iadd, 1) := dk_96 (dk_at dksL_law_35 10 rfl rfl)
theorem dL_law_974 : decode cL_law 974 = .ok (.iaload, 1) := dk_46 (dk_at dksL_law_35 11 rfl rfl)
theorem dL_law_975 : decode cL_law 975 = .ok (.aload_n 0, 1) := dk_42 (dk_at dksL_law_35 12 rfl rfl)
theorem dL_law_976 : decode cL_law 976 = .ok (.iload 4, 2) := dk_21 4 (dk_at dksL_law_35 13 rfl rfl)
theorem dL_law_978 : decode cL_law 978 = .ok (.iconst 2, 1) := dk_5 (dk_at dksL_law_35 15 rfl rfl)
theorem dL_law_979 : decode cL_law 979 = .ok (.iadd, 1) := dk_96 (dk_at dksL_law_35 16 rfl rfl)
theorem dL_law_980 : decode cL_law 980 = .ok (.iaload, 1) := dk_46 (dk_at dksL_law_35 17 rfl rfl)
theorem dL_law_981 : decode cL_law 981 = .ok (.invokevirtual 137, 3) := dk_182 0 137 (dk_at dksL_law_35 18 rfl rfl)
theorem dL_law_984 : decode cL_law 984 = .ok (.istore 6, 2) := dk_54 6 (dk_at dksL_law_35 21 rfl rfl)
theorem dL_law_986 : decode cL_law 986 = .ok (.aload_n 2, 1) := dk_44 (dk_at dksL_law_35 23 rfl rfl)
theorem dL_law_987 : decode cL_law 987 = .ok (.invokevirtual 54, 3) := dk_182 0 54 (dk_at dksL_law_36 0 rfl rfl)
theorem dL_law_990 : decode cL_law 990 = .ok (.iload 5, 2) := dk_21 5 (dk_at dksL_law_36 3 rfl rfl)
theorem dL_law_992 : decode cL_law 992 = .ok (.if_icmp .eq 5, 3) := dk_159 0 5 (dk_at dksL_law_36 5 rfl rfl)
theorem dL_law_995 : decode cL_law 995 = .ok (.iconst 0, 1) := dk_3 (dk_at dksL_law_36 8 rfl rfl)
theorem dL_law_996 : decode cL_law 996 = .ok (.ireturn, 1) := dk_172 (dk_at dksL_law_36 9 rfl rfl)
theorem dL_law_997 : decode cL_law 997 = .ok (.iload 5, 2) := dk_21 5 (dk_at dksL_law_36 10 rfl rfl)
theorem dL_law_999 : decode cL_law 999 = .ok (.ifCond .ne 15, 3) := dk_154 0 15 (dk_at dksL_law_36 12 rfl rfl)
theorem dL_law_1002 : decode cL_law 1002 = .ok (.aload_n 3, 1) := dk_45 (dk_at dksL_law_36 15 rfl rfl)
theorem dL_law_1003 : decode cL_law 1003 = .ok (.iconst 0, 1) := dk_3 (dk_at dksL_law_36 16 rfl rfl)
theorem dL_law_1004 : decode cL_law 1004 = .ok (.laload, 1) := dk_47 (dk_at dksL_law_36 17 rfl rfl)
theorem dL_law_1005 : decode cL_law 1005 = .ok (.iload 6, 2) := dk_21 6 (dk_at dksL_law_36 18 rfl rfl)
theorem dL_law_1007 : decode cL_law 1007 = .ok (.i2l, 1) := dk_133 (dk_at dksL_law_36 20 rfl rfl)
theorem dL_law_1008 : decode cL_law 1008 = .ok (.lcmp, 1) := dk_148 (dk_at dksL_law_36 21 rfl rfl)
theorem dL_law_1009 : decode cL_law 1009 = .ok (.ifCond .eq 5, 3) := dk_153 0 5 (dk_at dksL_law_37 0 rfl rfl)
theorem dL_law_1012 : decode cL_law 1012 = .ok (.iconst 0, 1) := dk_3 (dk_at dksL_law_37 3 rfl rfl)
theorem dL_law_1013 : decode cL_law 1013 = .ok (.ireturn, 1) := dk_172 (dk_at dksL_law_37 4 rfl rfl)
theorem dL_law_1014 : decode cL_law 1014 = .ok (.goto 340, 3) := dk_167 1 84 (dk_at dksL_law_37 5 rfl rfl)
theorem dL_law_1017 : decode cL_law 1017 = .ok (.aload_n 1, 1) := dk_43 (dk_at dksL_law_37 8 rfl rfl)
theorem dL_law_1018 : decode cL_law 1018 = .ok (.aload_n 0, 1) := dk_42 (dk_at dksL_law_37 9 rfl rfl)
theorem dL_law_1019 : decode cL_law 1019 = .ok (.iload 4, 2) := dk_21 4 (dk_at dksL_law_37 10 rfl rfl)
theorem dL_law_1021 : decode cL_law 1021 = .ok (.iconst 1, 1) := dk_4 (dk_at dksL_law_37 12 rfl rfl)
theorem dL_law_1022 : decode cL_law 1022 = .ok (.iadd, 1) := dk_96 (dk_at dksL_law_37 13 rfl rfl)
theorem dL_law_1023 : decode cL_law 1023 = .ok (.iaload, 1) := dk_46 (dk_at dksL_law_37 14 rfl rfl)
theorem dL_law_1024 : decode cL_law 1024 = .ok (.aload_n 0, 1) := dk_42 (dk_at dksL_law_37 15 rfl rfl)
theorem dL_law_1025 : decode cL_law 1025 = .ok (.iload 4, 2) := dk_21 4 (dk_at dksL_law_37 16 rfl rfl)
theorem dL_law_1027 : decode cL_law 1027 = .ok (.iconst 2, 1) := dk_5 (dk_at dksL_law_37 18 rfl rfl)
theorem dL_law_1028 : decode cL_law 1028 = .ok (.iadd, 1) := dk_96 (dk_at dksL_law_37 19 rfl rfl)
theorem dL_law_1029 : decode cL_law 1029 = .ok (.iaload, 1) := dk_46 (dk_at dksL_law_37 20 rfl rfl)
theorem dL_law_1030 : decode cL_law 1030 = .ok (.invokevirtual 138, 3) := dk_182 0 138 (dk_at dksL_law_37 21 rfl rfl)
theorem dL_law_1033 : decode cL_law 1033 = .ok (.aload_n 2, 1) := dk_44 (dk_at dksL_law_38 0 rfl rfl)
theorem dL_law_1034 : decode cL_law 1034 = .ok (.aload_n 0, 1) := dk_42 (dk_at dksL_law_38 1 rfl rfl)
theorem dL_law_1035 : decode cL_law 1035 = .ok (.iload 4, 2) := dk_21 4 (dk_at dksL_law_38 2 rfl rfl)
theorem dL_law_1037 : decode cL_law 1037 = .ok (.iconst 1, 1) := dk_4 (dk_at dksL_law_38 4 rfl rfl)
theorem dL_law_1038 : decode cL_law 1038 = .ok (.iadd, 1) := dk_96 (dk_at dksL_law_38 5 rfl rfl)
theorem dL_law_1039 : decode cL_law 1039 = .ok (.iaload, 1) := dk_46 (dk_at dksL_law_38 6 rfl rfl)
theorem dL_law_1040 : decode cL_law 1040 = .ok (.aload_n 0, 1) := dk_42 (dk_at dksL_law_38 7 rfl rfl)
theorem dL_law_1041 : decode cL_law 1041 = .ok (.iload 4, 2) := dk_21 4 (dk_at dksL_law_38 8 rfl rfl)
theorem dL_law_1043 : decode cL_law 1043 = .ok (.iconst 2, 1) := dk_5 (dk_at dksL_law_38 10 rfl rfl)
theorem dL_law_1044 : decode cL_law 1044 = .ok (.iadd, 1) := dk_96 (dk_at dksL_law_38 11 rfl rfl)
theorem dL_law_1045 : decode cL_law 1045 = .ok (.iaload, 1) := dk_46 (dk_at dksL_law_38 12 rfl rfl)
theorem dL_law_1046 : decode cL_law 1046 = .ok (.invokevirtual 141, 3) := dk_182 0 141 (dk_at dksL_law_38 13 rfl rfl)
theorem dL_law_1049 : decode cL_law 1049 = .ok (.if_icmp .eq 305, 3) := dk_159 1 49 (dk_at dksL_law_38 16 rfl rfl)
theorem dL_law_1052 : decode cL_law 1052 = .ok (.iconst 0, 1) := dk_3 (dk_at dksL_law_38 19 rfl rfl)
theorem dL_law_1053 : decode cL_law 1053 = .ok (.ireturn, 1) := dk_172 (dk_at dksL_law_38 20 rfl rfl)
theorem dL_law_1054 : decode cL_law 1054 = .ok (.aload_n 1, 1) := dk_43 (dk_at dksL_law_38 21 rfl rfl)
theorem dL_law_1055 : decode cL_law 1055 = .ok (.aload_n 0, 1) := dk_42 (dk_at dksL_law_38 22 rfl rfl)
theorem dL_law_1056 : decode cL_law 1056 = .ok (.iload 4, 2) := dk_21 4 (dk_at dksL_law_39 0 rfl rfl)
theorem dL_law_1058 : decode cL_law 1058 = .ok (.iconst 1, 1) := dk_4 (dk_at dksL_law_39 2 rfl rfl)
theorem dL_law_1059 : decode cL_law 1059 = .ok (.iadd, 1) := dk_96 (dk_at dksL_law_39 3 rfl rfl)
theorem dL_law_1060 : decode cL_law 1060 = .ok (.iaload, 1) := dk_46 (dk_at dksL_law_39 4 rfl rfl)
theorem dL_law_1061 : decode cL_law 1061 = .ok (.invokevirtual 142, 3) := dk_182 0 142 (dk_at dksL_law_39 5 rfl rfl)
theorem dL_law_1064 : decode cL_law 1064 = .ok (.aload_n 2, 1) := dk_44 (dk_at dksL_law_39 8 rfl rfl)
theorem dL_law_1065 : decode cL_law 1065 = .ok (.aload_n 0, 1) := dk_42 (dk_at dksL_law_39 9 rfl rfl)
theorem dL_law_1066 : decode cL_law 1066 = .ok (.iload 4, 2) := dk_21 4 (dk_at dksL_law_39 10 rfl rfl)
theorem dL_law_1068 : decode cL_law 1068 = .ok (.iconst 1, 1) := dk_4 (dk_at dksL_law_39 12 rfl rfl)
theorem dL_law_1069 : decode cL_law 1069 = .ok (.iadd, 1) := dk_96 (dk_at dksL_law_39 13 rfl rfl)
theorem dL_law_1070 : decode cL_law 1070 = .ok (.iaload, 1) := dk_46 (dk_at dksL_law_39 14 rfl rfl)
theorem dL_law_1071 : decode cL_law 1071 = .ok (.invokevirtual 145, 3) := dk_182 0 145 (dk_at dksL_law_39 15 rfl rfl)
theorem dL_law_1074 : decode cL_law 1074 = .ok (.if_icmp .eq 280, 3) := dk_159 1 24 (dk_at dksL_law_39 18 rfl rfl)
theorem dL_law_1077 : decode cL_law 1077 = .ok (.iconst 0, 1) := dk_3 (dk_at dksL_law_39 21 rfl rfl)
theorem dL_law_1078 : decode cL_law 1078 = .ok (.ireturn, 1) := dk_172 (dk_at dksL_law_39 22 rfl rfl)
theorem dL_law_1079 : decode cL_law 1079 = .ok (.aload_n 1, 1) := dk_43 (dk_at dksL_law_39 23 rfl rfl)
theorem dL_law_1080 : decode cL_law 1080 = .ok (.invokevirtual 146, 3) := dk_182 0 146 (dk_at dksL_law_40 0 rfl rfl)
theorem dL_law_1083 : decode cL_law 1083 = .ok (.aload_n 2, 1) := dk_44 (dk_at dksL_law_40 3 rfl rfl)
theorem dL_law_1084 : decode cL_law 1084 = .ok (.invokevirtual 149, 3) := dk_182 0 149 (dk_at dksL_law_40 4 rfl rfl)
theorem dL_law_1087 : decode cL_law 1087 = .ok (.if_icmp .eq 267, 3) := dk_159 1 11 (dk_at dksL_law_40 7 rfl rfl)
theorem dL_law_1090 : decode cL_law 1090 = .ok (.iconst 0, 1) := dk_3 (dk_at dksL_law_40 10 rfl rfl)
theorem dL_law_1091 : decode cL_law 1091 = .ok (.ireturn, 1) := dk_172 (dk_at dksL_law_40 11 rfl rfl)
theorem dL_law_1092 : decode cL_law 1092 = .ok (.aload_n 1, 1) := dk_43 (dk_at dksL_law_40 12 rfl rfl)
theorem dL_law_1093 : decode cL_law 1093 = .ok (.aload_n 0, 1) := dk_42 (dk_at dksL_law_40 13 rfl rfl)
theorem dL_law_1094 : decode cL_law 1094 = .ok (.iload 4, 2) := dk_21 4 (dk_at dksL_law_40 14 rfl rfl)
theorem dL_law_1096 : decode cL_law 1096 = .ok (.iconst 1, 1) := dk_4 (dk_at dksL_law_40 16 rfl rfl)
theorem dL_law_1097 : decode cL_law 1097 = .ok (.iadd, 1) := dk_96 (dk_at dksL_law_40 17 rfl rfl)
theorem dL_law_1098 : decode cL_law 1098 = .ok (.iaload, 1) := dk_46 (dk_at dksL_law_40 18 rfl rfl)
theorem dL_law_1099 : decode cL_law 1099 = .ok (.invokevirtual 150, 3) := dk_182 0 150 (dk_at dksL_law_40 19 rfl rfl)
theorem dL_law_1102 : decode cL_law 1102 = .ok (.aload_n 2, 1) := dk_44 (dk_at dksL_law_40 22 rfl rfl)
theorem dL_law_1103 : decode cL_law 1103 = .ok (.aload_n 0, 1) := dk_42 (dk_at dksL_law_40 23 rfl rfl)
theorem dL_law_1104 : decode cL_law 1104 = .ok (.iload 4, 2) := dk_21 4 (dk_at dksL_law_41 0 rfl rfl)
theorem dL_law_1106 : decode cL_law 1106 = .ok (.iconst 1, 1) := dk_4 (dk_at dksL_law_41 2 rfl rfl)
theorem dL_law_1107 : decode cL_law 1107 = .ok (.iadd, 1) := dk_96 (dk_at dksL_law_41 3 rfl rfl)
theorem dL_law_1108 : decode cL_law 1108 = .ok (.iaload, 1) := dk_46 (dk_at dksL_law_41 4 rfl rfl)
theorem dL_law_1109 : decode cL_law 1109 = .ok (.invokevirtual 153, 3) := dk_182 0 153 (dk_at dksL_law_41 5 rfl rfl)
theorem dL_law_1112 : decode cL_law 1112 = .ok (.if_icmp .eq 242, 3) := dk_159 0 242 (dk_at dksL_law_41 8 rfl rfl)
theorem dL_law_1115 : decode cL_law 1115 = .ok (.iconst 0, 1) := dk_3 (dk_at dksL_law_41 11 rfl rfl)
theorem dL_law_1116 : decode cL_law 1116 = .ok (.ireturn, 1) := dk_172 (dk_at dksL_law_41 12 rfl rfl)
theorem dL_law_1117 : decode cL_law 1117 = .ok (.aload_n 1, 1) := dk_43 (dk_at dksL_law_41 13 rfl rfl)
theorem dL_law_1118 : decode cL_law 1118 = .ok (.aload_n 0, 1) := dk_42 (dk_at dksL_law_41 14 rfl rfl)
theorem dL_law_1119 : decode cL_law 1119 = .ok (.iload 4, 2) := dk_21 4 (dk_at dksL_law_41 15 rfl rfl)
theorem dL_law_1121 : decode cL_law 1121 = .ok (.iconst 1, 1) := dk_4 (dk_at dksL_law_41 17 rfl rfl)
theorem dL_law_1122 : decode cL_law 1122 = .ok (.iadd, 1) := dk_96 (dk_at dksL_law_41 18 rfl rfl)
theorem dL_law_1123 : decode cL_law 1123 = .ok (.iaload, 1) := dk_46 (dk_at dksL_law_41 19 rfl rfl)
theorem dL_law_1124 : decode cL_law 1124 = .ok (.invokevirtual 154, 3) := dk_182 0 154 (dk_at dksL_law_41 20 rfl rfl)
theorem dL_law_1127 : decode cL_law 1127 = .ok (.aload_n 2, 1) := dk_44 (dk_at dksL_law_41 23 rfl rfl)
theorem dL_law_1128 : decode cL_law 1128 = .ok (.aload_n 0, 1) := dk_42 (dk_at dksL_law_42 0 rfl rfl)
theorem dL_law_1129 : decode cL_law 1129 = .ok (.iload 4, 2) := dk_21 4 (dk_at dksL_law_42 1 rfl rfl)
theorem dL_law_1131 : decode cL_law 1131 = .ok (.iconst 1, 1) := dk_4 (dk_at dksL_law_42 3 rfl rfl)
theorem dL_law_1132 : decode cL_law 1132 = .ok (.iadd, 1) := dk_96 (dk_at dksL_law_42 4 rfl rfl)
theorem dL_law_1133 : decode cL_law 1133 = .ok (.iaload, 1) := dk_46 (dk_at dksL_law_42 5 rfl rfl)
theorem dL_law_1134 : decode cL_law 1134 = .ok (.invokevirtual 157, 3) := dk_182 0 157 (dk_at dksL_law_42 6 rfl rfl)
theorem dL_law_1137 : decode cL_law 1137 = .ok (.if_icmp .eq 217, 3) := dk_159 0 217 (dk_at dksL_law_42 9 rfl rfl)
theorem dL_law_1140 : decode cL_law 1140 = .ok (.iconst 0, 1) := dk_3 (dk_at dksL_law_42 12 rfl rfl)
theorem dL_law_1141 : decode cL_law 1141 = .ok (.ireturn, 1) := dk_172 (dk_at dksL_law_42 13 rfl rfl)
theorem dL_law_1142 : decode cL_law 1142 = .ok (.aload_n 1, 1) := dk_43 (dk_at dksL_law_42 14 rfl rfl)
theorem dL_law_1143 : decode cL_law 1143 = .ok (.aload_n 0, 1) := dk_42 (dk_at dksL_law_42 15 rfl rfl)
theorem dL_law_1144 : decode cL_law 1144 = .ok (.iload 4, 2) := dk_21 4 (dk_at dksL_law_42 16 rfl rfl)
theorem dL_law_1146 : decode cL_law 1146 = .ok (.iconst 1, 1) := dk_4 (dk_at dksL_law_42 18 rfl rfl)
theorem dL_law_1147 : decode cL_law 1147 = .ok (.iadd, 1) := dk_96 (dk_at dksL_law_42 19 rfl rfl)
theorem dL_law_1148 : decode cL_law 1148 = .ok (.iaload, 1) := dk_46 (dk_at dksL_law_42 20 rfl rfl)
theorem dL_law_1149 : decode cL_law 1149 = .ok (.invokevirtual 158, 3) := dk_182 0 158 (dk_at dksL_law_42 21 rfl rfl)
theorem dL_law_1152 : decode cL_law 1152 = .ok (.aload_n 2, 1) := dk_44 (dk_at dksL_law_43 0 rfl rfl)
theorem dL_law_1153 : decode cL_law 1153 = .ok (.aload_n 0, 1) := dk_42 (dk_at dksL_law_43 1 rfl rfl)
theorem dL_law_1154 : decode cL_law 1154 = .ok (.iload 4, 2) := dk_21 4 (dk_at dksL_law_43 2 rfl rfl)
theorem dL_law_1156 : decode cL_law 1156 = .ok (.iconst 1, 1) := dk_4 (dk_at dksL_law_43 4 rfl rfl)
theorem dL_law_1157 : decode cL_law 1157 = .ok (.iadd, 1) := dk_96 (dk_at dksL_law_43 5 rfl rfl)
theorem dL_law_1158 : decode cL_law 1158 = .ok (.iaload, 1) := dk_46 (dk_at dksL_law_43 6 rfl rfl)
theorem dL_law_1159 : decode cL_law 1159 = .ok (.invokevirtual 161, 3) := dk_182 0 161 (dk_at dksL_law_43 7 rfl rfl)
theorem dL_law_1162 : decode cL_law 1162 = .ok (.if_icmp .eq 192, 3) := dk_159 0 192 (dk_at dksL_law_43 10 rfl rfl)
theorem dL_law_1165 : decode cL_law 1165 = .ok (.iconst 0, 1) := dk_3 (dk_at dksL_law_43 13 rfl rfl)
theorem dL_law_1166 : decode cL_law 1166 = .ok (.ireturn, 1) := dk_172 (dk_at dksL_law_43 14 rfl rfl)
theorem dL_law_1167 : decode cL_law 1167 = .ok (.aload_n 1, 1) := dk_43 (dk_at dksL_law_43 15 rfl rfl)
theorem dL_law_1168 : decode cL_law 1168 = .ok (.aload_n 0, 1) := dk_42 (dk_at dksL_law_43 16 rfl rfl)
theorem dL_law_1169 : decode cL_law 1169 = .ok (.iload 4, 2) := dk_21 4 (dk_at dksL_law_43 17 rfl rfl)
theorem dL_law_1171 : decode cL_law 1171 = .ok (.iconst 1, 1) := dk_4 (dk_at dksL_law_43 19 rfl rfl)
theorem dL_law_1172 : decode cL_law 1172 = .ok (.iadd, 1) := dk_96 (dk_at dksL_law_43 20 rfl rfl)
theorem dL_law_1173 : decode cL_law 1173 = .ok (.iaload, 1) := dk_46 (dk_at dksL_law_43 21 rfl rfl)
theorem dL_law_1174 : decode cL_law 1174 = .ok (.aload_n 0, 1) := dk_42 (dk_at dksL_law_43 22 rfl rfl)
theorem dL_law_1175 : decode cL_law 1175 = .ok (.iload 4, 2) := dk_21 4 (dk_at dksL_law_44 0 rfl rfl)
theorem dL_law_1177 : decode cL_law 1177 = .ok (.iconst 2, 1) := dk_5 (dk_at dksL_law_44 2 rfl rfl)
theorem dL_law_1178 : decode cL_law 1178 = .ok (.iadd, 1) := dk_96 (dk_at dksL_law_44 3 rfl rfl)
theorem dL_law_1179 : decode cL_law 1179 = .ok (.iaload, 1) := dk_46 (dk_at dksL_law_44 4 rfl rfl)
theorem dL_law_1180 : decode cL_law 1180 = .ok (.invokevirtual 162, 3) := dk_182 0 162 (dk_at dksL_law_44 5 rfl rfl)
theorem dL_law_1183 : decode cL_law 1183 = .ok (.aload_n 2, 1) := dk_44 (dk_at dksL_law_44 8 rfl rfl)
theorem dL_law_1184 : decode cL_law 1184 = .ok (.aload_n 0, 1) := dk_42 (dk_at dksL_law_44 9 rfl rfl)
theorem dL_law_1185 : decode cL_law 1185 = .ok (.iload 4, 2) := dk_21 4 (dk_at dksL_law_44 10 rfl rfl)
theorem dL_law_1187 : decode cL_law 1187 = .ok (.iconst 1, 1) := dk_4 (dk_at dksL_law_44 12 rfl rfl)
theorem dL_law_1188 : decode cL_law 1188 = .ok (.iadd, 1) := dk_96 (dk_at dksL_law_44 13 rfl rfl)
theorem dL_law_1189 : decode cL_law 1189 = .ok (.iaload, 1) := dk_46 (dk_at dksL_law_44 14 rfl rfl)
theorem dL_law_1190 : decode cL_law 1190 = .ok (.aload_n 0, 1) := dk_42 (dk_at dksL_law_44 15 rfl rfl)
theorem dL_law_1191 : decode cL_law 1191 = .ok (.iload 4, 2) := dk_21 4 (dk_at dksL_law_44 16 rfl rfl)
theorem dL_law_1193 : decode cL_law 1193 = .ok (.iconst 2, 1) := dk_5 (dk_at dksL_law_44 18 rfl rfl)
theorem dL_law_1194 : decode cL_law 1194 = .ok (.iadd, 1) := dk_96 (dk_at dksL_law_44 19 rfl rfl)
theorem dL_law_1195 : decode cL_law 1195 = .ok (.iaload, 1) := dk_46 (dk_at dksL_law_44 20 rfl rfl)
theorem dL_law_1196 : decode cL_law 1196 = .ok (.invokevirtual 165, 3) := dk_182 0 165 (dk_at dksL_law_44 21 rfl rfl)
theorem dL_law_1199 : decode cL_law 1199 = .ok (.if_icmp .eq 155, 3) := dk_159 0 155 (dk_at dksL_law_45 0 rfl rfl)
theorem dL_law_1202 : decode cL_law 1202 = .ok (.iconst 0, 1) := dk_3 (dk_at dksL_law_45 3 rfl rfl)
theorem dL_law_1203 : decode cL_law 1203 = .ok (.ireturn, 1) := dk_172 (dk_at dksL_law_45 4 rfl rfl)
theorem dL_law_1204 : decode cL_law 1204 = .ok (.aload_n 1, 1) := dk_43 (dk_at dksL_law_45 5 rfl rfl)
theorem dL_law_1205 : decode cL_law 1205 = .ok (.aload_n 0, 1) := dk_42 (dk_at dksL_law_45 6 rfl rfl)
theorem dL_law_1206 : decode cL_law 1206 = .ok (.iload 4, 2) := dk_21 4 (dk_at dksL_law_45 7 rfl rfl)
theorem dL_law_1208 : decode cL_law 1208 = .ok (.iconst 1, 1) := dk_4 (dk_at dksL_law_45 9 rfl rfl)
theorem dL_law_1209 : decode cL_law 1209 = .ok (.iadd, 1) := dk_96 (dk_at dksL_law_45 10 rfl rfl)
theorem dL_law_1210 : decode cL_law 1210 = .ok (.iaload, 1) := dk_46 (dk_at dksL_law_45 11 rfl rfl)
theorem dL_law_1211 : decode cL_law 1211 = .ok (.invokevirtual 166, 3) := dk_182 0 166 (dk_at dksL_law_45 12 rfl rfl)
theorem dL_law_1214 : decode cL_law 1214 = .ok (.aload_n 2, 1) := dk_44 (dk_at dksL_law_45 15 rfl rfl)
theorem dL_law_1215 : decode cL_law 1215 = .ok (.aload_n 0, 1) := dk_42 (dk_at dksL_law_45 16 rfl rfl)
theorem dL_law_1216 : decode cL_law 1216 = .ok (.iload 4, 2) := dk_21 4 (dk_at dksL_law_45 17 rfl rfl)
theorem dL_law_1218 : decode cL_law 1218 = .ok (.iconst 1, 1) := dk_4 (dk_at dksL_law_45 19 rfl rfl)
theorem dL_law_1219 : decode cL_law 1219 = .ok (.iadd, 1) := dk_96 (dk_at dksL_law_45 20 rfl rfl)
theorem dL_law_1220 : decode cL_law 1220 = .ok (.iaload, 1) := dk_46 (dk_at dksL_law_45 21 rfl rfl)
theorem dL_law_1221 : decode cL_law 1221 = .ok (.invokevirtual 169, 3) := dk_182 0 169 (dk_at dksL_law_46 0 rfl rfl)
theorem dL_law_1224 : decode cL_law 1224 = .ok (.if_icmp .eq 130, 3) := dk_159 0 130 (dk_at dksL_law_46 3 rfl rfl)
theorem dL_law_1227 : decode cL_law 1227 = .ok (.iconst 0, 1) := dk_3 (dk_at dksL_law_46 6 rfl rfl)
theorem dL_law_1228 : decode cL_law 1228 = .ok (.ireturn, 1) := dk_172 (dk_at dksL_law_46 7 rfl rfl)
theorem dL_law_1229 : decode cL_law 1229 = .ok (.aload_n 1, 1) := dk_43 (dk_at dksL_law_46 8 rfl rfl)
theorem dL_law_1230 : decode cL_law 1230 = .ok (.aload_n 0, 1) := dk_42 (dk_at dksL_law_46 9 rfl rfl)
theorem dL_law_1231 : decode cL_law 1231 = .ok (.iload 4, 2) := dk_21 4 (dk_at dksL_law_46 10 rfl rfl)
theorem dL_law_1233 : decode cL_law 1233 = .ok (.iconst 1, 1) := dk_4 (dk_at dksL_law_46 12 rfl rfl)
theorem dL_law_1234 : decode cL_law 1234 = .ok (.iadd, 1) := dk_96 (dk_at dksL_law_46 13 rfl rfl)
theorem dL_law_1235 : decode cL_law 1235 = .ok (.iaload, 1) := dk_46 (dk_at dksL_law_46 14 rfl rfl)
theorem dL_law_1236 : decode cL_law 1236 = .ok (.invokevirtual 170, 3) := dk_182 0 170 (dk_at dksL_law_46 15 rfl rfl)
theorem dL_law_1239 : decode cL_law 1239 = .ok (.aload_n 2, 1) := dk_44 (dk_at dksL_law_46 18 rfl rfl)
theorem dL_law_1240 : decode cL_law 1240 = .ok (.aload_n 0, 1) := dk_42 (dk_at dksL_law_46 19 rfl rfl)
theorem dL_law_1241 : decode cL_law 1241 = .ok (.iload 4, 2) := dk_21 4 (dk_at dksL_law_46 20 rfl rfl)
theorem dL_law_1243 : decode cL_law 1243 = .ok (.iconst 1, 1) := dk_4 (dk_at dksL_law_46 22 rfl rfl)
theorem dL_law_1244 : decode cL_law 1244 = .ok (.iadd, 1) := dk_96 (dk_at dksL_law_46 23 rfl rfl)
theorem dL_law_1245 : decode cL_law 1245 = .ok (.iaload, 1) := dk_46 (dk_at dksL_law_47 0 rfl rfl)
theorem dL_law_1246 : decode cL_law 1246 = .ok (.invokevirtual 173, 3) := dk_182 0 173 (dk_at dksL_law_47 1 rfl rfl)
theorem dL_law_1249 : decode cL_law 1249 = .ok (.if_icmp .eq 105, 3) := dk_159 0 105 (dk_at dksL_law_47 4 rfl rfl)
theorem dL_law_1252 : decode cL_law 1252 = .ok (.iconst 0, 1) := dk_3 (dk_at dksL_law_47 7 rfl rfl)
theorem dL_law_1253 : decode cL_law 1253 = .ok (.ireturn, 1) := dk_172 (dk_at dksL_law_47 8 rfl rfl)
theorem dL_law_1254 : decode cL_law 1254 = .ok (.aload_n 1, 1) := dk_43 (dk_at dksL_law_47 9 rfl rfl)
theorem dL_law_1255 : decode cL_law 1255 = .ok (.aload_n 0, 1) := dk_42 (dk_at dksL_law_47 10 rfl rfl)
theorem dL_law_1256 : decode cL_law 1256 = .ok (.iload 4, 2) := dk_21 4 (dk_at dksL_law_47 11 rfl rfl)
theorem dL_law_1258 : decode cL_law 1258 = .ok (.iconst 1, 1) := dk_4 (dk_at dksL_law_47 13 rfl rfl)
theorem dL_law_1259 : decode cL_law 1259 = .ok (.iadd, 1) := dk_96 (dk_at dksL_law_47 14 rfl rfl)
theorem dL_law_1260 : decode cL_law 1260 = .ok (.iaload, 1) := dk_46 (dk_at dksL_law_47 15 rfl rfl)
theorem dL_law_1261 : decode cL_law 1261 = .ok (.aload_n 0, 1) := dk_42 (dk_at dksL_law_47 16 rfl rfl)
theorem dL_law_1262 : decode cL_law 1262 = .ok (.iload 4, 2) := dk_21 4 (dk_at dksL_law_47 17 rfl rfl)
theorem dL_law_1264 : decode cL_law 1264 = .ok (.iconst 2, 1) := dk_5 (dk_at dksL_law_47 19 rfl rfl)
theorem dL_law_1265 : decode cL_law 1265 = .ok (.iadd, 1) := dk_96 (dk_at dksL_law_47 20 rfl rfl)
theorem dL_law_1266 : decode cL_law 1266 = .ok (.iaload, 1) := dk_46 (dk_at dksL_law_47 21 rfl rfl)
theorem dL_law_1267 : decode cL_law 1267 = .ok (.invokevirtual 174, 3) := dk_182 0 174 (dk_at dksL_law_48 0 rfl rfl)
theorem dL_law_1270 : decode cL_law 1270 = .ok (.aload_n 2, 1) := dk_44 (dk_at dksL_law_48 3 rfl rfl)
theorem dL_law_1271 : decode cL_law 1271 = .ok (.aload_n 0, 1) := dk_42 (dk_at dksL_law_48 4 rfl rfl)
theorem dL_law_1272 : decode cL_law 1272 = .ok (.iload 4, 2) := dk_21 4 (dk_at dksL_law_48 5 rfl rfl)
theorem dL_law_1274 : decode cL_law 1274 = .ok (.iconst 1, 1) := dk_4 (dk_at dksL_law_48 7 rfl rfl)
theorem dL_law_1275 : decode cL_law 1275 = .ok (.iadd, 1) := dk_96 (dk_at dksL_law_48 8 rfl rfl)
theorem dL_law_1276 : decode cL_law 1276 = .ok (.iaload, 1) := dk_46 (dk_at dksL_law_48 9 rfl rfl)
theorem dL_law_1277 : decode cL_law 1277 = .ok (.aload_n 0, 1) := dk_42 (dk_at dksL_law_48 10 rfl rfl)
theorem dL_law_1278 : decode cL_law 1278 = .ok (.iload 4, 2) := dk_21 4 (dk_at dksL_law_48 11 rfl rfl)
theorem dL_law_1280 : decode cL_law 1280 = .ok (.iconst 2, 1) := dk_5 (dk_at dksL_law_48 13 rfl rfl)
theorem dL_law_1281 : decode cL_law 1281 = .ok (.iadd, 1) := dk_96 (dk_at dksL_law_48 14 rfl rfl)
theorem dL_law_1282 : decode cL_law 1282 = .ok (.iaload, 1) := dk_46 (dk_at dksL_law_48 15 rfl rfl)
theorem dL_law_1283 : decode cL_law 1283 = .ok (.invokevirtual 177, 3) := dk_182 0 177 (dk_at dksL_law_48 16 rfl rfl)
theorem dL_law_1286 : decode cL_law 1286 = .ok (.if_icmp .eq 68, 3) := dk_159 0 68 (dk_at dksL_law_48 19 rfl rfl)
theorem dL_law_1289 : decode cL_law 1289 = .ok (.iconst 0, 1) := dk_3 (dk_at dksL_law_48 22 rfl rfl)
theorem dL_law_1290 : decode cL_law 1290 = .ok (.ireturn, 1) := dk_172 (dk_at dksL_law_48 23 rfl rfl)
theorem dL_law_1291 : decode cL_law 1291 = .ok (.aload_n 1, 1) := dk_43 (dk_at dksL_law_49 0 rfl rfl)
theorem dL_law_1292 : decode cL_law 1292 = .ok (.invokevirtual 178, 3) := dk_182 0 178 (dk_at dksL_law_49 1 rfl rfl)
theorem dL_law_1295 : decode cL_law 1295 = .ok (.aload_n 2, 1) := dk_44 (dk_at dksL_law_49 4 rfl rfl)
theorem dL_law_1296 : decode cL_law 1296 = .ok (.invokevirtual 181, 3) := dk_182 0 181 (dk_at dksL_law_49 5 rfl rfl)
theorem dL_law_1299 : decode cL_law 1299 = .ok (.if_icmp .eq 55, 3) := dk_159 0 55 (dk_at dksL_law_49 8 rfl rfl)
theorem dL_law_1302 : decode cL_law 1302 = .ok (.iconst 0, 1) := dk_3 (dk_at dksL_law_49 11 rfl rfl)
theorem dL_law_1303 : decode cL_law 1303 = .ok (.ireturn, 1) := dk_172 (dk_at dksL_law_49 12 rfl rfl)
theorem dL_law_1304 : decode cL_law 1304 = .ok (.aload_n 1, 1) := dk_43 (dk_at dksL_law_49 13 rfl rfl)
theorem dL_law_1305 : decode cL_law 1305 = .ok (.aload_n 0, 1) := dk_42 (dk_at dksL_law_49 14 rfl rfl)
theorem dL_law_1306 : decode cL_law 1306 = .ok (.iload 4, 2) := dk_21 4 (dk_at dksL_law_49 15 rfl rfl)
theorem dL_law_1308 : decode cL_law 1308 = .ok (.iconst 1, 1) := dk_4 (dk_at dksL_law_49 17 rfl rfl)
theorem dL_law_1309 : decode cL_law 1309 = .ok (.iadd, 1) := dk_96 (dk_at dksL_law_49 18 rfl rfl)
theorem dL_law_1310 : decode cL_law 1310 = .ok (.iaload, 1) := dk_46 (dk_at dksL_law_49 19 rfl rfl)
theorem dL_law_1311 : decode cL_law 1311 = .ok (.invokevirtual 182, 3) := dk_182 0 182 (dk_at dksL_law_49 20 rfl rfl)
theorem dL_law_1314 : decode cL_law 1314 = .ok (.aload_n 2, 1) := dk_44 (dk_at dksL_law_49 23 rfl rfl)
theorem dL_law_1315 : decode cL_law 1315 = .ok (.aload_n 0, 1) := dk_42 (dk_at dksL_law_50 0 rfl rfl)
theorem dL_law_1316 : decode cL_law 1316 = .ok (.iload 4, 2) := dk_21 4 (dk_at dksL_law_50 1 rfl rfl)
theorem dL_law_1318 : decode cL_law 1318 = .ok (.iconst 1, 1) := dk_4 (dk_at dksL_law_50 3 rfl rfl)
theorem dL_law_1319 : decode cL_law 1319 = .ok (.iadd, 1) := dk_96 (dk_at dksL_law_50 4 rfl rfl)
theorem dL_law_1320 : decode cL_law 1320 = .ok (.iaload, 1) := dk_46 (dk_at dksL_law_50 5 rfl rfl)
theorem dL_law_1321 : decode cL_law 1321 = .ok (.invokevirtual 185, 3) := dk_182 0 185 (dk_at dksL_law_50 6 rfl rfl)
theorem dL_law_1324 : decode cL_law 1324 = .ok (.if_icmp .eq 30, 3) := dk_159 0 30 (dk_at dksL_law_50 9 rfl rfl)
theorem dL_law_1327 : decode cL_law 1327 = .ok (.iconst 0, 1) := dk_3 (dk_at dksL_law_50 12 rfl rfl)
theorem dL_law_1328 : decode cL_law 1328 = .ok (.ireturn, 1) := dk_172 (dk_at dksL_law_50 13 rfl rfl)
theorem dL_law_1329 : decode cL_law 1329 = .ok (.aload_n 1, 1) := dk_43 (dk_at dksL_law_50 14 rfl rfl)
theorem dL_law_1330 : decode cL_law 1330 = .ok (.aload_n 0, 1) := dk_42 (dk_at dksL_law_50 15 rfl rfl)
theorem dL_law_1331 : decode cL_law 1331 = .ok (.iload 4, 2) := dk_21 4 (dk_at dksL_law_50 16 rfl rfl)
theorem dL_law_1333 : decode cL_law 1333 = .ok (.iconst 1, 1) := dk_4 (dk_at dksL_law_50 18 rfl rfl)
theorem dL_law_1334 : decode cL_law 1334 = .ok (.iadd, 1) := dk_96 (dk_at dksL_law_50 19 rfl rfl)
theorem dL_law_1335 : decode cL_law 1335 = .ok (.iaload, 1) := dk_46 (dk_at dksL_law_50 20 rfl rfl)
theorem dL_law_1336 : decode cL_law 1336 = .ok (.invokevirtual 186, 3) := dk_182 0 186 (dk_at dksL_law_50 21 rfl rfl)
theorem dL_law_1339 : decode cL_law 1339 = .ok (.aload_n 2, 1) := dk_44 (dk_at dksL_law_51 0 rfl rfl)
theorem dL_law_1340 : decode cL_law 1340 = .ok (.aload_n 0, 1) := dk_42 (dk_at dksL_law_51 1 rfl rfl)
theorem dL_law_1341 : decode cL_law 1341 = .ok (.iload 4, 2) := dk_21 4 (dk_at dksL_law_51 2 rfl rfl)
theorem dL_law_1343 : decode cL_law 1343 = .ok (.iconst 1, 1) := dk_4 (dk_at dksL_law_51 4 rfl rfl)
theorem dL_law_1344 : decode cL_law 1344 = .ok (.iadd, 1) := dk_96 (dk_at dksL_law_51 5 rfl rfl)
theorem dL_law_1345 : decode cL_law 1345 = .ok (.iaload, 1) := dk_46 (dk_at dksL_law_51 6 rfl rfl)
theorem dL_law_1346 : decode cL_law 1346 = .ok (.invokevirtual 189, 3) := dk_182 0 189 (dk_at dksL_law_51 7 rfl rfl)
theorem dL_law_1349 : decode cL_law 1349 = .ok (.if_icmp .eq 5, 3) := dk_159 0 5 (dk_at dksL_law_51 10 rfl rfl)
theorem dL_law_1352 : decode cL_law 1352 = .ok (.iconst 0, 1) := dk_3 (dk_at dksL_law_51 13 rfl rfl)
theorem dL_law_1353 : decode cL_law 1353 = .ok (.ireturn, 1) := dk_172 (dk_at dksL_law_51 14 rfl rfl)
theorem dL_law_1354 : decode cL_law 1354 = .ok (.iinc 4 6, 3) := dk_132 4 6 (dk_at dksL_law_51 15 rfl rfl)
theorem dL_law_1357 : decode cL_law 1357 = .ok (.goto (-1334), 3) := dk_167 250 202 (dk_at dksL_law_51 18 rfl rfl)
theorem dL_law_1360 : decode cL_law 1360 = .ok (.iconst 1, 1) := dk_4 (dk_at dksL_law_51 21 rfl rfl)
theorem dL_law_1361 : decode cL_law 1361 = .ok (.ireturn, 1) := dk_172 (dk_at dksL_law_51 22 rfl rfl)
def yL_law : MethodName := ⟨RX0, "law", "([I)Z"⟩
