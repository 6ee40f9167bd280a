/-! methods: names, decode rows: by program out of claim/names -/
set_option maxRecDepth 100000
abbrev cX7_init : ByteArray := prog_14_method_1_code
def yX7_init : MethodName := ⟨RX7, "<init>", "()V"⟩
def dkwX7_init_20 : List UInt8 := [188, 10, 181, 0, 181, 42, 16, 6, 188, 10, 181, 0, 184, 42, 16, 60, 188, 4, 181, 0, 187, 177]
abbrev dktX7_init_20 : List UInt8 := dkwX7_init_20 ++ []
def dkwX7_init_19 : List UInt8 := [181, 0, 172, 42, 16, 8, 188, 10, 181, 0, 175, 42, 17, 2, 208, 188, 10, 181, 0, 178, 42, 16, 6]
abbrev dktX7_init_19 : List UInt8 := dkwX7_init_19 ++ dktX7_init_20
def dkwX7_init_18 : List UInt8 := [17, 1, 0, 188, 10, 181, 0, 166, 42, 17, 1, 0, 188, 4, 181, 0, 169, 42, 17, 2, 208, 188, 10]
abbrev dktX7_init_18 : List UInt8 := dkwX7_init_18 ++ dktX7_init_19
def dkwX7_init_17 : List UInt8 := [188, 10, 181, 0, 157, 42, 7, 188, 10, 181, 0, 160, 42, 17, 1, 0, 188, 10, 181, 0, 163, 42]
abbrev dktX7_init_17 : List UInt8 := dkwX7_init_17 ++ dktX7_init_18
def dkwX7_init_16 : List UInt8 := [181, 0, 148, 42, 17, 0, 200, 188, 10, 181, 0, 151, 42, 17, 0, 200, 188, 10, 181, 0, 154, 42, 7]
abbrev dktX7_init_16 : List UInt8 := dkwX7_init_16 ++ dktX7_init_17
def dkwX7_init_15 : List UInt8 := [181, 0, 139, 42, 16, 16, 188, 10, 181, 0, 142, 42, 16, 16, 188, 10, 181, 0, 145, 42, 16, 12, 188, 11]
abbrev dktX7_init_15 : List UInt8 := dkwX7_init_15 ++ dktX7_init_16
def dkwX7_init_14 : List UInt8 := [181, 0, 130, 42, 5, 188, 10, 181, 0, 133, 42, 16, 16, 188, 10, 181, 0, 136, 42, 16, 16, 188, 10]
abbrev dktX7_init_14 : List UInt8 := dkwX7_init_14 ++ dktX7_init_15
def dkwX7_init_13 : List UInt8 := [181, 0, 121, 42, 16, 12, 188, 10, 181, 0, 124, 42, 16, 12, 188, 10, 181, 0, 127, 42, 16, 6, 188, 10]
abbrev dktX7_init_13 : List UInt8 := dkwX7_init_13 ++ dktX7_init_14
def dkwX7_init_12 : List UInt8 := [181, 0, 112, 42, 16, 100, 188, 10, 181, 0, 115, 42, 16, 100, 188, 10, 181, 0, 118, 42, 5, 188, 10]
abbrev dktX7_init_12 : List UInt8 := dkwX7_init_12 ++ dktX7_init_13
def dkwX7_init_11 : List UInt8 := [181, 0, 102, 42, 6, 188, 10, 181, 0, 105, 42, 16, 10, 188, 11, 181, 0, 108, 42, 16, 100, 188, 10]
abbrev dktX7_init_11 : List UInt8 := dkwX7_init_11 ++ dktX7_init_12
def dkwX7_init_10 : List UInt8 := [42, 16, 60, 188, 10, 181, 0, 96, 42, 16, 40, 188, 10, 181, 0, 99, 42, 17, 2, 208, 188, 10]
abbrev dktX7_init_10 : List UInt8 := dkwX7_init_10 ++ dktX7_init_11
def dkwX7_init_9 : List UInt8 := [42, 6, 188, 10, 181, 0, 87, 42, 16, 40, 188, 10, 181, 0, 90, 42, 17, 3, 32, 188, 10, 181, 0, 93]
abbrev dktX7_init_9 : List UInt8 := dkwX7_init_9 ++ dktX7_init_10
def dkwX7_init_8 : List UInt8 := [181, 0, 75, 42, 6, 188, 10, 181, 0, 78, 42, 6, 188, 10, 181, 0, 81, 42, 6, 188, 10, 181, 0, 84]
abbrev dktX7_init_8 : List UInt8 := dkwX7_init_8 ++ dktX7_init_9
def dkwX7_init_7 : List UInt8 := [181, 0, 66, 42, 16, 12, 188, 10, 181, 0, 69, 42, 17, 9, 96, 188, 10, 181, 0, 72, 42, 6, 188, 10]
abbrev dktX7_init_7 : List UInt8 := dkwX7_init_7 ++ dktX7_init_8
def dkwX7_init_6 : List UInt8 := [181, 0, 57, 42, 6, 188, 10, 181, 0, 60, 42, 6, 188, 10, 181, 0, 63, 42, 17, 8, 112, 188, 10]
abbrev dktX7_init_6 : List UInt8 := dkwX7_init_6 ++ dktX7_init_7
def dkwX7_init_5 : List UInt8 := [181, 0, 48, 42, 17, 0, 217, 188, 10, 181, 0, 51, 42, 7, 188, 4, 181, 0, 54, 42, 6, 188, 10]
abbrev dktX7_init_5 : List UInt8 := dkwX7_init_5 ++ dktX7_init_6
def dkwX7_init_4 : List UInt8 := [17, 0, 217, 188, 10, 181, 0, 42, 42, 17, 0, 217, 188, 10, 181, 0, 45, 42, 17, 0, 217, 188, 10]
abbrev dktX7_init_4 : List UInt8 := dkwX7_init_4 ++ dktX7_init_5
def dkwX7_init_3 : List UInt8 := [188, 4, 181, 0, 32, 42, 17, 3, 32, 188, 10, 181, 0, 36, 42, 16, 96, 188, 10, 181, 0, 39, 42]
abbrev dktX7_init_3 : List UInt8 := dkwX7_init_3 ++ dktX7_init_4
def dkwX7_init_2 : List UInt8 := [181, 0, 23, 42, 16, 10, 188, 10, 181, 0, 26, 42, 17, 0, 217, 188, 10, 181, 0, 29, 42, 16, 8]
abbrev dktX7_init_2 : List UInt8 := dkwX7_init_2 ++ dktX7_init_3
def dkwX7_init_1 : List UInt8 := [16, 8, 188, 10, 181, 0, 17, 42, 17, 2, 88, 188, 10, 181, 0, 20, 42, 17, 2, 88, 188, 10]
abbrev dktX7_init_1 : List UInt8 := dkwX7_init_1 ++ dktX7_init_2
def dkwX7_init_0 : List UInt8 := [42, 183, 0, 1, 42, 17, 2, 228, 188, 8, 181, 0, 7, 42, 17, 25, 0, 188, 10, 181, 0, 13, 42]
abbrev dktX7_init_0 : List UInt8 := dkwX7_init_0 ++ dktX7_init_1
theorem dksX7_init_0 : cX7_init.data.toList.drop 0 = dktX7_init_0 := by decide +kernel
theorem dksX7_init_1 : cX7_init.data.toList.drop 23 = dktX7_init_1 := dk_seg dksX7_init_0 23 rfl rfl
theorem dksX7_init_2 : cX7_init.data.toList.drop 45 = dktX7_init_2 := dk_seg dksX7_init_1 22 rfl rfl
theorem dksX7_init_3 : cX7_init.data.toList.drop 68 = dktX7_init_3 := dk_seg dksX7_init_2 23 rfl rfl
theorem dksX7_init_4 : cX7_init.data.toList.drop 91 = dktX7_init_4 := dk_seg dksX7_init_3 23 rfl rfl
theorem dksX7_init_5 : cX7_init.data.toList.drop 114 = dktX7_init_5 := dk_seg dksX7_init_4 23 rfl rfl
theorem dksX7_init_6 : cX7_init.data.toList.drop 137 = dktX7_init_6 := dk_seg dksX7_init_5 23 rfl rfl
theorem dksX7_init_7 : cX7_init.data.toList.drop 160 = dktX7_init_7 := dk_seg dksX7_init_6 23 rfl rfl
theorem dksX7_init_8 : cX7_init.data.toList.drop 184 = dktX7_init_8 := dk_seg dksX7_init_7 24 rfl rfl
theorem dksX7_init_9 : cX7_init.data.toList.drop 208 = dktX7_init_9 := dk_seg dksX7_init_8 24 rfl rfl
theorem dksX7_init_10 : cX7_init.data.toList.drop 232 = dktX7_init_10 := dk_seg dksX7_init_9 24 rfl rfl
theorem dksX7_init_11 : cX7_init.data.toList.drop 254 = dktX7_init_11 := dk_seg dksX7_init_10 22 rfl rfl
theorem dksX7_init_12 : cX7_init.data.toList.drop 277 = dktX7_init_12 := dk_seg dksX7_init_11 23 rfl rfl
theorem dksX7_init_13 : cX7_init.data.toList.drop 300 = dktX7_init_13 := dk_seg dksX7_init_12 23 rfl rfl
theorem dksX7_init_14 : cX7_init.data.toList.drop 324 = dktX7_init_14 := dk_seg dksX7_init_13 24 rfl rfl
theorem dksX7_init_15 : cX7_init.data.toList.drop 347 = dktX7_init_15 := dk_seg dksX7_init_14 23 rfl rfl
theorem dksX7_init_16 : cX7_init.data.toList.drop 371 = dktX7_init_16 := dk_seg dksX7_init_15 24 rfl rfl
theorem dksX7_init_17 : cX7_init.data.toList.drop 394 = dktX7_init_17 := dk_seg dksX7_init_16 23 rfl rfl
theorem dksX7_init_18 : cX7_init.data.toList.drop 416 = dktX7_init_18 := dk_seg dksX7_init_17 22 rfl rfl
theorem dksX7_init_19 : cX7_init.data.toList.drop 439 = dktX7_init_19 := dk_seg dksX7_init_18 23 rfl rfl
theorem dksX7_init_20 : cX7_init.data.toList.drop 462 = dktX7_init_20 := dk_seg dksX7_init_19 23 rfl rfl
theorem dX7_init_0 : decode cX7_init 0 = .ok (.aload_n 0, 1) := dk_42 (dk_at dksX7_init_0 0 rfl rfl)
theorem dX7_init_1 : decode cX7_init 1 = .ok (.invokespecial 1, 3) := dk_183 0 1 (dk_at dksX7_init_0 1 rfl rfl)
theorem dX7_init_4 : decode cX7_init 4 = .ok (.aload_n 0, 1) := dk_42 (dk_at dksX7_init_0 4 rfl rfl)
theorem dX7_init_5 : decode cX7_init 5 = .ok (.sipush 740, 3) := dk_17 2 228 (dk_at dksX7_init_0 5 rfl rfl)
theorem dX7_init_8 : decode cX7_init 8 = .ok (.newarray .byte, 2) := dk_188_8 (dk_at dksX7_init_0 8 rfl rfl)
theorem dX7_init_10 : decode cX7_init 10 = .ok (.putfield 7, 3) := dk_181 0 7 (dk_at dksX7_init_0 10 rfl rfl)
theorem dX7_init_13 : decode cX7_init 13 = .ok (.aload_n 0, 1) := dk_42 (dk_at dksX7_init_0 13 rfl rfl)
theorem dX7_init_14 : decode cX7_init 14 = .ok (.sipush 6400, 3) := dk_17 25 0 (dk_at dksX7_init_0 14 rfl rfl)
theorem dX7_init_17 : decode cX7_init 17 = .ok (.newarray .int, 2) := dk_188_10 (dk_at dksX7_init_0 17 rfl rfl)
theorem dX7_init_19 : decode cX7_init 19 = .ok (.putfield 13, 3) := dk_181 0 13 (dk_at dksX7_init_0 19 rfl rfl)
theorem dX7_init_22 : decode cX7_init 22 = .ok (.aload_n 0, 1) := dk_42 (dk_at dksX7_init_0 22 rfl rfl)
theorem dX7_init_23 : decode cX7_init 23 = .ok (.bipush 8, 2) := dk_16 8 (dk_at dksX7_init_1 0 rfl rfl)
theorem dX7_init_25 : decode cX7_init 25 = .ok (.newarray .int, 2) := dk_188_10 (dk_at dksX7_init_1 2 rfl rfl)
theorem dX7_init_27 : decode cX7_init 27 = .ok (.putfield 17, 3) := dk_181 0 17 (dk_at dksX7_init_1 4 rfl rfl)
theorem dX7_init_30 : decode cX7_init 30 = .ok (.aload_n 0, 1) := dk_42 (dk_at dksX7_init_1 7 rfl rfl)
theorem dX7_init_31 : decode cX7_init 31 = .ok (.sipush 600, 3) := dk_17 2 88 (dk_at dksX7_init_1 8 rfl rfl)
theorem dX7_init_34 : decode cX7_init 34 = .ok (.newarray .int, 2) := dk_188_10 (dk_at dksX7_init_1 11 rfl rfl)
theorem dX7_init_36 : decode cX7_init 36 = .ok (.putfield 20, 3) := dk_181 0 20 (dk_at dksX7_init_1 13 rfl rfl)
theorem dX7_init_39 : decode cX7_init 39 = .ok (.aload_n 0, 1) := dk_42 (dk_at dksX7_init_1 16 rfl rfl)
theorem dX7_init_40 : decode cX7_init 40 = .ok (.sipush 600, 3) := dk_17 2 88 (dk_at dksX7_init_1 17 rfl rfl)
theorem dX7_init_43 : decode cX7_init 43 = .ok (.newarray .int, 2) := dk_188_10 (dk_at dksX7_init_1 20 rfl rfl)
theorem dX7_init_45 : decode cX7_init 45 = .ok (.putfield 23, 3) := dk_181 0 23 (dk_at dksX7_init_2 0 rfl rfl)
theorem dX7_init_48 : decode cX7_init 48 = .ok (.aload_n 0, 1) := dk_42 (dk_at dksX7_init_2 3 rfl rfl)
theorem dX7_init_49 : decode cX7_init 49 = .ok (.bipush 10, 2) := dk_16 10 (dk_at dksX7_init_2 4 rfl rfl)
theorem dX7_init_51 : decode cX7_init 51 = .ok (.newarray .int, 2) := dk_188_10 (dk_at dksX7_init_2 6 rfl rfl)
theorem dX7_init_53 : decode cX7_init 53 = .ok (.putfield 26, 3) := dk_181 0 26 (dk_at dksX7_init_2 8 rfl rfl)
theorem dX7_init_56 : decode cX7_init 56 = .ok (.aload_n 0, 1) := dk_42 (dk_at dksX7_init_2 11 rfl rfl)
theorem dX7_init_57 : decode cX7_init 57 = .ok (.sipush 217, 3) := dk_17 0 217 (dk_at dksX7_init_2 12 rfl rfl)
theorem dX7_init_60 : decode cX7_init 60 = .ok (.newarray .int, 2) := dk_188_10 (dk_at dksX7_init_2 15 rfl rfl)
theorem dX7_init_62 : decode cX7_init 62 = .ok (.putfield 29, 3) := dk_181 0 29 (dk_at dksX7_init_2 17 rfl rfl)
theorem dX7_init_65 : decode cX7_init 65 = .ok (.aload_n 0, 1) := dk_42 (dk_at dksX7_init_2 20 rfl rfl)
theorem dX7_init_66 : decode cX7_init 66 = .ok (.bipush 8, 2) := dk_16 8 (dk_at dksX7_init_2 21 rfl rfl)
theorem dX7_init_68 : decode cX7_init 68 = .ok (.newarray .boolean, 2) := dk_188_4 (dk_at dksX7_init_3 0 rfl rfl)
theorem dX7_init_70 : decode cX7_init 70 = .ok (.putfield 32, 3) := dk_181 0 32 (dk_at dksX7_init_3 2 rfl rfl)
theorem dX7_init_73 : decode cX7_init 73 = .ok (.aload_n 0, 1) := dk_42 (dk_at dksX7_init_3 5 rfl rfl)
theorem dX7_init_74 : decode cX7_init 74 = .ok (.sipush 800, 3) := dk_17 3 32 (dk_at dksX7_init_3 6 rfl rfl)
theorem dX7_init_77 : decode cX7_init 77 = .ok (.newarray .int, 2) := dk_188_10 (dk_at dksX7_init_3 9 rfl rfl)
theorem dX7_init_79 : decode cX7_init 79 = .ok (.putfield 36, 3) := dk_181 0 36 (dk_at dksX7_init_3 11 rfl rfl)
theorem dX7_init_82 : decode cX7_init 82 = .ok (.aload_n 0, 1) := dk_42 (dk_at dksX7_init_3 14 rfl rfl)
theorem dX7_init_83 : decode cX7_init 83 = .ok (.bipush 96, 2) := dk_16 96 (dk_at dksX7_init_3 15 rfl rfl)
theorem dX7_init_85 : decode cX7_init 85 = .ok (.newarray .int, 2) := dk_188_10 (dk_at dksX7_init_3 17 rfl rfl)
theorem dX7_init_87 : decode cX7_init 87 = .ok (.putfield 39, 3) := dk_181 0 39 (dk_at dksX7_init_3 19 rfl rfl)
theorem dX7_init_90 : decode cX7_init 90 = .ok (.aload_n 0, 1) := dk_42 (dk_at dksX7_init_3 22 rfl rfl)
theorem dX7_init_91 : decode cX7_init 91 = .ok (.sipush 217, 3) := dk_17 0 217 (dk_at dksX7_init_4 0 rfl rfl)
theorem dX7_init_94 : decode cX7_init 94 = .ok (.newarray .int, 2) := dk_188_10 (dk_at dksX7_init_4 3 rfl rfl)
theorem dX7_init_96 : decode cX7_init 96 = .ok (.putfield 42, 3) := dk_181 0 42 (dk_at dksX7_init_4 5 rfl rfl)
theorem dX7_init_99 : decode cX7_init 99 = .ok (.aload_n 0, 1) := dk_42 (dk_at dksX7_init_4 8 rfl rfl)
theorem dX7_init_100 : decode cX7_init 100 = .ok (.sipush 217, 3) := dk_17 0 217 (dk_at dksX7_init_4 9 rfl rfl)
theorem dX7_init_103 : decode cX7_init 103 = .ok (.newarray .int, 2) := dk_188_10 (dk_at dksX7_init_4 12 rfl rfl)
theorem dX7_init_105 : decode cX7_init 105 = .ok (.putfield 45, 3) := dk_181 0 45 (dk_at dksX7_init_4 14 rfl rfl)
theorem dX7_init_108 : decode cX7_init 108 = .ok (.aload_n 0, 1) := dk_42 (dk_at dksX7_init_4 17 rfl rfl)
theorem dX7_init_109 : decode cX7_init 109 = .ok (.sipush 217, 3) := dk_17 0 217 (dk_at dksX7_init_4 18 rfl rfl)
theorem dX7_init_112 : decode cX7_init 112 = .ok (.newarray .int, 2) := dk_188_10 (dk_at dksX7_init_4 21 rfl rfl)
theorem dX7_init_114 : decode cX7_init 114 = .ok (.putfield 48, 3) := dk_181 0 48 (dk_at dksX7_init_5 0 rfl rfl)
theorem dX7_init_117 : decode cX7_init 117 = .ok (.aload_n 0, 1) := dk_42 (dk_at dksX7_init_5 3 rfl rfl)
theorem dX7_init_118 : decode cX7_init 118 = .ok (.sipush 217, 3) := dk_17 0 217 (dk_at dksX7_init_5 4 rfl rfl)
theorem dX7_init_121 : decode cX7_init 121 = .ok (.newarray .int, 2) := dk_188_10 (dk_at dksX7_init_5 7 rfl rfl)
theorem dX7_init_123 : decode cX7_init 123 = .ok (.putfield 51, 3) := dk_181 0 51 (dk_at dksX7_init_5 9 rfl rfl)
theorem dX7_init_126 : decode cX7_init 126 = .ok (.aload_n 0, 1) := dk_42 (dk_at dksX7_init_5 12 rfl rfl)
theorem dX7_init_127 : decode cX7_init 127 = .ok (.iconst 4, 1) := dk_7 (dk_at dksX7_init_5 13 rfl rfl)
theorem dX7_init_128 : decode cX7_init 128 = .ok (.newarray .boolean, 2) := dk_188_4 (dk_at dksX7_init_5 14 rfl rfl)
theorem dX7_init_130 : decode cX7_init 130 = .ok (.putfield 54, 3) := dk_181 0 54 (dk_at dksX7_init_5 16 rfl rfl)
theorem dX7_init_133 : decode cX7_init 133 = .ok (.aload_n 0, 1) := dk_42 (dk_at dksX7_init_5 19 rfl rfl)
theorem dX7_init_134 : decode cX7_init 134 = .ok (.iconst 3, 1) := dk_6 (dk_at dksX7_init_5 20 rfl rfl)
theorem dX7_init_135 : decode cX7_init 135 = .ok (.newarray .int, 2) := dk_188_10 (dk_at dksX7_init_5 21 rfl rfl)
theorem dX7_init_137 : decode cX7_init 137 = .ok (.putfield 57, 3) := dk_181 0 57 (dk_at dksX7_init_6 0 rfl rfl)
theorem dX7_init_140 : decode cX7_init 140 = .ok (.aload_n 0, 1) := dk_42 (dk_at dksX7_init_6 3 rfl rfl)
theorem dX7_init_141 : decode cX7_init 141 = .ok (.iconst 3, 1) := dk_6 (dk_at dksX7_init_6 4 rfl rfl)
theorem dX7_init_142 : decode cX7_init 142 = .ok (.newarray .int, 2) := dk_188_10 (dk_at dksX7_init_6 5 rfl rfl)
theorem dX7_init_144 : decode cX7_init 144 = .ok (.putfield 60, 3) := dk_181 0 60 (dk_at dksX7_init_6 7 rfl rfl)
theorem dX7_init_147 : decode cX7_init 147 = .ok (.aload_n 0, 1) := dk_42 (dk_at dksX7_init_6 10 rfl rfl)
theorem dX7_init_148 : decode cX7_init 148 = .ok (.iconst 3, 1) := dk_6 (dk_at dksX7_init_6 11 rfl rfl)
theorem dX7_init_149 : decode cX7_init 149 = .ok (.newarray .int, 2) := dk_188_10 (dk_at dksX7_init_6 12 rfl rfl)
theorem dX7_init_151 : decode cX7_init 151 = .ok (.putfield 63, 3) := dk_181 0 63 (dk_at dksX7_init_6 14 rfl rfl)
theorem dX7_init_154 : decode cX7_init 154 = .ok (.aload_n 0, 1) := dk_42 (dk_at dksX7_init_6 17 rfl rfl)
theorem dX7_init_155 : decode cX7_init 155 = .ok (.sipush 2160, 3) := dk_17 8 112 (dk_at dksX7_init_6 18 rfl rfl)
theorem dX7_init_158 : decode cX7_init 158 = .ok (.newarray .int, 2) := dk_188_10 (dk_at dksX7_init_6 21 rfl rfl)
theorem dX7_init_160 : decode cX7_init 160 = .ok (.putfield 66, 3) := dk_181 0 66 (dk_at dksX7_init_7 0 rfl rfl)
theorem dX7_init_163 : decode cX7_init 163 = .ok (.aload_n 0, 1) := dk_42 (dk_at dksX7_init_7 3 rfl rfl)
theorem dX7_init_164 : decode cX7_init 164 = .ok (.bipush 12, 2) := dk_16 12 (dk_at dksX7_init_7 4 rfl rfl)
theorem dX7_init_166 : decode cX7_init 166 = .ok (.newarray .int, 2) := dk_188_10 (dk_at dksX7_init_7 6 rfl rfl)
theorem dX7_init_168 : decode cX7_init 168 = .ok (.putfield 69, 3) := dk_181 0 69 (dk_at dksX7_init_7 8 rfl rfl)
theorem dX7_init_171 : decode cX7_init 171 = .ok (.aload_n 0, 1) := dk_42 (dk_at dksX7_init_7 11 rfl rfl)
theorem dX7_init_172 : decode cX7_init 172 = .ok (.sipush 2400, 3) := dk_17 9 96 (dk_at dksX7_init_7 12 rfl rfl)
theorem dX7_init_175 : decode cX7_init 175 = .ok (.newarray .int, 2) := dk_188_10 (dk_at dksX7_init_7 15 rfl rfl)
theorem dX7_init_177 : decode cX7_init 177 = .ok (.putfield 72, 3) := dk_181 0 72 (dk_at dksX7_init_7 17 rfl rfl)
theorem dX7_init_180 : decode cX7_init 180 = .ok (.aload_n 0, 1) := dk_42 (dk_at dksX7_init_7 20 rfl rfl)
theorem dX7_init_181 : decode cX7_init 181 = .ok (.iconst 3, 1) := dk_6 (dk_at dksX7_init_7 21 rfl rfl)
theorem dX7_init_182 : decode cX7_init 182 = .ok (.newarray .int, 2) := dk_188_10 (dk_at dksX7_init_7 22 rfl rfl)
theorem dX7_init_184 : decode cX7_init 184 = .ok (.putfield 75, 3) := dk_181 0 75 (dk_at dksX7_init_8 0 rfl rfl)
theorem dX7_init_187 : decode cX7_init 187 = .ok (.aload_n 0, 1) := dk_42 (dk_at dksX7_init_8 3 rfl rfl)
theorem dX7_init_188 : decode cX7_init 188 = .ok (.iconst 3, 1) := dk_6 (dk_at dksX7_init_8 4 rfl rfl)
theorem dX7_init_189 : decode cX7_init 189 = .ok (.newarray .int, 2) := dk_188_10 (dk_at dksX7_init_8 5 rfl rfl)
theorem dX7_init_191 : decode cX7_init 191 = .ok (.putfield 78, 3) := dk_181 0 78 (dk_at dksX7_init_8 7 rfl rfl)
theorem dX7_init_194 : decode cX7_init 194 = .ok (.aload_n 0, 1) := dk_42 (dk_at dksX7_init_8 10 rfl rfl)
theorem dX7_init_195 : decode cX7_init 195 = .ok (.iconst 3, 1) := dk_6 (dk_at dksX7_init_8 11 rfl rfl)
theorem dX7_init_196 : decode cX7_init 196 = .ok (.newarray .int, 2) := dk_188_10 (dk_at dksX7_init_8 12 rfl rfl)
theorem dX7_init_198 : decode cX7_init 198 = .ok (.putfield 81, 3) := dk_181 0 81 (dk_at dksX7_init_8 14 rfl rfl)
theorem dX7_init_201 : decode cX7_init 201 = .ok (.aload_n 0, 1) := dk_42 (dk_at dksX7_init_8 17 rfl rfl)
theorem dX7_init_202 : decode cX7_init 202 = .ok (.iconst 3, 1) := dk_6 (dk_at dksX7_init_8 18 rfl rfl)
theorem dX7_init_203 : decode cX7_init 203 = .ok (.newarray .int, 2) := dk_188_10 (dk_at dksX7_init_8 19 rfl rfl)
theorem dX7_init_205 : decode cX7_init 205 = .ok (.putfield 84, 3) := dk_181 0 84 (dk_at dksX7_init_8 21 rfl rfl)
theorem dX7_init_208 : decode cX7_init 208 = .ok (.aload_n 0, 1) := dk_42 (dk_at dksX7_init_9 0 rfl rfl)
theorem dX7_init_209 : decode cX7_init 209 = .ok (.iconst 3, 1) := dk_6 (dk_at dksX7_init_9 1 rfl rfl)
theorem dX7_init_210 : decode cX7_init 210 = .ok (.newarray .int, 2) := dk_188_10 (dk_at dksX7_init_9 2 rfl rfl)
theorem dX7_init_212 : decode cX7_init 212 = .ok (.putfield 87, 3) := dk_181 0 87 (dk_at dksX7_init_9 4 rfl rfl)
theorem dX7_init_215 : decode cX7_init 215 = .ok (.aload_n 0, 1) := dk_42 (dk_at dksX7_init_9 7 rfl rfl)
theorem dX7_init_216 : decode cX7_init 216 = .ok (.bipush 40, 2) := dk_16 40 (dk_at dksX7_init_9 8 rfl rfl)
theorem dX7_init_218 : decode cX7_init 218 = .ok (.newarray .int, 2) := dk_188_10 (dk_at dksX7_init_9 10 rfl rfl)
theorem dX7_init_220 : decode cX7_init 220 = .ok (.putfield 90, 3) := dk_181 0 90 (dk_at dksX7_init_9 12 rfl rfl)
theorem dX7_init_223 : decode cX7_init 223 = .ok (.aload_n 0, 1) := dk_42 (dk_at dksX7_init_9 15 rfl rfl)
theorem dX7_init_224 : decode cX7_init 224 = .ok (.sipush 800, 3) := dk_17 3 32 (dk_at dksX7_init_9 16 rfl rfl)
theorem dX7_init_227 : decode cX7_init 227 = .ok (.newarray .int, 2) := dk_188_10 (dk_at dksX7_init_9 19 rfl rfl)
theorem dX7_init_229 : decode cX7_init 229 = .ok (.putfield 93, 3) := dk_181 0 93 (dk_at dksX7_init_9 21 rfl rfl)
theorem dX7_init_232 : decode cX7_init 232 = .ok (.aload_n 0, 1) := dk_42 (dk_at dksX7_init_10 0 rfl rfl)
theorem dX7_init_233 : decode cX7_init 233 = .ok (.bipush 60, 2) := dk_16 60 (dk_at dksX7_init_10 1 rfl rfl)
theorem dX7_init_235 : decode cX7_init 235 = .ok (.newarray .int, 2) := dk_188_10 (dk_at dksX7_init_10 3 rfl rfl)
theorem dX7_init_237 : decode cX7_init 237 = .ok (.putfield 96, 3) := dk_181 0 96 (dk_at dksX7_init_10 5 rfl rfl)
theorem dX7_init_240 : decode cX7_init 240 = .ok (.aload_n 0, 1) := dk_42 (dk_at dksX7_init_10 8 rfl rfl)
theorem dX7_init_241 : decode cX7_init 241 = .ok (.bipush 40, 2) := dk_16 40 (dk_at dksX7_init_10 9 rfl rfl)
theorem dX7_init_243 : decode cX7_init 243 = .ok (.newarray .int, 2) := dk_188_10 (dk_at dksX7_init_10 11 rfl rfl)
theorem dX7_init_245 : decode cX7_init 245 = .ok (.putfield 99, 3) := dk_181 0 99 (dk_at dksX7_init_10 13 rfl rfl)
theorem dX7_init_248 : decode cX7_init 248 = .ok (.aload_n 0, 1) := dk_42 (dk_at dksX7_init_10 16 rfl rfl)
theorem dX7_init_249 : decode cX7_init 249 = .ok (.sipush 720, 3) := dk_17 2 208 (dk_at dksX7_init_10 17 rfl rfl)
theorem dX7_init_252 : decode cX7_init 252 = .ok (.newarray .int, 2) := dk_188_10 (dk_at dksX7_init_10 20 rfl rfl)
theorem dX7_init_254 : decode cX7_init 254 = .ok (.putfield 102, 3) := dk_181 0 102 (dk_at dksX7_init_11 0 rfl rfl)
theorem dX7_init_257 : decode cX7_init 257 = .ok (.aload_n 0, 1) := dk_42 (dk_at dksX7_init_11 3 rfl rfl)
theorem dX7_init_258 : decode cX7_init 258 = .ok (.iconst 3, 1) := dk_6 (dk_at dksX7_init_11 4 rfl rfl)
theorem dX7_init_259 : decode cX7_init 259 = .ok (.newarray .int, 2) := dk_188_10 (dk_at dksX7_init_11 5 rfl rfl)
theorem dX7_init_261 : decode cX7_init 261 = .ok (.putfield 105, 3) := dk_181 0 105 (dk_at dksX7_init_11 7 rfl rfl)
theorem dX7_init_264 : decode cX7_init 264 = .ok (.aload_n 0, 1) := dk_42 (dk_at dksX7_init_11 10 rfl rfl)
theorem dX7_init_265 : decode cX7_init 265 = .ok (.bipush 10, 2) := dk_16 10 (dk_at dksX7_init_11 11 rfl rfl)
theorem dX7_init_267 : decode cX7_init 267 = .ok (.newarray .long, 2) := dk_188_11 (dk_at dksX7_init_11 13 rfl rfl)
theorem dX7_init_269 : decode cX7_init 269 = .ok (.putfield 108, 3) := dk_181 0 108 (dk_at dksX7_init_11 15 rfl rfl)
theorem dX7_init_272 : decode cX7_init 272 = .ok (.aload_n 0, 1) := dk_42 (dk_at dksX7_init_11 18 rfl rfl)
theorem dX7_init_273 : decode cX7_init 273 = .ok (.bipush 100, 2) := dk_16 100 (dk_at dksX7_init_11 19 rfl rfl)
theorem dX7_init_275 : decode cX7_init 275 = .ok (.newarray .int, 2) := dk_188_10 (dk_at dksX7_init_11 21 rfl rfl)
theorem dX7_init_277 : decode cX7_init 277 = .ok (.putfield 112, 3) := dk_181 0 112 (dk_at dksX7_init_12 0 rfl rfl)
theorem dX7_init_280 : decode cX7_init 280 = .ok (.aload_n 0, 1) := dk_42 (dk_at dksX7_init_12 3 rfl rfl)
theorem dX7_init_281 : decode cX7_init 281 = .ok (.bipush 100, 2) := dk_16 100 (dk_at dksX7_init_12 4 rfl rfl)
theorem dX7_init_283 : decode cX7_init 283 = .ok (.newarray .int, 2) := dk_188_10 (dk_at dksX7_init_12 6 rfl rfl)
theorem dX7_init_285 : decode cX7_init 285 = .ok (.putfield 115, 3) := dk_181 0 115 (dk_at dksX7_init_12 8 rfl rfl)
theorem dX7_init_288 : decode cX7_init 288 = .ok (.aload_n 0, 1) := dk_42 (dk_at dksX7_init_12 11 rfl rfl)
theorem dX7_init_289 : decode cX7_init 289 = .ok (.bipush 100, 2) := dk_16 100 (dk_at dksX7_init_12 12 rfl rfl)
theorem dX7_init_291 : decode cX7_init 291 = .ok (.newarray .int, 2) := dk_188_10 (dk_at dksX7_init_12 14 rfl rfl)
theorem dX7_init_293 : decode cX7_init 293 = .ok (.putfield 118, 3) := dk_181 0 118 (dk_at dksX7_init_12 16 rfl rfl)
theorem dX7_init_296 : decode cX7_init 296 = .ok (.aload_n 0, 1) := dk_42 (dk_at dksX7_init_12 19 rfl rfl)
theorem dX7_init_297 : decode cX7_init 297 = .ok (.iconst 2, 1) := dk_5 (dk_at dksX7_init_12 20 rfl rfl)
theorem dX7_init_298 : decode cX7_init 298 = .ok (.newarray .int, 2) := dk_188_10 (dk_at dksX7_init_12 21 rfl rfl)
theorem dX7_init_300 : decode cX7_init 300 = .ok (.putfield 121, 3) := dk_181 0 121 (dk_at dksX7_init_13 0 rfl rfl)
theorem dX7_init_303 : decode cX7_init 303 = .ok (.aload_n 0, 1) := dk_42 (dk_at dksX7_init_13 3 rfl rfl)
theorem dX7_init_304 : decode cX7_init 304 = .ok (.bipush 12, 2) := dk_16 12 (dk_at dksX7_init_13 4 rfl rfl)
theorem dX7_init_306 : decode cX7_init 306 = .ok (.newarray .int, 2) := dk_188_10 (dk_at dksX7_init_13 6 rfl rfl)
theorem dX7_init_308 : decode cX7_init 308 = .ok (.putfield 124, 3) := dk_181 0 124 (dk_at dksX7_init_13 8 rfl rfl)
theorem dX7_init_311 : decode cX7_init 311 = .ok (.aload_n 0, 1) := dk_42 (dk_at dksX7_init_13 11 rfl rfl)
theorem dX7_init_312 : decode cX7_init 312 = .ok (.bipush 12, 2) := dk_16 12 (dk_at dksX7_init_13 12 rfl rfl)
theorem dX7_init_314 : decode cX7_init 314 = .ok (.newarray .int, 2) := dk_188_10 (dk_at dksX7_init_13 14 rfl rfl)
theorem dX7_init_316 : decode cX7_init 316 = .ok (.putfield 127, 3) := dk_181 0 127 (dk_at dksX7_init_13 16 rfl rfl)
theorem dX7_init_319 : decode cX7_init 319 = .ok (.aload_n 0, 1) := dk_42 (dk_at dksX7_init_13 19 rfl rfl)
theorem dX7_init_320 : decode cX7_init 320 = .ok (.bipush 6, 2) := dk_16 6 (dk_at dksX7_init_13 20 rfl rfl)
theorem dX7_init_322 : decode cX7_init 322 = .ok (.newarray .int, 2) := dk_188_10 (dk_at dksX7_init_13 22 rfl rfl)
theorem dX7_init_324 : decode cX7_init 324 = .ok (.putfield 130, 3) := dk_181 0 130 (dk_at dksX7_init_14 0 rfl rfl)
theorem dX7_init_327 : decode cX7_init 327 = .ok (.aload_n 0, 1) := dk_42 (dk_at dksX7_init_14 3 rfl rfl)
theorem dX7_init_328 : decode cX7_init 328 = .ok (.iconst 2, 1) := dk_5 (dk_at dksX7_init_14 4 rfl rfl)
theorem dX7_init_329 : decode cX7_init 329 = .ok (.newarray .int, 2) := dk_188_10 (dk_at dksX7_init_14 5 rfl rfl)
theorem dX7_init_331 : decode cX7_init 331 = .ok (.putfield 133, 3) := dk_181 0 133 (dk_at dksX7_init_14 7 rfl rfl)
theorem dX7_init_334 : decode cX7_init 334 = .ok (.aload_n 0, 1) := dk_42 (dk_at dksX7_init_14 10 rfl rfl)
theorem dX7_init_335 : decode cX7_init 335 = .ok (.bipush 16, 2) := dk_16 16 (dk_at dksX7_init_14 11 rfl rfl)
theorem dX7_init_337 : decode cX7_init 337 = .ok (.newarray .int, 2) := dk_188_10 (dk_at dksX7_init_14 13 rfl rfl)
theorem dX7_init_339 : decode cX7_init 339 = .ok (.putfield 136, 3) := dk_181 0 136 (dk_at dksX7_init_14 15 rfl rfl)
theorem dX7_init_342 : decode cX7_init 342 = .ok (.aload_n 0, 1) := dk_42 (dk_at dksX7_init_14 18 rfl rfl)
theorem dX7_init_343 : decode cX7_init 343 = .ok (.bipush 16, 2) := dk_16 16 (dk_at dksX7_init_14 19 rfl rfl)
theorem dX7_init_345 : decode cX7_init 345 = .ok (.newarray .int, 2) := dk_188_10 (dk_at dksX7_init_14 21 rfl rfl)
theorem dX7_init_347 : decode cX7_init 347 = .ok (.putfield 139, 3) := dk_181 0 139 (dk_at dksX7_init_15 0 rfl rfl)
theorem dX7_init_350 : decode cX7_init 350 = .ok (.aload_n 0, 1) := dk_42 (dk_at dksX7_init_15 3 rfl rfl)
theorem dX7_init_351 : decode cX7_init 351 = .ok (.bipush 16, 2) := dk_16 16 (dk_at dksX7_init_15 4 rfl rfl)
theorem dX7_init_353 : decode cX7_init 353 = .ok (.newarray .int, 2) := dk_188_10 (dk_at dksX7_init_15 6 rfl rfl)
theorem dX7_init_355 : decode cX7_init 355 = .ok (.putfield 142, 3) := dk_181 0 142 (dk_at dksX7_init_15 8 rfl rfl)
theorem dX7_init_358 : decode cX7_init 358 = .ok (.aload_n 0, 1) := dk_42 (dk_at dksX7_init_15 11 rfl rfl)
theorem dX7_init_359 : decode cX7_init 359 = .ok (.bipush 16, 2) := dk_16 16 (dk_at dksX7_init_15 12 rfl rfl)
theorem dX7_init_361 : decode cX7_init 361 = .ok (.newarray .int, 2) := dk_188_10 (dk_at dksX7_init_15 14 rfl rfl)
theorem dX7_init_363 : decode cX7_init 363 = .ok (.putfield 145, 3) := dk_181 0 145 (dk_at dksX7_init_15 16 rfl rfl)
theorem dX7_init_366 : decode cX7_init 366 = .ok (.aload_n 0, 1) := dk_42 (dk_at dksX7_init_15 19 rfl rfl)
theorem dX7_init_367 : decode cX7_init 367 = .ok (.bipush 12, 2) := dk_16 12 (dk_at dksX7_init_15 20 rfl rfl)
theorem dX7_init_369 : decode cX7_init 369 = .ok (.newarray .long, 2) := dk_188_11 (dk_at dksX7_init_15 22 rfl rfl)
theorem dX7_init_371 : decode cX7_init 371 = .ok (.putfield 148, 3) := dk_181 0 148 (dk_at dksX7_init_16 0 rfl rfl)
theorem dX7_init_374 : decode cX7_init 374 = .ok (.aload_n 0, 1) := dk_42 (dk_at dksX7_init_16 3 rfl rfl)
theorem dX7_init_375 : decode cX7_init 375 = .ok (.sipush 200, 3) := dk_17 0 200 (dk_at dksX7_init_16 4 rfl rfl)
theorem dX7_init_378 : decode cX7_init 378 = .ok (.newarray .int, 2) := dk_188_10 (dk_at dksX7_init_16 7 rfl rfl)
theorem dX7_init_380 : decode cX7_init 380 = .ok (.putfield 151, 3) := dk_181 0 151 (dk_at dksX7_init_16 9 rfl rfl)
theorem dX7_init_383 : decode cX7_init 383 = .ok (.aload_n 0, 1) := dk_42 (dk_at dksX7_init_16 12 rfl rfl)
theorem dX7_init_384 : decode cX7_init 384 = .ok (.sipush 200, 3) := dk_17 0 200 (dk_at dksX7_init_16 13 rfl rfl)
theorem dX7_init_387 : decode cX7_init 387 = .ok (.newarray .int, 2) := dk_188_10 (dk_at dksX7_init_16 16 rfl rfl)
theorem dX7_init_389 : decode cX7_init 389 = .ok (.putfield 154, 3) := dk_181 0 154 (dk_at dksX7_init_16 18 rfl rfl)
theorem dX7_init_392 : decode cX7_init 392 = .ok (.aload_n 0, 1) := dk_42 (dk_at dksX7_init_16 21 rfl rfl)
theorem dX7_init_393 : decode cX7_init 393 = .ok (.iconst 4, 1) := dk_7 (dk_at dksX7_init_16 22 rfl rfl)
theorem dX7_init_394 : decode cX7_init 394 = .ok (.newarray .int, 2) := dk_188_10 (dk_at dksX7_init_17 0 rfl rfl)
theorem dX7_init_396 : decode cX7_init 396 = .ok (.putfield 157, 3) := dk_181 0 157 (dk_at dksX7_init_17 2 rfl rfl)
theorem dX7_init_399 : decode cX7_init 399 = .ok (.aload_n 0, 1) := dk_42 (dk_at dksX7_init_17 5 rfl rfl)
theorem dX7_init_400 : decode cX7_init 400 = .ok (.iconst 4, 1) := dk_7 (dk_at dksX7_init_17 6 rfl rfl)
theorem dX7_init_401 : decode cX7_init 401 = .ok (.newarray .int, 2) := dk_188_10 (dk_at dksX7_init_17 7 rfl rfl)
theorem dX7_init_403 : decode cX7_init 403 = .ok (.putfield 160, 3) := dk_181 0 160 (dk_at dksX7_init_17 9 rfl rfl)
theorem dX7_init_406 : decode cX7_init 406 = .ok (.aload_n 0, 1) := dk_42 (dk_at dksX7_init_17 12 rfl rfl)
theorem dX7_init_407 : decode cX7_init 407 = .ok (.sipush 256, 3) := dk_17 1 0 (dk_at dksX7_init_17 13 rfl rfl)
theorem dX7_init_410 : decode cX7_init 410 = .ok (.newarray .int, 2) := dk_188_10 (dk_at dksX7_init_17 16 rfl rfl)
theorem dX7_init_412 : decode cX7_init 412 = .ok (.putfield 163, 3) := dk_181 0 163 (dk_at dksX7_init_17 18 rfl rfl)
theorem dX7_init_415 : decode cX7_init 415 = .ok (.aload_n 0, 1) := dk_42 (dk_at dksX7_init_17 21 rfl rfl)
theorem dX7_init_416 : decode cX7_init 416 = .ok (.sipush 256, 3) := dk_17 1 0 (dk_at dksX7_init_18 0 rfl rfl)
theorem dX7_init_419 : decode cX7_init 419 = .ok (.newarray .int, 2) := dk_188_10 (dk_at dksX7_init_18 3 rfl rfl)
theorem dX7_init_421 : decode cX7_init 421 = .ok (.putfield 166, 3) := dk_181 0 166 (dk_at dksX7_init_18 5 rfl rfl)
theorem dX7_init_424 : decode cX7_init 424 = .ok (.aload_n 0, 1) := dk_42 (dk_at dksX7_init_18 8 rfl rfl)
theorem dX7_init_425 : decode cX7_init 425 = .ok (.sipush 256, 3) := dk_17 1 0 (dk_at dksX7_init_18 9 rfl rfl)
theorem dX7_init_428 : decode cX7_init 428 = .ok (.newarray .boolean, 2) := dk_188_4 (dk_at dksX7_init_18 12 rfl rfl)
theorem dX7_init_430 : decode cX7_init 430 = .ok (.putfield 169, 3) := dk_181 0 169 (dk_at dksX7_init_18 14 rfl rfl)
theorem dX7_init_433 : decode cX7_init 433 = .ok (.aload_n 0, 1) := dk_42 (dk_at dksX7_init_18 17 rfl rfl)
theorem dX7_init_434 : decode cX7_init 434 = .ok (.sipush 720, 3) := dk_17 2 208 (dk_at dksX7_init_18 18 rfl rfl)
theorem dX7_init_437 : decode cX7_init 437 = .ok (.newarray .int, 2) := dk_188_10 (dk_at dksX7_init_18 21 rfl rfl)
theorem dX7_init_439 : decode cX7_init 439 = .ok (.putfield 172, 3) := dk_181 0 172 (dk_at dksX7_init_19 0 rfl rfl)
theorem dX7_init_442 : decode cX7_init 442 = .ok (.aload_n 0, 1) := dk_42 (dk_at dksX7_init_19 3 rfl rfl)
theorem dX7_init_443 : decode cX7_init 443 = .ok (.bipush 8, 2) := dk_16 8 (dk_at dksX7_init_19 4 rfl rfl)
theorem dX7_init_445 : decode cX7_init 445 = .ok (.newarray .int, 2) := dk_188_10 (dk_at dksX7_init_19 6 rfl rfl)
theorem dX7_init_447 : decode cX7_init 447 = .ok (.putfield 175, 3) := dk_181 0 175 (dk_at dksX7_init_19 8 rfl rfl)
theorem dX7_init_450 : decode cX7_init 450 = .ok (.aload_n 0, 1) := dk_42 (dk_at dksX7_init_19 11 rfl rfl)
theorem dX7_init_451 : decode cX7_init 451 = .ok (.sipush 720, 3) := dk_17 2 208 (dk_at dksX7_init_19 12 rfl rfl)
theorem dX7_init_454 : decode cX7_init 454 = .ok (.newarray .int, 2) := dk_188_10 (dk_at dksX7_init_19 15 rfl rfl)
theorem dX7_init_456 : decode cX7_init 456 = .ok (.putfield 178, 3) := dk_181 0 178 (dk_at dksX7_init_19 17 rfl rfl)
theorem dX7_init_459 : decode cX7_init 459 = .ok (.aload_n 0, 1) := dk_42 (dk_at dksX7_init_19 20 rfl rfl)
theorem dX7_init_460 : decode cX7_init 460 = .ok (.bipush 6, 2) := dk_16 6 (dk_at dksX7_init_19 21 rfl rfl)
theorem dX7_init_462 : decode cX7_init 462 = .ok (.newarray .int, 2) := dk_188_10 (dk_at dksX7_init_20 0 rfl rfl)
theorem dX7_init_464 : decode cX7_init 464 = .ok (.putfield 181, 3) := dk_181 0 181 (dk_at dksX7_init_20 2 rfl rfl)
theorem dX7_init_467 : decode cX7_init 467 = .ok (.aload_n 0, 1) := dk_42 (dk_at dksX7_init_20 5 rfl rfl)
theorem dX7_init_468 : decode cX7_init 468 = .ok (.bipush 6, 2) := dk_16 6 (dk_at dksX7_init_20 6 rfl rfl)
theorem dX7_init_470 : decode cX7_init 470 = .ok (.newarray .int, 2) := dk_188_10 (dk_at dksX7_init_20 8 rfl rfl)
theorem dX7_init_472 : decode cX7_init 472 = .ok (.putfield 184, 3) := dk_181 0 184 (dk_at dksX7_init_20 10 rfl rfl)
theorem dX7_init_475 : decode cX7_init 475 = .ok (.aload_n 0, 1) := dk_42 (dk_at dksX7_init_20 13 rfl rfl)
theorem dX7_init_476 : decode cX7_init 476 = .ok (.bipush 60, 2) := dk_16 60 (dk_at dksX7_init_20 14 rfl rfl)
theorem dX7_init_478 : decode cX7_init 478 = .ok (.newarray .boolean, 2) := dk_188_4 (dk_at dksX7_init_20 16 rfl rfl)
theorem dX7_init_480 : decode cX7_init 480 = .ok (.putfield 187, 3) := dk_181 0 187 (dk_at dksX7_init_20 18 rfl rfl)
theorem dX7_init_483 : decode cX7_init 483 = .ok (.return_, 1) := dk_177 (dk_at dksX7_init_20 21 rfl rfl)
abbrev cX7_thrown : ByteArray := prog_14_method_2_code
def yX7_thrown : MethodName := ⟨RX7, "thrown", "()I"⟩
theorem dX7_thrown_0 : decode cX7_thrown 0 = .ok (.aload_n 0, 1) := by decide +kernel
theorem dX7_thrown_1 : decode cX7_thrown 1 = .ok (.getfield 190, 3) := by decide +kernel
theorem dX7_thrown_4 : decode cX7_thrown 4 = .ok (.ireturn, 1) := by decide +kernel
abbrev cX7_feed : ByteArray := prog_14_method_4_code
def yX7_feed : MethodName := ⟨RX7, "feed", "(IIIII)I"⟩
def dkwX7_feed_2 : List UInt8 := [182, 0, 197, 42, 180, 0, 194, 172]
abbrev dktX7_feed_2 : List UInt8 := dkwX7_feed_2 ++ []
def dkwX7_feed_1 : List UInt8 := [182, 0, 197, 42, 28, 182, 0, 197, 42, 29, 182, 0, 197, 42, 21, 4, 182, 0, 197, 42, 21, 5]
abbrev dktX7_feed_1 : List UInt8 := dkwX7_feed_1 ++ dktX7_feed_2
def dkwX7_feed_0 : List UInt8 := [42, 3, 181, 0, 190, 42, 180, 0, 194, 16, 20, 96, 17, 2, 228, 164, 0, 5, 2, 172, 42, 27]
abbrev dktX7_feed_0 : List UInt8 := dkwX7_feed_0 ++ dktX7_feed_1
theorem dksX7_feed_0 : cX7_feed.data.toList.drop 0 = dktX7_feed_0 := by decide +kernel
theorem dksX7_feed_1 : cX7_feed.data.toList.drop 22 = dktX7_feed_1 := dk_seg dksX7_feed_0 22 rfl rfl
theorem dksX7_feed_2 : cX7_feed.data.toList.drop 44 = dktX7_feed_2 := dk_seg dksX7_feed_1 22 rfl rfl
theorem dX7_feed_0 : decode cX7_feed 0 = .ok (.aload_n 0, 1) := dk_42 (dk_at dksX7_feed_0 0 rfl rfl)
theorem dX7_feed_1 : decode cX7_feed 1 = .ok (.iconst 0, 1) := dk_3 (dk_at dksX7_feed_0 1 rfl rfl)
theorem dX7_feed_2 : decode cX7_feed 2 = .ok (.putfield 190, 3) := dk_181 0 190 (dk_at dksX7_feed_0 2 rfl rfl)
theorem dX7_feed_5 : decode cX7_feed 5 = .ok (.aload_n 0, 1) := dk_42 (dk_at dksX7_feed_0 5 rfl rfl)
theorem dX7_feed_6 : decode cX7_feed 6 = .ok (.getfield 194, 3) := dk_180 0 194 (dk_at dksX7_feed_0 6 rfl rfl)
theorem dX7_feed_9 : decode cX7_feed 9 = .ok (.bipush 20, 2) := dk_16 20 (dk_at dksX7_feed_0 9 rfl rfl)
theorem dX7_feed_11 : decode cX7_feed 11 = .ok (.iadd, 1) := dk_96 (dk_at dksX7_feed_0 11 rfl rfl)
theorem dX7_feed_12 : decode cX7_feed 12 = .ok (.sipush 740, 3) := dk_17 2 228 (dk_at dksX7_feed_0 12 rfl rfl)
theorem dX7_feed_15 : decode cX7_feed 15 = .ok (.if_icmp .le 5, 3) := dk_164 0 5 (dk_at dksX7_feed_0 15 rfl rfl)
theorem dX7_feed_18 : decode cX7_feed 18 = .ok (.iconst (-1), 1) := dk_2 (dk_at dksX7_feed_0 18 rfl rfl)
theorem dX7_feed_19 : decode cX7_feed 19 = .ok (.ireturn, 1) := dk_172 (dk_at dksX7_feed_0 19 rfl rfl)
theorem dX7_feed_20 : decode cX7_feed 20 = .ok (.aload_n 0, 1) := dk_42 (dk_at dksX7_feed_0 20 rfl rfl)
theorem dX7_feed_21 : decode cX7_feed 21 = .ok (.iload_n 1, 1) := dk_27 (dk_at dksX7_feed_0 21 rfl rfl)
theorem dX7_feed_22 : decode cX7_feed 22 = .ok (.invokevirtual 197, 3) := dk_182 0 197 (dk_at dksX7_feed_1 0 rfl rfl)
theorem dX7_feed_25 : decode cX7_feed 25 = .ok (.aload_n 0, 1) := dk_42 (dk_at dksX7_feed_1 3 rfl rfl)
theorem dX7_feed_26 : decode cX7_feed 26 = .ok (.iload_n 2, 1) := dk_28 (dk_at dksX7_feed_1 4 rfl rfl)
theorem dX7_feed_27 : decode cX7_feed 27 = .ok (.invokevirtual 197, 3) := dk_182 0 197 (dk_at dksX7_feed_1 5 rfl rfl)
theorem dX7_feed_30 : decode cX7_feed 30 = .ok (.aload_n 0, 1) := dk_42 (dk_at dksX7_feed_1 8 rfl rfl)
theorem dX7_feed_31 : decode cX7_feed 31 = .ok (.iload_n 3, 1) := dk_29 (dk_at dksX7_feed_1 9 rfl rfl)
theorem dX7_feed_32 : decode cX7_feed 32 = .ok (.invokevirtual 197, 3) := dk_182 0 197 (dk_at dksX7_feed_1 10 rfl rfl)
theorem dX7_feed_35 : decode cX7_feed 35 = .ok (.aload_n 0, 1) := dk_42 (dk_at dksX7_feed_1 13 rfl rfl)
theorem dX7_feed_36 : decode cX7_feed 36 = .ok (.iload 4, 2) := dk_21 4 (dk_at dksX7_feed_1 14 rfl rfl)
theorem dX7_feed_38 : decode cX7_feed 38 = .ok (.invokevirtual 197, 3) := dk_182 0 197 (dk_at dksX7_feed_1 16 rfl rfl)
theorem dX7_feed_41 : decode cX7_feed 41 = .ok (.aload_n 0, 1) := dk_42 (dk_at dksX7_feed_1 19 rfl rfl)
theorem dX7_feed_42 : decode cX7_feed 42 = .ok (.iload 5, 2) := dk_21 5 (dk_at dksX7_feed_1 20 rfl rfl)
theorem dX7_feed_44 : decode cX7_feed 44 = .ok (.invokevirtual 197, 3) := dk_182 0 197 (dk_at dksX7_feed_2 0 rfl rfl)
theorem dX7_feed_47 : decode cX7_feed 47 = .ok (.aload_n 0, 1) := dk_42 (dk_at dksX7_feed_2 3 rfl rfl)
theorem dX7_feed_48 : decode cX7_feed 48 = .ok (.getfield 194, 3) := dk_180 0 194 (dk_at dksX7_feed_2 4 rfl rfl)
theorem dX7_feed_51 : decode cX7_feed 51 = .ok (.ireturn, 1) := dk_172 (dk_at dksX7_feed_2 7 rfl rfl)
abbrev cX7_four : ByteArray := prog_14_method_5_code
def yX7_four : MethodName := ⟨RX7, "four", "(I)V"⟩
def dkwX7_four_1 : List UInt8 := [180, 0, 194, 4, 96, 181, 0, 194, 132, 2, 248, 167, 255, 226, 177]
abbrev dktX7_four_1 : List UInt8 := dkwX7_four_1 ++ []
def dkwX7_four_0 : List UInt8 := [16, 24, 61, 28, 155, 0, 32, 42, 180, 0, 7, 42, 180, 0, 194, 27, 28, 122, 145, 84, 42, 89]
abbrev dktX7_four_0 : List UInt8 := dkwX7_four_0 ++ dktX7_four_1
theorem dksX7_four_0 : cX7_four.data.toList.drop 0 = dktX7_four_0 := by decide +kernel
theorem dksX7_four_1 : cX7_four.data.toList.drop 22 = dktX7_four_1 := dk_seg dksX7_four_0 22 rfl rfl
theorem dX7_four_0 : decode cX7_four 0 = .ok (.bipush 24, 2) := dk_16 24 (dk_at dksX7_four_0 0 rfl rfl)
theorem dX7_four_2 : decode cX7_four 2 = .ok (.istore_n 2, 1) := dk_61 (dk_at dksX7_four_0 2 rfl rfl)
theorem dX7_four_3 : decode cX7_four 3 = .ok (.iload_n 2, 1) := dk_28 (dk_at dksX7_four_0 3 rfl rfl)
theorem dX7_four_4 : decode cX7_four 4 = .ok (.ifCond .lt 32, 3) := dk_155 0 32 (dk_at dksX7_four_0 4 rfl rfl)
theorem dX7_four_7 : decode cX7_four 7 = .ok (.aload_n 0, 1) := dk_42 (dk_at dksX7_four_0 7 rfl rfl)
theorem dX7_four_8 : decode cX7_four 8 = .ok (.getfield 7, 3) := dk_180 0 7 (dk_at dksX7_four_0 8 rfl rfl)
theorem dX7_four_11 : decode cX7_four 11 = .ok (.aload_n 0, 1) := dk_42 (dk_at dksX7_four_0 11 rfl rfl)
theorem dX7_four_12 : decode cX7_four 12 = .ok (.getfield 194, 3) := dk_180 0 194 (dk_at dksX7_four_0 12 rfl rfl)
theorem dX7_four_15 : decode cX7_four 15 = .ok (.iload_n 1, 1) := dk_27 (dk_at dksX7_four_0 15 rfl rfl)
theorem dX7_four_16 : decode cX7_four 16 = .ok (.iload_n 2, 1) := dk_28 (dk_at dksX7_four_0 16 rfl rfl)
theorem dX7_four_17 : decode cX7_four 17 = .ok (.ishr, 1) := dk_122 (dk_at dksX7_four_0 17 rfl rfl)
theorem dX7_four_18 : decode cX7_four 18 = .ok (.i2b, 1) := dk_145 (dk_at dksX7_four_0 18 rfl rfl)
theorem dX7_four_19 : decode cX7_four 19 = .ok (.bastore, 1) := dk_84 (dk_at dksX7_four_0 19 rfl rfl)
theorem dX7_four_20 : decode cX7_four 20 = .ok (.aload_n 0, 1) := dk_42 (dk_at dksX7_four_0 20 rfl rfl)
theorem dX7_four_21 : decode cX7_four 21 = .ok (.dup, 1) := dk_89 (dk_at dksX7_four_0 21 rfl rfl)
theorem dX7_four_22 : decode cX7_four 22 = .ok (.getfield 194, 3) := dk_180 0 194 (dk_at dksX7_four_1 0 rfl rfl)
theorem dX7_four_25 : decode cX7_four 25 = .ok (.iconst 1, 1) := dk_4 (dk_at dksX7_four_1 3 rfl rfl)
theorem dX7_four_26 : decode cX7_four 26 = .ok (.iadd, 1) := dk_96 (dk_at dksX7_four_1 4 rfl rfl)
theorem dX7_four_27 : decode cX7_four 27 = .ok (.putfield 194, 3) := dk_181 0 194 (dk_at dksX7_four_1 5 rfl rfl)
theorem dX7_four_30 : decode cX7_four 30 = .ok (.iinc 2 (-8), 3) := dk_132 2 248 (dk_at dksX7_four_1 8 rfl rfl)
theorem dX7_four_33 : decode cX7_four 33 = .ok (.goto (-30), 3) := dk_167 255 226 (dk_at dksX7_four_1 11 rfl rfl)
theorem dX7_four_36 : decode cX7_four 36 = .ok (.return_, 1) := dk_177 (dk_at dksX7_four_1 14 rfl rfl)
abbrev cX7_end : ByteArray := prog_14_method_6_code
def yX7_end : MethodName := ⟨RX7, "end", "(I)Z"⟩
def dkwX7_end_1 : List UInt8 := [4, 172]
abbrev dktX7_end_1 : List UInt8 := dkwX7_end_1 ++ []
def dkwX7_end_0 : List UInt8 := [42, 3, 181, 0, 190, 27, 155, 0, 11, 27, 42, 180, 0, 194, 164, 0, 5, 3, 172, 42, 27, 181, 0, 194]
abbrev dktX7_end_0 : List UInt8 := dkwX7_end_0 ++ dktX7_end_1
theorem dksX7_end_0 : cX7_end.data.toList.drop 0 = dktX7_end_0 := by decide +kernel
theorem dksX7_end_1 : cX7_end.data.toList.drop 24 = dktX7_end_1 := dk_seg dksX7_end_0 24 rfl rfl
theorem dX7_end_0 : decode cX7_end 0 = .ok (.aload_n 0, 1) := dk_42 (dk_at dksX7_end_0 0 rfl rfl)
theorem dX7_end_1 : decode cX7_end 1 = .ok (.iconst 0, 1) := dk_3 (dk_at dksX7_end_0 1 rfl rfl)
theorem dX7_end_2 : decode cX7_end 2 = .ok (.putfield 190, 3) := dk_181 0 190 (dk_at dksX7_end_0 2 rfl rfl)
theorem dX7_end_5 : decode cX7_end 5 = .ok (.iload_n 1, 1) := dk_27 (dk_at dksX7_end_0 5 rfl rfl)
theorem dX7_end_6 : decode cX7_end 6 = .ok (.ifCond .lt 11, 3) := dk_155 0 11 (dk_at dksX7_end_0 6 rfl rfl)
theorem dX7_end_9 : decode cX7_end 9 = .ok (.iload_n 1, 1) := dk_27 (dk_at dksX7_end_0 9 rfl rfl)
theorem dX7_end_10 : decode cX7_end 10 = .ok (.aload_n 0, 1) := dk_42 (dk_at dksX7_end_0 10 rfl rfl)
theorem dX7_end_11 : decode cX7_end 11 = .ok (.getfield 194, 3) := dk_180 0 194 (dk_at dksX7_end_0 11 rfl rfl)
theorem dX7_end_14 : decode cX7_end 14 = .ok (.if_icmp .le 5, 3) := dk_164 0 5 (dk_at dksX7_end_0 14 rfl rfl)
theorem dX7_end_17 : decode cX7_end 17 = .ok (.iconst 0, 1) := dk_3 (dk_at dksX7_end_0 17 rfl rfl)
theorem dX7_end_18 : decode cX7_end 18 = .ok (.ireturn, 1) := dk_172 (dk_at dksX7_end_0 18 rfl rfl)
theorem dX7_end_19 : decode cX7_end 19 = .ok (.aload_n 0, 1) := dk_42 (dk_at dksX7_end_0 19 rfl rfl)
theorem dX7_end_20 : decode cX7_end 20 = .ok (.iload_n 1, 1) := dk_27 (dk_at dksX7_end_0 20 rfl rfl)
theorem dX7_end_21 : decode cX7_end 21 = .ok (.putfield 194, 3) := dk_181 0 194 (dk_at dksX7_end_0 21 rfl rfl)
theorem dX7_end_24 : decode cX7_end 24 = .ok (.iconst 1, 1) := dk_4 (dk_at dksX7_end_1 0 rfl rfl)
theorem dX7_end_25 : decode cX7_end 25 = .ok (.ireturn, 1) := dk_172 (dk_at dksX7_end_1 1 rfl rfl)
abbrev cX7_card : ByteArray := prog_14_method_11_code
def yX7_card : MethodName := ⟨RX7, "card", "(I)I"⟩
def dkwX7_card_6 : List UInt8 := [180, 0, 17, 27, 46, 172]
abbrev dktX7_card_6 : List UInt8 := dkwX7_card_6 ++ []
def dkwX7_card_5 : List UInt8 := [28, 182, 0, 218, 79, 132, 2, 1, 167, 255, 221, 42, 180, 0, 17, 27, 92, 46, 4, 96, 79, 42]
abbrev dktX7_card_5 : List UInt8 := dkwX7_card_5 ++ dktX7_card_6
def dkwX7_card_4 : List UInt8 := [162, 0, 35, 42, 180, 0, 13, 16, 20, 16, 40, 27, 104, 42, 180, 0, 17, 27, 46, 96, 104, 28, 96, 42]
abbrev dktX7_card_4 : List UInt8 := dkwX7_card_4 ++ dktX7_card_5
def dkwX7_card_3 : List UInt8 := [182, 0, 218, 16, 16, 112, 16, 15, 159, 0, 5, 2, 172, 132, 2, 1, 167, 255, 209, 3, 61, 28, 16, 20]
abbrev dktX7_card_3 : List UInt8 := dkwX7_card_3 ++ dktX7_card_4
def dkwX7_card_2 : List UInt8 := [182, 0, 218, 16, 31, 163, 0, 29, 42, 28, 182, 0, 218, 16, 16, 112, 16, 9, 164, 0, 18, 42, 28]
abbrev dktX7_card_2 : List UInt8 := dkwX7_card_2 ++ dktX7_card_3
def dkwX7_card_1 : List UInt8 := [159, 0, 12, 42, 180, 0, 201, 16, 20, 159, 0, 5, 2, 172, 3, 61, 28, 16, 20, 162, 0, 47, 42, 28]
abbrev dktX7_card_1 : List UInt8 := dkwX7_card_1 ++ dktX7_card_2
def dkwX7_card_0 : List UInt8 := [42, 3, 181, 0, 190, 42, 182, 0, 211, 27, 184, 0, 214, 153, 0, 23, 42, 180, 0, 17, 27, 46, 16, 40]
abbrev dktX7_card_0 : List UInt8 := dkwX7_card_0 ++ dktX7_card_1
theorem dksX7_card_0 : cX7_card.data.toList.drop 0 = dktX7_card_0 := by decide +kernel
theorem dksX7_card_1 : cX7_card.data.toList.drop 24 = dktX7_card_1 := dk_seg dksX7_card_0 24 rfl rfl
theorem dksX7_card_2 : cX7_card.data.toList.drop 48 = dktX7_card_2 := dk_seg dksX7_card_1 24 rfl rfl
theorem dksX7_card_3 : cX7_card.data.toList.drop 71 = dktX7_card_3 := dk_seg dksX7_card_2 23 rfl rfl
theorem dksX7_card_4 : cX7_card.data.toList.drop 95 = dktX7_card_4 := dk_seg dksX7_card_3 24 rfl rfl
theorem dksX7_card_5 : cX7_card.data.toList.drop 119 = dktX7_card_5 := dk_seg dksX7_card_4 24 rfl rfl
theorem dksX7_card_6 : cX7_card.data.toList.drop 141 = dktX7_card_6 := dk_seg dksX7_card_5 22 rfl rfl
theorem dX7_card_0 : decode cX7_card 0 = .ok (.aload_n 0, 1) := dk_42 (dk_at dksX7_card_0 0 rfl rfl)
theorem dX7_card_1 : decode cX7_card 1 = .ok (.iconst 0, 1) := dk_3 (dk_at dksX7_card_0 1 rfl rfl)
theorem dX7_card_2 : decode cX7_card 2 = .ok (.putfield 190, 3) := dk_181 0 190 (dk_at dksX7_card_0 2 rfl rfl)
theorem dX7_card_5 : decode cX7_card 5 = .ok (.aload_n 0, 1) := dk_42 (dk_at dksX7_card_0 5 rfl rfl)
theorem dX7_card_6 : decode cX7_card 6 = .ok (.invokevirtual 211, 3) := dk_182 0 211 (dk_at dksX7_card_0 6 rfl rfl)
theorem dX7_card_9 : decode cX7_card 9 = .ok (.iload_n 1, 1) := dk_27 (dk_at dksX7_card_0 9 rfl rfl)
theorem dX7_card_10 : decode cX7_card 10 = .ok (.invokestatic 214, 3) := dk_184 0 214 (dk_at dksX7_card_0 10 rfl rfl)
theorem dX7_card_13 : decode cX7_card 13 = .ok (.ifCond .eq 23, 3) := dk_153 0 23 (dk_at dksX7_card_0 13 rfl rfl)
theorem dX7_card_16 : decode cX7_card 16 = .ok (.aload_n 0, 1) := dk_42 (dk_at dksX7_card_0 16 rfl rfl)
theorem dX7_card_17 : decode cX7_card 17 = .ok (.getfield 17, 3) := dk_180 0 17 (dk_at dksX7_card_0 17 rfl rfl)
theorem dX7_card_20 : decode cX7_card 20 = .ok (.iload_n 1, 1) := dk_27 (dk_at dksX7_card_0 20 rfl rfl)
theorem dX7_card_21 : decode cX7_card 21 = .ok (.iaload, 1) := dk_46 (dk_at dksX7_card_0 21 rfl rfl)
theorem dX7_card_22 : decode cX7_card 22 = .ok (.bipush 40, 2) := dk_16 40 (dk_at dksX7_card_0 22 rfl rfl)
theorem dX7_card_24 : decode cX7_card 24 = .ok (.if_icmp .eq 12, 3) := dk_159 0 12 (dk_at dksX7_card_1 0 rfl rfl)
theorem dX7_card_27 : decode cX7_card 27 = .ok (.aload_n 0, 1) := dk_42 (dk_at dksX7_card_1 3 rfl rfl)
theorem dX7_card_28 : decode cX7_card 28 = .ok (.getfield 201, 3) := dk_180 0 201 (dk_at dksX7_card_1 4 rfl rfl)
theorem dX7_card_31 : decode cX7_card 31 = .ok (.bipush 20, 2) := dk_16 20 (dk_at dksX7_card_1 7 rfl rfl)
theorem dX7_card_33 : decode cX7_card 33 = .ok (.if_icmp .eq 5, 3) := dk_159 0 5 (dk_at dksX7_card_1 9 rfl rfl)
theorem dX7_card_36 : decode cX7_card 36 = .ok (.iconst (-1), 1) := dk_2 (dk_at dksX7_card_1 12 rfl rfl)
theorem dX7_card_37 : decode cX7_card 37 = .ok (.ireturn, 1) := dk_172 (dk_at dksX7_card_1 13 rfl rfl)
theorem dX7_card_38 : decode cX7_card 38 = .ok (.iconst 0, 1) := dk_3 (dk_at dksX7_card_1 14 rfl rfl)
theorem dX7_card_39 : decode cX7_card 39 = .ok (.istore_n 2, 1) := dk_61 (dk_at dksX7_card_1 15 rfl rfl)
theorem dX7_card_40 : decode cX7_card 40 = .ok (.iload_n 2, 1) := dk_28 (dk_at dksX7_card_1 16 rfl rfl)
theorem dX7_card_41 : decode cX7_card 41 = .ok (.bipush 20, 2) := dk_16 20 (dk_at dksX7_card_1 17 rfl rfl)
theorem dX7_card_43 : decode cX7_card 43 = .ok (.if_icmp .ge 47, 3) := dk_162 0 47 (dk_at dksX7_card_1 19 rfl rfl)
theorem dX7_card_46 : decode cX7_card 46 = .ok (.aload_n 0, 1) := dk_42 (dk_at dksX7_card_1 22 rfl rfl)
theorem dX7_card_47 : decode cX7_card 47 = .ok (.iload_n 2, 1) := dk_28 (dk_at dksX7_card_1 23 rfl rfl)
theorem dX7_card_48 : decode cX7_card 48 = .ok (.invokevirtual 218, 3) := dk_182 0 218 (dk_at dksX7_card_2 0 rfl rfl)
theorem dX7_card_51 : decode cX7_card 51 = .ok (.bipush 31, 2) := dk_16 31 (dk_at dksX7_card_2 3 rfl rfl)
theorem dX7_card_53 : decode cX7_card 53 = .ok (.if_icmp .gt 29, 3) := dk_163 0 29 (dk_at dksX7_card_2 5 rfl rfl)
theorem dX7_card_56 : decode cX7_card 56 = .ok (.aload_n 0, 1) := dk_42 (dk_at dksX7_card_2 8 rfl rfl)
theorem dX7_card_57 : decode cX7_card 57 = .ok (.iload_n 2, 1) := dk_28 (dk_at dksX7_card_2 9 rfl rfl)
theorem dX7_card_58 : decode cX7_card 58 = .ok (.invokevirtual 218, 3) := dk_182 0 218 (dk_at dksX7_card_2 10 rfl rfl)
theorem dX7_card_61 : decode cX7_card 61 = .ok (.bipush 16, 2) := dk_16 16 (dk_at dksX7_card_2 13 rfl rfl)
theorem dX7_card_63 : decode cX7_card 63 = .ok (.irem, 1) := dk_112 (dk_at dksX7_card_2 15 rfl rfl)
theorem dX7_card_64 : decode cX7_card 64 = .ok (.bipush 9, 2) := dk_16 9 (dk_at dksX7_card_2 16 rfl rfl)
theorem dX7_card_66 : decode cX7_card 66 = .ok (.if_icmp .le 18, 3) := dk_164 0 18 (dk_at dksX7_card_2 18 rfl rfl)
theorem dX7_card_69 : decode cX7_card 69 = .ok (.aload_n 0, 1) := dk_42 (dk_at dksX7_card_2 21 rfl rfl)
theorem dX7_card_70 : decode cX7_card 70 = .ok (.iload_n 2, 1) := dk_28 (dk_at dksX7_card_2 22 rfl rfl)
theorem dX7_card_71 : decode cX7_card 71 = .ok (.invokevirtual 218, 3) := dk_182 0 218 (dk_at dksX7_card_3 0 rfl rfl)
theorem dX7_card_74 : decode cX7_card 74 = .ok (.bipush 16, 2) := dk_16 16 (dk_at dksX7_card_3 3 rfl rfl)
theorem dX7_card_76 : decode cX7_card 76 = .ok (.irem, 1) := dk_112 (dk_at dksX7_card_3 5 rfl rfl)
theorem dX7_card_77 : decode cX7_card 77 = .ok (.bipush 15, 2) := dk_16 15 (dk_at dksX7_card_3 6 rfl rfl)
theorem dX7_card_79 : decode cX7_card 79 = .ok (.if_icmp .eq 5, 3) := dk_159 0 5 (dk_at dksX7_card_3 8 rfl rfl)
theorem dX7_card_82 : decode cX7_card 82 = .ok (.iconst (-1), 1) := dk_2 (dk_at dksX7_card_3 11 rfl rfl)
theorem dX7_card_83 : decode cX7_card 83 = .ok (.ireturn, 1) := dk_172 (dk_at dksX7_card_3 12 rfl rfl)
theorem dX7_card_84 : decode cX7_card 84 = .ok (.iinc 2 1, 3) := dk_132 2 1 (dk_at dksX7_card_3 13 rfl rfl)
theorem dX7_card_87 : decode cX7_card 87 = .ok (.goto (-47), 3) := dk_167 255 209 (dk_at dksX7_card_3 16 rfl rfl)
theorem dX7_card_90 : decode cX7_card 90 = .ok (.iconst 0, 1) := dk_3 (dk_at dksX7_card_3 19 rfl rfl)
theorem dX7_card_91 : decode cX7_card 91 = .ok (.istore_n 2, 1) := dk_61 (dk_at dksX7_card_3 20 rfl rfl)
theorem dX7_card_92 : decode cX7_card 92 = .ok (.iload_n 2, 1) := dk_28 (dk_at dksX7_card_3 21 rfl rfl)
theorem dX7_card_93 : decode cX7_card 93 = .ok (.bipush 20, 2) := dk_16 20 (dk_at dksX7_card_3 22 rfl rfl)
theorem dX7_card_95 : decode cX7_card 95 = .ok (.if_icmp .ge 35, 3) := dk_162 0 35 (dk_at dksX7_card_4 0 rfl rfl)
theorem dX7_card_98 : decode cX7_card 98 = .ok (.aload_n 0, 1) := dk_42 (dk_at dksX7_card_4 3 rfl rfl)
theorem dX7_card_99 : decode cX7_card 99 = .ok (.getfield 13, 3) := dk_180 0 13 (dk_at dksX7_card_4 4 rfl rfl)
theorem dX7_card_102 : decode cX7_card 102 = .ok (.bipush 20, 2) := dk_16 20 (dk_at dksX7_card_4 7 rfl rfl)
theorem dX7_card_104 : decode cX7_card 104 = .ok (.bipush 40, 2) := dk_16 40 (dk_at dksX7_card_4 9 rfl rfl)
theorem dX7_card_106 : decode cX7_card 106 = .ok (.iload_n 1, 1) := dk_27 (dk_at dksX7_card_4 11 rfl rfl)
theorem dX7_card_107 : decode cX7_card 107 = .ok (.imul, 1) := dk_104 (dk_at dksX7_card_4 12 rfl rfl)
theorem dX7_card_108 : decode cX7_card 108 = .ok (.aload_n 0, 1) := dk_42 (dk_at dksX7_card_4 13 rfl rfl)
theorem dX7_card_109 : decode cX7_card 109 = .ok (.getfield 17, 3) := dk_180 0 17 (dk_at dksX7_card_4 14 rfl rfl)
theorem dX7_card_112 : decode cX7_card 112 = .ok (.iload_n 1, 1) := dk_27 (dk_at dksX7_card_4 17 rfl rfl)
theorem dX7_card_113 : decode cX7_card 113 = .ok (.iaload, 1) := dk_46 (dk_at dksX7_card_4 18 rfl rfl)
theorem dX7_card_114 : decode cX7_card 114 = .ok (.iadd, 1) := dk_96 (dk_at dksX7_card_4 19 rfl rfl)
theorem dX7_card_115 : decode cX7_card 115 = .ok (.imul, 1) := dk_104 (dk_at dksX7_card_4 20 rfl rfl)
theorem dX7_card_116 : decode cX7_card 116 = .ok (.iload_n 2, 1) := dk_28 (dk_at dksX7_card_4 21 rfl rfl)
theorem dX7_card_117 : decode cX7_card 117 = .ok (.iadd, 1) := dk_96 (dk_at dksX7_card_4 22 rfl rfl)
theorem dX7_card_118 : decode cX7_card 118 = .ok (.aload_n 0, 1) := dk_42 (dk_at dksX7_card_4 23 rfl rfl)
theorem dX7_card_119 : decode cX7_card 119 = .ok (.iload_n 2, 1) := dk_28 (dk_at dksX7_card_5 0 rfl rfl)
theorem dX7_card_120 : decode cX7_card 120 = .ok (.invokevirtual 218, 3) := dk_182 0 218 (dk_at dksX7_card_5 1 rfl rfl)
theorem dX7_card_123 : decode cX7_card 123 = .ok (.iastore, 1) := dk_79 (dk_at dksX7_card_5 4 rfl rfl)
theorem dX7_card_124 : decode cX7_card 124 = .ok (.iinc 2 1, 3) := dk_132 2 1 (dk_at dksX7_card_5 5 rfl rfl)
theorem dX7_card_127 : decode cX7_card 127 = .ok (.goto (-35), 3) := dk_167 255 221 (dk_at dksX7_card_5 8 rfl rfl)
theorem dX7_card_130 : decode cX7_card 130 = .ok (.aload_n 0, 1) := dk_42 (dk_at dksX7_card_5 11 rfl rfl)
theorem dX7_card_131 : decode cX7_card 131 = .ok (.getfield 17, 3) := dk_180 0 17 (dk_at dksX7_card_5 12 rfl rfl)
theorem dX7_card_134 : decode cX7_card 134 = .ok (.iload_n 1, 1) := dk_27 (dk_at dksX7_card_5 15 rfl rfl)
theorem dX7_card_135 : decode cX7_card 135 = .ok (.dup2, 1) := dk_92 (dk_at dksX7_card_5 16 rfl rfl)
theorem dX7_card_136 : decode cX7_card 136 = .ok (.iaload, 1) := dk_46 (dk_at dksX7_card_5 17 rfl rfl)
theorem dX7_card_137 : decode cX7_card 137 = .ok (.iconst 1, 1) := dk_4 (dk_at dksX7_card_5 18 rfl rfl)
theorem dX7_card_138 : decode cX7_card 138 = .ok (.iadd, 1) := dk_96 (dk_at dksX7_card_5 19 rfl rfl)
theorem dX7_card_139 : decode cX7_card 139 = .ok (.iastore, 1) := dk_79 (dk_at dksX7_card_5 20 rfl rfl)
theorem dX7_card_140 : decode cX7_card 140 = .ok (.aload_n 0, 1) := dk_42 (dk_at dksX7_card_5 21 rfl rfl)
theorem dX7_card_141 : decode cX7_card 141 = .ok (.getfield 17, 3) := dk_180 0 17 (dk_at dksX7_card_6 0 rfl rfl)
theorem dX7_card_144 : decode cX7_card 144 = .ok (.iload_n 1, 1) := dk_27 (dk_at dksX7_card_6 3 rfl rfl)
theorem dX7_card_145 : decode cX7_card 145 = .ok (.iaload, 1) := dk_46 (dk_at dksX7_card_6 4 rfl rfl)
theorem dX7_card_146 : decode cX7_card 146 = .ok (.ireturn, 1) := dk_172 (dk_at dksX7_card_6 5 rfl rfl)
abbrev cX7_taken : ByteArray := prog_14_method_7_code
def yX7_taken : MethodName := ⟨RX7, "taken", "()V"⟩
def dkwX7_taken_0 : List UInt8 := [42, 42, 180, 0, 194, 181, 0, 201, 42, 3, 181, 0, 194, 42, 3, 181, 0, 204, 177]
abbrev dktX7_taken_0 : List UInt8 := dkwX7_taken_0 ++ []
theorem dksX7_taken_0 : cX7_taken.data.toList.drop 0 = dktX7_taken_0 := by decide +kernel
theorem dX7_taken_0 : decode cX7_taken 0 = .ok (.aload_n 0, 1) := dk_42 (dk_at dksX7_taken_0 0 rfl rfl)
theorem dX7_taken_1 : decode cX7_taken 1 = .ok (.aload_n 0, 1) := dk_42 (dk_at dksX7_taken_0 1 rfl rfl)
theorem dX7_taken_2 : decode cX7_taken 2 = .ok (.getfield 194, 3) := dk_180 0 194 (dk_at dksX7_taken_0 2 rfl rfl)
theorem dX7_taken_5 : decode cX7_taken 5 = .ok (.putfield 201, 3) := dk_181 0 201 (dk_at dksX7_taken_0 5 rfl rfl)
theorem dX7_taken_8 : decode cX7_taken 8 = .ok (.aload_n 0, 1) := dk_42 (dk_at dksX7_taken_0 8 rfl rfl)
theorem dX7_taken_9 : decode cX7_taken 9 = .ok (.iconst 0, 1) := dk_3 (dk_at dksX7_taken_0 9 rfl rfl)
theorem dX7_taken_10 : decode cX7_taken 10 = .ok (.putfield 194, 3) := dk_181 0 194 (dk_at dksX7_taken_0 10 rfl rfl)
theorem dX7_taken_13 : decode cX7_taken 13 = .ok (.aload_n 0, 1) := dk_42 (dk_at dksX7_taken_0 13 rfl rfl)
theorem dX7_taken_14 : decode cX7_taken 14 = .ok (.iconst 0, 1) := dk_3 (dk_at dksX7_taken_0 14 rfl rfl)
theorem dX7_taken_15 : decode cX7_taken 15 = .ok (.putfield 204, 3) := dk_181 0 204 (dk_at dksX7_taken_0 15 rfl rfl)
theorem dX7_taken_18 : decode cX7_taken 18 = .ok (.return_, 1) := dk_177 (dk_at dksX7_taken_0 18 rfl rfl)
abbrev cX7_isBox : ByteArray := prog_14_method_10_code
def yX7_isBox : MethodName := ⟨RX7, "isBox", "(I)Z"⟩
def dkwX7_isBox_0 : List UInt8 := [26, 3, 16, 7, 184, 0, 207, 172]
abbrev dktX7_isBox_0 : List UInt8 := dkwX7_isBox_0 ++ []
theorem dksX7_isBox_0 : cX7_isBox.data.toList.drop 0 = dktX7_isBox_0 := by decide +kernel
theorem dX7_isBox_0 : decode cX7_isBox 0 = .ok (.iload_n 0, 1) := dk_26 (dk_at dksX7_isBox_0 0 rfl rfl)
theorem dX7_isBox_1 : decode cX7_isBox 1 = .ok (.iconst 0, 1) := dk_3 (dk_at dksX7_isBox_0 1 rfl rfl)
theorem dX7_isBox_2 : decode cX7_isBox 2 = .ok (.bipush 7, 2) := dk_16 7 (dk_at dksX7_isBox_0 2 rfl rfl)
theorem dX7_isBox_4 : decode cX7_isBox 4 = .ok (.invokestatic 207, 3) := dk_184 0 207 (dk_at dksX7_isBox_0 4 rfl rfl)
theorem dX7_isBox_7 : decode cX7_isBox 7 = .ok (.ireturn, 1) := dk_172 (dk_at dksX7_isBox_0 7 rfl rfl)
abbrev cX7_isIn : ByteArray := prog_14_method_8_code
def yX7_isIn : MethodName := ⟨RX7, "isIn", "(III)Z"⟩
def dkwX7_isIn_0 : List UInt8 := [26, 27, 161, 0, 12, 26, 28, 163, 0, 7, 4, 167, 0, 4, 3, 172]
abbrev dktX7_isIn_0 : List UInt8 := dkwX7_isIn_0 ++ []
theorem dksX7_isIn_0 : cX7_isIn.data.toList.drop 0 = dktX7_isIn_0 := by decide +kernel
theorem dX7_isIn_0 : decode cX7_isIn 0 = .ok (.iload_n 0, 1) := dk_26 (dk_at dksX7_isIn_0 0 rfl rfl)
theorem dX7_isIn_1 : decode cX7_isIn 1 = .ok (.iload_n 1, 1) := dk_27 (dk_at dksX7_isIn_0 1 rfl rfl)
theorem dX7_isIn_2 : decode cX7_isIn 2 = .ok (.if_icmp .lt 12, 3) := dk_161 0 12 (dk_at dksX7_isIn_0 2 rfl rfl)
theorem dX7_isIn_5 : decode cX7_isIn 5 = .ok (.iload_n 0, 1) := dk_26 (dk_at dksX7_isIn_0 5 rfl rfl)
theorem dX7_isIn_6 : decode cX7_isIn 6 = .ok (.iload_n 2, 1) := dk_28 (dk_at dksX7_isIn_0 6 rfl rfl)
theorem dX7_isIn_7 : decode cX7_isIn 7 = .ok (.if_icmp .gt 7, 3) := dk_163 0 7 (dk_at dksX7_isIn_0 7 rfl rfl)
theorem dX7_isIn_10 : decode cX7_isIn 10 = .ok (.iconst 1, 1) := dk_4 (dk_at dksX7_isIn_0 10 rfl rfl)
theorem dX7_isIn_11 : decode cX7_isIn 11 = .ok (.goto 4, 3) := dk_167 0 4 (dk_at dksX7_isIn_0 11 rfl rfl)
theorem dX7_isIn_14 : decode cX7_isIn 14 = .ok (.iconst 0, 1) := dk_3 (dk_at dksX7_isIn_0 14 rfl rfl)
theorem dX7_isIn_15 : decode cX7_isIn 15 = .ok (.ireturn, 1) := dk_172 (dk_at dksX7_isIn_0 15 rfl rfl)
abbrev cX7_octet : ByteArray := prog_14_method_9_code
def yX7_octet : MethodName := ⟨RX7, "octet", "(I)I"⟩
def dkwX7_octet_0 : List UInt8 := [42, 180, 0, 7, 27, 51, 17, 0, 255, 126, 172]
abbrev dktX7_octet_0 : List UInt8 := dkwX7_octet_0 ++ []
theorem dksX7_octet_0 : cX7_octet.data.toList.drop 0 = dktX7_octet_0 := by decide +kernel
theorem dX7_octet_0 : decode cX7_octet 0 = .ok (.aload_n 0, 1) := dk_42 (dk_at dksX7_octet_0 0 rfl rfl)
theorem dX7_octet_1 : decode cX7_octet 1 = .ok (.getfield 7, 3) := dk_180 0 7 (dk_at dksX7_octet_0 1 rfl rfl)
theorem dX7_octet_4 : decode cX7_octet 4 = .ok (.iload_n 1, 1) := dk_27 (dk_at dksX7_octet_0 4 rfl rfl)
theorem dX7_octet_5 : decode cX7_octet 5 = .ok (.baload, 1) := dk_51 (dk_at dksX7_octet_0 5 rfl rfl)
theorem dX7_octet_6 : decode cX7_octet 6 = .ok (.sipush 255, 3) := dk_17 0 255 (dk_at dksX7_octet_0 6 rfl rfl)
theorem dX7_octet_9 : decode cX7_octet 9 = .ok (.iand, 1) := dk_126 (dk_at dksX7_octet_0 9 rfl rfl)
theorem dX7_octet_10 : decode cX7_octet 10 = .ok (.ireturn, 1) := dk_172 (dk_at dksX7_octet_0 10 rfl rfl)
abbrev cX7_cards : ByteArray := prog_14_method_12_code
def yX7_cards : MethodName := ⟨RX7, "cards", "(I)I"⟩
def dkwX7_cards_0 : List UInt8 := [42, 3, 181, 0, 190, 27, 184, 0, 214, 153, 0, 12, 42, 180, 0, 17, 27, 46, 167, 0, 4, 2, 172]
abbrev dktX7_cards_0 : List UInt8 := dkwX7_cards_0 ++ []
theorem dksX7_cards_0 : cX7_cards.data.toList.drop 0 = dktX7_cards_0 := by decide +kernel
theorem dX7_cards_0 : decode cX7_cards 0 = .ok (.aload_n 0, 1) := dk_42 (dk_at dksX7_cards_0 0 rfl rfl)
theorem dX7_cards_1 : decode cX7_cards 1 = .ok (.iconst 0, 1) := dk_3 (dk_at dksX7_cards_0 1 rfl rfl)
theorem dX7_cards_2 : decode cX7_cards 2 = .ok (.putfield 190, 3) := dk_181 0 190 (dk_at dksX7_cards_0 2 rfl rfl)
theorem dX7_cards_5 : decode cX7_cards 5 = .ok (.iload_n 1, 1) := dk_27 (dk_at dksX7_cards_0 5 rfl rfl)
theorem dX7_cards_6 : decode cX7_cards 6 = .ok (.invokestatic 214, 3) := dk_184 0 214 (dk_at dksX7_cards_0 6 rfl rfl)
theorem dX7_cards_9 : decode cX7_cards 9 = .ok (.ifCond .eq 12, 3) := dk_153 0 12 (dk_at dksX7_cards_0 9 rfl rfl)
theorem dX7_cards_12 : decode cX7_cards 12 = .ok (.aload_n 0, 1) := dk_42 (dk_at dksX7_cards_0 12 rfl rfl)
theorem dX7_cards_13 : decode cX7_cards 13 = .ok (.getfield 17, 3) := dk_180 0 17 (dk_at dksX7_cards_0 13 rfl rfl)
theorem dX7_cards_16 : decode cX7_cards 16 = .ok (.iload_n 1, 1) := dk_27 (dk_at dksX7_cards_0 16 rfl rfl)
theorem dX7_cards_17 : decode cX7_cards 17 = .ok (.iaload, 1) := dk_46 (dk_at dksX7_cards_0 17 rfl rfl)
theorem dX7_cards_18 : decode cX7_cards 18 = .ok (.goto 4, 3) := dk_167 0 4 (dk_at dksX7_cards_0 18 rfl rfl)
theorem dX7_cards_21 : decode cX7_cards 21 = .ok (.iconst (-1), 1) := dk_2 (dk_at dksX7_cards_0 21 rfl rfl)
theorem dX7_cards_22 : decode cX7_cards 22 = .ok (.ireturn, 1) := dk_172 (dk_at dksX7_cards_0 22 rfl rfl)
abbrev cX7_column : ByteArray := prog_14_method_13_code
def yX7_column : MethodName := ⟨RX7, "column", "(III)I"⟩
def dkwX7_column_3 : List UInt8 := [100, 46, 172]
abbrev dktX7_column_3 : List UInt8 := dkwX7_column_3 ++ []
def dkwX7_column_2 : List UInt8 := [182, 0, 222, 153, 0, 5, 3, 172, 42, 180, 0, 13, 16, 20, 16, 40, 27, 104, 28, 96, 104, 29, 96, 4]
abbrev dktX7_column_2 : List UInt8 := dkwX7_column_2 ++ dktX7_column_3
def dkwX7_column_1 : List UInt8 := [180, 0, 17, 27, 184, 0, 214, 153, 0, 7, 27, 167, 0, 4, 3, 46, 161, 0, 7, 4, 167, 0, 4, 3]
abbrev dktX7_column_1 : List UInt8 := dkwX7_column_1 ++ dktX7_column_2
def dkwX7_column_0 : List UInt8 := [42, 27, 184, 0, 214, 153, 0, 38, 29, 4, 16, 20, 184, 0, 207, 153, 0, 28, 28, 155, 0, 24, 28, 42]
abbrev dktX7_column_0 : List UInt8 := dkwX7_column_0 ++ dktX7_column_1
theorem dksX7_column_0 : cX7_column.data.toList.drop 0 = dktX7_column_0 := by decide +kernel
theorem dksX7_column_1 : cX7_column.data.toList.drop 24 = dktX7_column_1 := dk_seg dksX7_column_0 24 rfl rfl
theorem dksX7_column_2 : cX7_column.data.toList.drop 48 = dktX7_column_2 := dk_seg dksX7_column_1 24 rfl rfl
theorem dksX7_column_3 : cX7_column.data.toList.drop 72 = dktX7_column_3 := dk_seg dksX7_column_2 24 rfl rfl
theorem dX7_column_0 : decode cX7_column 0 = .ok (.aload_n 0, 1) := dk_42 (dk_at dksX7_column_0 0 rfl rfl)
theorem dX7_column_1 : decode cX7_column 1 = .ok (.iload_n 1, 1) := dk_27 (dk_at dksX7_column_0 1 rfl rfl)
theorem dX7_column_2 : decode cX7_column 2 = .ok (.invokestatic 214, 3) := dk_184 0 214 (dk_at dksX7_column_0 2 rfl rfl)
theorem dX7_column_5 : decode cX7_column 5 = .ok (.ifCond .eq 38, 3) := dk_153 0 38 (dk_at dksX7_column_0 5 rfl rfl)
theorem dX7_column_8 : decode cX7_column 8 = .ok (.iload_n 3, 1) := dk_29 (dk_at dksX7_column_0 8 rfl rfl)
theorem dX7_column_9 : decode cX7_column 9 = .ok (.iconst 1, 1) := dk_4 (dk_at dksX7_column_0 9 rfl rfl)
theorem dX7_column_10 : decode cX7_column 10 = .ok (.bipush 20, 2) := dk_16 20 (dk_at dksX7_column_0 10 rfl rfl)
theorem dX7_column_12 : decode cX7_column 12 = .ok (.invokestatic 207, 3) := dk_184 0 207 (dk_at dksX7_column_0 12 rfl rfl)
theorem dX7_column_15 : decode cX7_column 15 = .ok (.ifCond .eq 28, 3) := dk_153 0 28 (dk_at dksX7_column_0 15 rfl rfl)
theorem dX7_column_18 : decode cX7_column 18 = .ok (.iload_n 2, 1) := dk_28 (dk_at dksX7_column_0 18 rfl rfl)
theorem dX7_column_19 : decode cX7_column 19 = .ok (.ifCond .lt 24, 3) := dk_155 0 24 (dk_at dksX7_column_0 19 rfl rfl)
theorem dX7_column_22 : decode cX7_column 22 = .ok (.iload_n 2, 1) := dk_28 (dk_at dksX7_column_0 22 rfl rfl)
theorem dX7_column_23 : decode cX7_column 23 = .ok (.aload_n 0, 1) := dk_42 (dk_at dksX7_column_0 23 rfl rfl)
theorem dX7_column_24 : decode cX7_column 24 = .ok (.getfield 17, 3) := dk_180 0 17 (dk_at dksX7_column_1 0 rfl rfl)
theorem dX7_column_27 : decode cX7_column 27 = .ok (.iload_n 1, 1) := dk_27 (dk_at dksX7_column_1 3 rfl rfl)
theorem dX7_column_28 : decode cX7_column 28 = .ok (.invokestatic 214, 3) := dk_184 0 214 (dk_at dksX7_column_1 4 rfl rfl)
theorem dX7_column_31 : decode cX7_column 31 = .ok (.ifCond .eq 7, 3) := dk_153 0 7 (dk_at dksX7_column_1 7 rfl rfl)
theorem dX7_column_34 : decode cX7_column 34 = .ok (.iload_n 1, 1) := dk_27 (dk_at dksX7_column_1 10 rfl rfl)
theorem dX7_column_35 : decode cX7_column 35 = .ok (.goto 4, 3) := dk_167 0 4 (dk_at dksX7_column_1 11 rfl rfl)
theorem dX7_column_38 : decode cX7_column 38 = .ok (.iconst 0, 1) := dk_3 (dk_at dksX7_column_1 14 rfl rfl)
theorem dX7_column_39 : decode cX7_column 39 = .ok (.iaload, 1) := dk_46 (dk_at dksX7_column_1 15 rfl rfl)
theorem dX7_column_40 : decode cX7_column 40 = .ok (.if_icmp .lt 7, 3) := dk_161 0 7 (dk_at dksX7_column_1 16 rfl rfl)
theorem dX7_column_43 : decode cX7_column 43 = .ok (.iconst 1, 1) := dk_4 (dk_at dksX7_column_1 19 rfl rfl)
theorem dX7_column_44 : decode cX7_column 44 = .ok (.goto 4, 3) := dk_167 0 4 (dk_at dksX7_column_1 20 rfl rfl)
theorem dX7_column_47 : decode cX7_column 47 = .ok (.iconst 0, 1) := dk_3 (dk_at dksX7_column_1 23 rfl rfl)
theorem dX7_column_48 : decode cX7_column 48 = .ok (.invokevirtual 222, 3) := dk_182 0 222 (dk_at dksX7_column_2 0 rfl rfl)
theorem dX7_column_51 : decode cX7_column 51 = .ok (.ifCond .eq 5, 3) := dk_153 0 5 (dk_at dksX7_column_2 3 rfl rfl)
theorem dX7_column_54 : decode cX7_column 54 = .ok (.iconst 0, 1) := dk_3 (dk_at dksX7_column_2 6 rfl rfl)
theorem dX7_column_55 : decode cX7_column 55 = .ok (.ireturn, 1) := dk_172 (dk_at dksX7_column_2 7 rfl rfl)
theorem dX7_column_56 : decode cX7_column 56 = .ok (.aload_n 0, 1) := dk_42 (dk_at dksX7_column_2 8 rfl rfl)
theorem dX7_column_57 : decode cX7_column 57 = .ok (.getfield 13, 3) := dk_180 0 13 (dk_at dksX7_column_2 9 rfl rfl)
theorem dX7_column_60 : decode cX7_column 60 = .ok (.bipush 20, 2) := dk_16 20 (dk_at dksX7_column_2 12 rfl rfl)
theorem dX7_column_62 : decode cX7_column 62 = .ok (.bipush 40, 2) := dk_16 40 (dk_at dksX7_column_2 14 rfl rfl)
theorem dX7_column_64 : decode cX7_column 64 = .ok (.iload_n 1, 1) := dk_27 (dk_at dksX7_column_2 16 rfl rfl)
theorem dX7_column_65 : decode cX7_column 65 = .ok (.imul, 1) := dk_104 (dk_at dksX7_column_2 17 rfl rfl)
theorem dX7_column_66 : decode cX7_column 66 = .ok (.iload_n 2, 1) := dk_28 (dk_at dksX7_column_2 18 rfl rfl)
theorem dX7_column_67 : decode cX7_column 67 = .ok (.iadd, 1) := dk_96 (dk_at dksX7_column_2 19 rfl rfl)
theorem dX7_column_68 : decode cX7_column 68 = .ok (.imul, 1) := dk_104 (dk_at dksX7_column_2 20 rfl rfl)
theorem dX7_column_69 : decode cX7_column 69 = .ok (.iload_n 3, 1) := dk_29 (dk_at dksX7_column_2 21 rfl rfl)
theorem dX7_column_70 : decode cX7_column 70 = .ok (.iadd, 1) := dk_96 (dk_at dksX7_column_2 22 rfl rfl)
theorem dX7_column_71 : decode cX7_column 71 = .ok (.iconst 1, 1) := dk_4 (dk_at dksX7_column_2 23 rfl rfl)
theorem dX7_column_72 : decode cX7_column 72 = .ok (.isub, 1) := dk_100 (dk_at dksX7_column_3 0 rfl rfl)
theorem dX7_column_73 : decode cX7_column 73 = .ok (.iaload, 1) := dk_46 (dk_at dksX7_column_3 1 rfl rfl)
theorem dX7_column_74 : decode cX7_column 74 = .ok (.ireturn, 1) := dk_172 (dk_at dksX7_column_3 2 rfl rfl)
abbrev cX7_throwsIf : ByteArray := prog_14_method_3_code
def yX7_throwsIf : MethodName := ⟨RX7, "throwsIf", "(Z)Z"⟩
def dkwX7_throwsIf_0 : List UInt8 := [42, 27, 153, 0, 7, 4, 167, 0, 4, 3, 181, 0, 190, 27, 172]
abbrev dktX7_throwsIf_0 : List UInt8 := dkwX7_throwsIf_0 ++ []
theorem dksX7_throwsIf_0 : cX7_throwsIf.data.toList.drop 0 = dktX7_throwsIf_0 := by decide +kernel
theorem dX7_throwsIf_0 : decode cX7_throwsIf 0 = .ok (.aload_n 0, 1) := dk_42 (dk_at dksX7_throwsIf_0 0 rfl rfl)
theorem dX7_throwsIf_1 : decode cX7_throwsIf 1 = .ok (.iload_n 1, 1) := dk_27 (dk_at dksX7_throwsIf_0 1 rfl rfl)
theorem dX7_throwsIf_2 : decode cX7_throwsIf 2 = .ok (.ifCond .eq 7, 3) := dk_153 0 7 (dk_at dksX7_throwsIf_0 2 rfl rfl)
theorem dX7_throwsIf_5 : decode cX7_throwsIf 5 = .ok (.iconst 1, 1) := dk_4 (dk_at dksX7_throwsIf_0 5 rfl rfl)
theorem dX7_throwsIf_6 : decode cX7_throwsIf 6 = .ok (.goto 4, 3) := dk_167 0 4 (dk_at dksX7_throwsIf_0 6 rfl rfl)
theorem dX7_throwsIf_9 : decode cX7_throwsIf 9 = .ok (.iconst 0, 1) := dk_3 (dk_at dksX7_throwsIf_0 9 rfl rfl)
theorem dX7_throwsIf_10 : decode cX7_throwsIf 10 = .ok (.putfield 190, 3) := dk_181 0 190 (dk_at dksX7_throwsIf_0 10 rfl rfl)
theorem dX7_throwsIf_13 : decode cX7_throwsIf 13 = .ok (.iload_n 1, 1) := dk_27 (dk_at dksX7_throwsIf_0 13 rfl rfl)
theorem dX7_throwsIf_14 : decode cX7_throwsIf 14 = .ok (.ireturn, 1) := dk_172 (dk_at dksX7_throwsIf_0 14 rfl rfl)
abbrev cX7_empty : ByteArray := prog_14_method_14_code
def yX7_empty : MethodName := ⟨RX7, "empty", "(I)I"⟩
def dkwX7_empty_1 : List UInt8 := [180, 0, 17, 27, 3, 79, 28, 172]
abbrev dktX7_empty_1 : List UInt8 := dkwX7_empty_1 ++ []
def dkwX7_empty_0 : List UInt8 := [42, 3, 181, 0, 190, 27, 184, 0, 214, 154, 0, 5, 2, 172, 42, 180, 0, 17, 27, 46, 61, 42]
abbrev dktX7_empty_0 : List UInt8 := dkwX7_empty_0 ++ dktX7_empty_1
theorem dksX7_empty_0 : cX7_empty.data.toList.drop 0 = dktX7_empty_0 := by decide +kernel
theorem dksX7_empty_1 : cX7_empty.data.toList.drop 22 = dktX7_empty_1 := dk_seg dksX7_empty_0 22 rfl rfl
theorem dX7_empty_0 : decode cX7_empty 0 = .ok (.aload_n 0, 1) := dk_42 (dk_at dksX7_empty_0 0 rfl rfl)
theorem dX7_empty_1 : decode cX7_empty 1 = .ok (.iconst 0, 1) := dk_3 (dk_at dksX7_empty_0 1 rfl rfl)
theorem dX7_empty_2 : decode cX7_empty 2 = .ok (.putfield 190, 3) := dk_181 0 190 (dk_at dksX7_empty_0 2 rfl rfl)
theorem dX7_empty_5 : decode cX7_empty 5 = .ok (.iload_n 1, 1) := dk_27 (dk_at dksX7_empty_0 5 rfl rfl)
theorem dX7_empty_6 : decode cX7_empty 6 = .ok (.invokestatic 214, 3) := dk_184 0 214 (dk_at dksX7_empty_0 6 rfl rfl)
theorem dX7_empty_9 : decode cX7_empty 9 = .ok (.ifCond .ne 5, 3) := dk_154 0 5 (dk_at dksX7_empty_0 9 rfl rfl)
theorem dX7_empty_12 : decode cX7_empty 12 = .ok (.iconst (-1), 1) := dk_2 (dk_at dksX7_empty_0 12 rfl rfl)
theorem dX7_empty_13 : decode cX7_empty 13 = .ok (.ireturn, 1) := dk_172 (dk_at dksX7_empty_0 13 rfl rfl)
theorem dX7_empty_14 : decode cX7_empty 14 = .ok (.aload_n 0, 1) := dk_42 (dk_at dksX7_empty_0 14 rfl rfl)
theorem dX7_empty_15 : decode cX7_empty 15 = .ok (.getfield 17, 3) := dk_180 0 17 (dk_at dksX7_empty_0 15 rfl rfl)
theorem dX7_empty_18 : decode cX7_empty 18 = .ok (.iload_n 1, 1) := dk_27 (dk_at dksX7_empty_0 18 rfl rfl)
theorem dX7_empty_19 : decode cX7_empty 19 = .ok (.iaload, 1) := dk_46 (dk_at dksX7_empty_0 19 rfl rfl)
theorem dX7_empty_20 : decode cX7_empty 20 = .ok (.istore_n 2, 1) := dk_61 (dk_at dksX7_empty_0 20 rfl rfl)
theorem dX7_empty_21 : decode cX7_empty 21 = .ok (.aload_n 0, 1) := dk_42 (dk_at dksX7_empty_0 21 rfl rfl)
theorem dX7_empty_22 : decode cX7_empty 22 = .ok (.getfield 17, 3) := dk_180 0 17 (dk_at dksX7_empty_1 0 rfl rfl)
theorem dX7_empty_25 : decode cX7_empty 25 = .ok (.iload_n 1, 1) := dk_27 (dk_at dksX7_empty_1 3 rfl rfl)
theorem dX7_empty_26 : decode cX7_empty 26 = .ok (.iconst 0, 1) := dk_3 (dk_at dksX7_empty_1 4 rfl rfl)
theorem dX7_empty_27 : decode cX7_empty 27 = .ok (.iastore, 1) := dk_79 (dk_at dksX7_empty_1 5 rfl rfl)
theorem dX7_empty_28 : decode cX7_empty 28 = .ok (.iload_n 2, 1) := dk_28 (dk_at dksX7_empty_1 6 rfl rfl)
theorem dX7_empty_29 : decode cX7_empty 29 = .ok (.ireturn, 1) := dk_172 (dk_at dksX7_empty_1 7 rfl rfl)
abbrev cX7_fault : ByteArray := prog_14_method_22_code
def yX7_fault : MethodName := ⟨RX7, "fault", "()I"⟩
def dkwX7_fault_0 : List UInt8 := [42, 3, 181, 0, 190, 42, 180, 0, 252, 172]
abbrev dktX7_fault_0 : List UInt8 := dkwX7_fault_0 ++ []
theorem dksX7_fault_0 : cX7_fault.data.toList.drop 0 = dktX7_fault_0 := by decide +kernel
theorem dX7_fault_0 : decode cX7_fault 0 = .ok (.aload_n 0, 1) := dk_42 (dk_at dksX7_fault_0 0 rfl rfl)
theorem dX7_fault_1 : decode cX7_fault 1 = .ok (.iconst 0, 1) := dk_3 (dk_at dksX7_fault_0 1 rfl rfl)
theorem dX7_fault_2 : decode cX7_fault 2 = .ok (.putfield 190, 3) := dk_181 0 190 (dk_at dksX7_fault_0 2 rfl rfl)
theorem dX7_fault_5 : decode cX7_fault 5 = .ok (.aload_n 0, 1) := dk_42 (dk_at dksX7_fault_0 5 rfl rfl)
theorem dX7_fault_6 : decode cX7_fault 6 = .ok (.getfield 252, 3) := dk_180 0 252 (dk_at dksX7_fault_0 6 rfl rfl)
theorem dX7_fault_9 : decode cX7_fault 9 = .ok (.ireturn, 1) := dk_172 (dk_at dksX7_fault_0 9 rfl rfl)
abbrev cX7_board : ByteArray := prog_14_method_29_code
def yX7_board : MethodName := ⟨RX7, "board", "()I"⟩
def dkwX7_board_3 : List UInt8 := [42, 4, 3, 182, 1, 90, 42, 180, 0, 26, 3, 46, 172]
abbrev dktX7_board_3 : List UInt8 := dkwX7_board_3 ++ []
def dkwX7_board_2 : List UInt8 := [132, 1, 1, 167, 255, 239, 42, 182, 1, 6, 42, 182, 1, 86, 154, 0, 10, 2, 42, 180, 0, 255, 100, 172]
abbrev dktX7_board_2 : List UInt8 := dkwX7_board_2 ++ dktX7_board_3
def dkwX7_board_1 : List UInt8 := [180, 0, 26, 4, 3, 79, 3, 60, 27, 17, 0, 217, 162, 0, 16, 42, 180, 0, 29, 27, 3, 79]
abbrev dktX7_board_1 : List UInt8 := dkwX7_board_1 ++ dktX7_board_2
def dkwX7_board_0 : List UInt8 := [42, 3, 181, 0, 190, 42, 182, 0, 211, 42, 3, 181, 0, 252, 42, 17, 2, 188, 181, 0, 233, 42]
abbrev dktX7_board_0 : List UInt8 := dkwX7_board_0 ++ dktX7_board_1
theorem dksX7_board_0 : cX7_board.data.toList.drop 0 = dktX7_board_0 := by decide +kernel
theorem dksX7_board_1 : cX7_board.data.toList.drop 22 = dktX7_board_1 := dk_seg dksX7_board_0 22 rfl rfl
theorem dksX7_board_2 : cX7_board.data.toList.drop 44 = dktX7_board_2 := dk_seg dksX7_board_1 22 rfl rfl
theorem dksX7_board_3 : cX7_board.data.toList.drop 68 = dktX7_board_3 := dk_seg dksX7_board_2 24 rfl rfl
theorem dX7_board_0 : decode cX7_board 0 = .ok (.aload_n 0, 1) := dk_42 (dk_at dksX7_board_0 0 rfl rfl)
theorem dX7_board_1 : decode cX7_board 1 = .ok (.iconst 0, 1) := dk_3 (dk_at dksX7_board_0 1 rfl rfl)
theorem dX7_board_2 : decode cX7_board 2 = .ok (.putfield 190, 3) := dk_181 0 190 (dk_at dksX7_board_0 2 rfl rfl)
theorem dX7_board_5 : decode cX7_board 5 = .ok (.aload_n 0, 1) := dk_42 (dk_at dksX7_board_0 5 rfl rfl)
theorem dX7_board_6 : decode cX7_board 6 = .ok (.invokevirtual 211, 3) := dk_182 0 211 (dk_at dksX7_board_0 6 rfl rfl)
theorem dX7_board_9 : decode cX7_board 9 = .ok (.aload_n 0, 1) := dk_42 (dk_at dksX7_board_0 9 rfl rfl)
theorem dX7_board_10 : decode cX7_board 10 = .ok (.iconst 0, 1) := dk_3 (dk_at dksX7_board_0 10 rfl rfl)
theorem dX7_board_11 : decode cX7_board 11 = .ok (.putfield 252, 3) := dk_181 0 252 (dk_at dksX7_board_0 11 rfl rfl)
theorem dX7_board_14 : decode cX7_board 14 = .ok (.aload_n 0, 1) := dk_42 (dk_at dksX7_board_0 14 rfl rfl)
theorem dX7_board_15 : decode cX7_board 15 = .ok (.sipush 700, 3) := dk_17 2 188 (dk_at dksX7_board_0 15 rfl rfl)
theorem dX7_board_18 : decode cX7_board 18 = .ok (.putfield 233, 3) := dk_181 0 233 (dk_at dksX7_board_0 18 rfl rfl)
theorem dX7_board_21 : decode cX7_board 21 = .ok (.aload_n 0, 1) := dk_42 (dk_at dksX7_board_0 21 rfl rfl)
theorem dX7_board_22 : decode cX7_board 22 = .ok (.getfield 26, 3) := dk_180 0 26 (dk_at dksX7_board_1 0 rfl rfl)
theorem dX7_board_25 : decode cX7_board 25 = .ok (.iconst 1, 1) := dk_4 (dk_at dksX7_board_1 3 rfl rfl)
theorem dX7_board_26 : decode cX7_board 26 = .ok (.iconst 0, 1) := dk_3 (dk_at dksX7_board_1 4 rfl rfl)
theorem dX7_board_27 : decode cX7_board 27 = .ok (.iastore, 1) := dk_79 (dk_at dksX7_board_1 5 rfl rfl)
theorem dX7_board_28 : decode cX7_board 28 = .ok (.iconst 0, 1) := dk_3 (dk_at dksX7_board_1 6 rfl rfl)
theorem dX7_board_29 : decode cX7_board 29 = .ok (.istore_n 1, 1) := dk_60 (dk_at dksX7_board_1 7 rfl rfl)
theorem dX7_board_30 : decode cX7_board 30 = .ok (.iload_n 1, 1) := dk_27 (dk_at dksX7_board_1 8 rfl rfl)
theorem dX7_board_31 : decode cX7_board 31 = .ok (.sipush 217, 3) := dk_17 0 217 (dk_at dksX7_board_1 9 rfl rfl)
theorem dX7_board_34 : decode cX7_board 34 = .ok (.if_icmp .ge 16, 3) := dk_162 0 16 (dk_at dksX7_board_1 12 rfl rfl)
theorem dX7_board_37 : decode cX7_board 37 = .ok (.aload_n 0, 1) := dk_42 (dk_at dksX7_board_1 15 rfl rfl)
theorem dX7_board_38 : decode cX7_board 38 = .ok (.getfield 29, 3) := dk_180 0 29 (dk_at dksX7_board_1 16 rfl rfl)
theorem dX7_board_41 : decode cX7_board 41 = .ok (.iload_n 1, 1) := dk_27 (dk_at dksX7_board_1 19 rfl rfl)
theorem dX7_board_42 : decode cX7_board 42 = .ok (.iconst 0, 1) := dk_3 (dk_at dksX7_board_1 20 rfl rfl)
theorem dX7_board_43 : decode cX7_board 43 = .ok (.iastore, 1) := dk_79 (dk_at dksX7_board_1 21 rfl rfl)
theorem dX7_board_44 : decode cX7_board 44 = .ok (.iinc 1 1, 3) := dk_132 1 1 (dk_at dksX7_board_2 0 rfl rfl)
theorem dX7_board_47 : decode cX7_board 47 = .ok (.goto (-17), 3) := dk_167 255 239 (dk_at dksX7_board_2 3 rfl rfl)
theorem dX7_board_50 : decode cX7_board 50 = .ok (.aload_n 0, 1) := dk_42 (dk_at dksX7_board_2 6 rfl rfl)
theorem dX7_board_51 : decode cX7_board 51 = .ok (.invokevirtual 262, 3) := dk_182 1 6 (dk_at dksX7_board_2 7 rfl rfl)
theorem dX7_board_54 : decode cX7_board 54 = .ok (.aload_n 0, 1) := dk_42 (dk_at dksX7_board_2 10 rfl rfl)
theorem dX7_board_55 : decode cX7_board 55 = .ok (.invokevirtual 342, 3) := dk_182 1 86 (dk_at dksX7_board_2 11 rfl rfl)
theorem dX7_board_58 : decode cX7_board 58 = .ok (.ifCond .ne 10, 3) := dk_154 0 10 (dk_at dksX7_board_2 14 rfl rfl)
theorem dX7_board_61 : decode cX7_board 61 = .ok (.iconst (-1), 1) := dk_2 (dk_at dksX7_board_2 17 rfl rfl)
theorem dX7_board_62 : decode cX7_board 62 = .ok (.aload_n 0, 1) := dk_42 (dk_at dksX7_board_2 18 rfl rfl)
theorem dX7_board_63 : decode cX7_board 63 = .ok (.getfield 255, 3) := dk_180 0 255 (dk_at dksX7_board_2 19 rfl rfl)
theorem dX7_board_66 : decode cX7_board 66 = .ok (.isub, 1) := dk_100 (dk_at dksX7_board_2 22 rfl rfl)
theorem dX7_board_67 : decode cX7_board 67 = .ok (.ireturn, 1) := dk_172 (dk_at dksX7_board_2 23 rfl rfl)
theorem dX7_board_68 : decode cX7_board 68 = .ok (.aload_n 0, 1) := dk_42 (dk_at dksX7_board_3 0 rfl rfl)
theorem dX7_board_69 : decode cX7_board 69 = .ok (.iconst 1, 1) := dk_4 (dk_at dksX7_board_3 1 rfl rfl)
theorem dX7_board_70 : decode cX7_board 70 = .ok (.iconst 0, 1) := dk_3 (dk_at dksX7_board_3 2 rfl rfl)
theorem dX7_board_71 : decode cX7_board 71 = .ok (.invokevirtual 346, 3) := dk_182 1 90 (dk_at dksX7_board_3 3 rfl rfl)
theorem dX7_board_74 : decode cX7_board 74 = .ok (.aload_n 0, 1) := dk_42 (dk_at dksX7_board_3 6 rfl rfl)
theorem dX7_board_75 : decode cX7_board 75 = .ok (.getfield 26, 3) := dk_180 0 26 (dk_at dksX7_board_3 7 rfl rfl)
theorem dX7_board_78 : decode cX7_board 78 = .ok (.iconst 0, 1) := dk_3 (dk_at dksX7_board_3 10 rfl rfl)
theorem dX7_board_79 : decode cX7_board 79 = .ok (.iaload, 1) := dk_46 (dk_at dksX7_board_3 11 rfl rfl)
theorem dX7_board_80 : decode cX7_board 80 = .ok (.ireturn, 1) := dk_172 (dk_at dksX7_board_3 12 rfl rfl)
abbrev cX7_next : ByteArray := prog_14_method_18_code
def yX7_next : MethodName := ⟨RX7, "next", "()V"⟩
def dkwX7_next_13 : List UInt8 := [96, 181, 0, 204, 177]
abbrev dktX7_next_13 : List UInt8 := dkwX7_next_13 ++ []
def dkwX7_next_12 : List UInt8 := [16, 46, 160, 0, 7, 6, 167, 0, 4, 7, 181, 0, 236, 42, 27, 181, 0, 243, 42, 89, 180, 0, 204, 4]
abbrev dktX7_next_12 : List UInt8 := dkwX7_next_12 ++ dktX7_next_13
def dkwX7_next_11 : List UInt8 := [167, 0, 4, 5, 181, 0, 236, 167, 0, 45, 42, 27, 16, 45, 159, 0, 15, 27, 16, 59, 159, 0, 9, 27]
abbrev dktX7_next_11 : List UInt8 := dkwX7_next_11 ++ dktX7_next_12
def dkwX7_next_10 : List UInt8 := [132, 2, 1, 42, 89, 180, 0, 204, 4, 96, 181, 0, 204, 167, 255, 202, 42, 28, 5, 164, 0, 7, 7]
abbrev dktX7_next_10 : List UInt8 := dkwX7_next_10 ++ dktX7_next_11
def dkwX7_next_9 : List UInt8 := [180, 0, 243, 104, 42, 182, 0, 226, 96, 16, 48, 100, 167, 0, 7, 42, 180, 0, 243, 181, 0, 243]
abbrev dktX7_next_9 : List UInt8 := dkwX7_next_9 ++ dktX7_next_10
def dkwX7_next_8 : List UInt8 := [153, 0, 77, 42, 182, 0, 226, 184, 0, 249, 153, 0, 50, 42, 28, 5, 162, 0, 21, 16, 10, 42]
abbrev dktX7_next_8 : List UInt8 := dkwX7_next_8 ++ dktX7_next_9
def dkwX7_next_7 : List UInt8 := [167, 255, 204, 42, 28, 8, 164, 0, 7, 7, 167, 0, 4, 4, 181, 0, 236, 167, 0, 126, 27, 184, 0, 249]
abbrev dktX7_next_7 : List UInt8 := dkwX7_next_7 ++ dktX7_next_8
def dkwX7_next_6 : List UInt8 := [129, 167, 0, 7, 42, 180, 0, 239, 181, 0, 239, 132, 2, 1, 42, 89, 180, 0, 204, 4, 96, 181, 0, 204]
abbrev dktX7_next_6 : List UInt8 := dkwX7_next_6 ++ dktX7_next_7
def dkwX7_next_5 : List UInt8 := [184, 0, 246, 153, 0, 48, 42, 28, 8, 162, 0, 19, 42, 180, 0, 239, 16, 8, 121, 42, 182, 0, 226, 133]
abbrev dktX7_next_5 : List UInt8 := dkwX7_next_5 ++ dktX7_next_6
def dkwX7_next_4 : List UInt8 := [156, 0, 11, 42, 3, 181, 0, 236, 167, 0, 205, 27, 184, 0, 246, 153, 0, 75, 42, 182, 0, 226]
abbrev dktX7_next_4 : List UInt8 := dkwX7_next_4 ++ dktX7_next_5
def dkwX7_next_3 : List UInt8 := [181, 0, 236, 177, 42, 182, 0, 226, 60, 42, 9, 181, 0, 239, 42, 3, 181, 0, 243, 3, 61, 27]
abbrev dktX7_next_3 : List UInt8 := dkwX7_next_3 ++ dktX7_next_4
def dkwX7_next_2 : List UInt8 := [164, 0, 28, 42, 180, 0, 204, 42, 180, 0, 233, 161, 0, 17, 42, 42, 180, 0, 233, 181, 0, 230, 42, 7]
abbrev dktX7_next_2 : List UInt8 := dkwX7_next_2 ++ dktX7_next_3
def dkwX7_next_1 : List UInt8 := [96, 181, 0, 204, 167, 255, 228, 42, 42, 180, 0, 204, 181, 0, 230, 42, 180, 0, 201, 42, 180, 0, 233]
abbrev dktX7_next_1 : List UInt8 := dkwX7_next_1 ++ dktX7_next_2
def dkwX7_next_0 : List UInt8 := [42, 182, 0, 226, 16, 32, 159, 0, 12, 42, 182, 0, 226, 16, 10, 160, 0, 16, 42, 89, 180, 0, 204, 4]
abbrev dktX7_next_0 : List UInt8 := dkwX7_next_0 ++ dktX7_next_1
theorem dksX7_next_0 : cX7_next.data.toList.drop 0 = dktX7_next_0 := by decide +kernel
theorem dksX7_next_1 : cX7_next.data.toList.drop 24 = dktX7_next_1 := dk_seg dksX7_next_0 24 rfl rfl
theorem dksX7_next_2 : cX7_next.data.toList.drop 47 = dktX7_next_2 := dk_seg dksX7_next_1 23 rfl rfl
theorem dksX7_next_3 : cX7_next.data.toList.drop 71 = dktX7_next_3 := dk_seg dksX7_next_2 24 rfl rfl
theorem dksX7_next_4 : cX7_next.data.toList.drop 93 = dktX7_next_4 := dk_seg dksX7_next_3 22 rfl rfl
theorem dksX7_next_5 : cX7_next.data.toList.drop 115 = dktX7_next_5 := dk_seg dksX7_next_4 22 rfl rfl
theorem dksX7_next_6 : cX7_next.data.toList.drop 139 = dktX7_next_6 := dk_seg dksX7_next_5 24 rfl rfl
theorem dksX7_next_7 : cX7_next.data.toList.drop 163 = dktX7_next_7 := dk_seg dksX7_next_6 24 rfl rfl
theorem dksX7_next_8 : cX7_next.data.toList.drop 187 = dktX7_next_8 := dk_seg dksX7_next_7 24 rfl rfl
theorem dksX7_next_9 : cX7_next.data.toList.drop 209 = dktX7_next_9 := dk_seg dksX7_next_8 22 rfl rfl
theorem dksX7_next_10 : cX7_next.data.toList.drop 231 = dktX7_next_10 := dk_seg dksX7_next_9 22 rfl rfl
theorem dksX7_next_11 : cX7_next.data.toList.drop 254 = dktX7_next_11 := dk_seg dksX7_next_10 23 rfl rfl
theorem dksX7_next_12 : cX7_next.data.toList.drop 278 = dktX7_next_12 := dk_seg dksX7_next_11 24 rfl rfl
theorem dksX7_next_13 : cX7_next.data.toList.drop 302 = dktX7_next_13 := dk_seg dksX7_next_12 24 rfl rfl
theorem dX7_next_0 : decode cX7_next 0 = .ok (.aload_n 0, 1) := dk_42 (dk_at dksX7_next_0 0 rfl rfl)
theorem dX7_next_1 : decode cX7_next 1 = .ok (.invokevirtual 226, 3) := dk_182 0 226 (dk_at dksX7_next_0 1 rfl rfl)
theorem dX7_next_4 : decode cX7_next 4 = .ok (.bipush 32, 2) := dk_16 32 (dk_at dksX7_next_0 4 rfl rfl)
theorem dX7_next_6 : decode cX7_next 6 = .ok (.if_icmp .eq 12, 3) := dk_159 0 12 (dk_at dksX7_next_0 6 rfl rfl)
theorem dX7_next_9 : decode cX7_next 9 = .ok (.aload_n 0, 1) := dk_42 (dk_at dksX7_next_0 9 rfl rfl)
theorem dX7_next_10 : decode cX7_next 10 = .ok (.invokevirtual 226, 3) := dk_182 0 226 (dk_at dksX7_next_0 10 rfl rfl)
theorem dX7_next_13 : decode cX7_next 13 = .ok (.bipush 10, 2) := dk_16 10 (dk_at dksX7_next_0 13 rfl rfl)
theorem dX7_next_15 : decode cX7_next 15 = .ok (.if_icmp .ne 16, 3) := dk_160 0 16 (dk_at dksX7_next_0 15 rfl rfl)
theorem dX7_next_18 : decode cX7_next 18 = .ok (.aload_n 0, 1) := dk_42 (dk_at dksX7_next_0 18 rfl rfl)
theorem dX7_next_19 : decode cX7_next 19 = .ok (.dup, 1) := dk_89 (dk_at dksX7_next_0 19 rfl rfl)
theorem dX7_next_20 : decode cX7_next 20 = .ok (.getfield 204, 3) := dk_180 0 204 (dk_at dksX7_next_0 20 rfl rfl)
theorem dX7_next_23 : decode cX7_next 23 = .ok (.iconst 1, 1) := dk_4 (dk_at dksX7_next_0 23 rfl rfl)
theorem dX7_next_24 : decode cX7_next 24 = .ok (.iadd, 1) := dk_96 (dk_at dksX7_next_1 0 rfl rfl)
theorem dX7_next_25 : decode cX7_next 25 = .ok (.putfield 204, 3) := dk_181 0 204 (dk_at dksX7_next_1 1 rfl rfl)
theorem dX7_next_28 : decode cX7_next 28 = .ok (.goto (-28), 3) := dk_167 255 228 (dk_at dksX7_next_1 4 rfl rfl)
theorem dX7_next_31 : decode cX7_next 31 = .ok (.aload_n 0, 1) := dk_42 (dk_at dksX7_next_1 7 rfl rfl)
theorem dX7_next_32 : decode cX7_next 32 = .ok (.aload_n 0, 1) := dk_42 (dk_at dksX7_next_1 8 rfl rfl)
theorem dX7_next_33 : decode cX7_next 33 = .ok (.getfield 204, 3) := dk_180 0 204 (dk_at dksX7_next_1 9 rfl rfl)
theorem dX7_next_36 : decode cX7_next 36 = .ok (.putfield 230, 3) := dk_181 0 230 (dk_at dksX7_next_1 12 rfl rfl)
theorem dX7_next_39 : decode cX7_next 39 = .ok (.aload_n 0, 1) := dk_42 (dk_at dksX7_next_1 15 rfl rfl)
theorem dX7_next_40 : decode cX7_next 40 = .ok (.getfield 201, 3) := dk_180 0 201 (dk_at dksX7_next_1 16 rfl rfl)
theorem dX7_next_43 : decode cX7_next 43 = .ok (.aload_n 0, 1) := dk_42 (dk_at dksX7_next_1 19 rfl rfl)
theorem dX7_next_44 : decode cX7_next 44 = .ok (.getfield 233, 3) := dk_180 0 233 (dk_at dksX7_next_1 20 rfl rfl)
theorem dX7_next_47 : decode cX7_next 47 = .ok (.if_icmp .le 28, 3) := dk_164 0 28 (dk_at dksX7_next_2 0 rfl rfl)
theorem dX7_next_50 : decode cX7_next 50 = .ok (.aload_n 0, 1) := dk_42 (dk_at dksX7_next_2 3 rfl rfl)
theorem dX7_next_51 : decode cX7_next 51 = .ok (.getfield 204, 3) := dk_180 0 204 (dk_at dksX7_next_2 4 rfl rfl)
theorem dX7_next_54 : decode cX7_next 54 = .ok (.aload_n 0, 1) := dk_42 (dk_at dksX7_next_2 7 rfl rfl)
theorem dX7_next_55 : decode cX7_next 55 = .ok (.getfield 233, 3) := dk_180 0 233 (dk_at dksX7_next_2 8 rfl rfl)
theorem dX7_next_58 : decode cX7_next 58 = .ok (.if_icmp .lt 17, 3) := dk_161 0 17 (dk_at dksX7_next_2 11 rfl rfl)
theorem dX7_next_61 : decode cX7_next 61 = .ok (.aload_n 0, 1) := dk_42 (dk_at dksX7_next_2 14 rfl rfl)
theorem dX7_next_62 : decode cX7_next 62 = .ok (.aload_n 0, 1) := dk_42 (dk_at dksX7_next_2 15 rfl rfl)
theorem dX7_next_63 : decode cX7_next 63 = .ok (.getfield 233, 3) := dk_180 0 233 (dk_at dksX7_next_2 16 rfl rfl)
theorem dX7_next_66 : decode cX7_next 66 = .ok (.putfield 230, 3) := dk_181 0 230 (dk_at dksX7_next_2 19 rfl rfl)
theorem dX7_next_69 : decode cX7_next 69 = .ok (.aload_n 0, 1) := dk_42 (dk_at dksX7_next_2 22 rfl rfl)
theorem dX7_next_70 : decode cX7_next 70 = .ok (.iconst 4, 1) := dk_7 (dk_at dksX7_next_2 23 rfl rfl)
theorem dX7_next_71 : decode cX7_next 71 = .ok (.putfield 236, 3) := dk_181 0 236 (dk_at dksX7_next_3 0 rfl rfl)
theorem dX7_next_74 : decode cX7_next 74 = .ok (.return_, 1) := dk_177 (dk_at dksX7_next_3 3 rfl rfl)
theorem dX7_next_75 : decode cX7_next 75 = .ok (.aload_n 0, 1) := dk_42 (dk_at dksX7_next_3 4 rfl rfl)
theorem dX7_next_76 : decode cX7_next 76 = .ok (.invokevirtual 226, 3) := dk_182 0 226 (dk_at dksX7_next_3 5 rfl rfl)
theorem dX7_next_79 : decode cX7_next 79 = .ok (.istore_n 1, 1) := dk_60 (dk_at dksX7_next_3 8 rfl rfl)
theorem dX7_next_80 : decode cX7_next 80 = .ok (.aload_n 0, 1) := dk_42 (dk_at dksX7_next_3 9 rfl rfl)
theorem dX7_next_81 : decode cX7_next 81 = .ok (.lconst 0, 1) := dk_9 (dk_at dksX7_next_3 10 rfl rfl)
theorem dX7_next_82 : decode cX7_next 82 = .ok (.putfield 239, 3) := dk_181 0 239 (dk_at dksX7_next_3 11 rfl rfl)
theorem dX7_next_85 : decode cX7_next 85 = .ok (.aload_n 0, 1) := dk_42 (dk_at dksX7_next_3 14 rfl rfl)
theorem dX7_next_86 : decode cX7_next 86 = .ok (.iconst 0, 1) := dk_3 (dk_at dksX7_next_3 15 rfl rfl)
theorem dX7_next_87 : decode cX7_next 87 = .ok (.putfield 243, 3) := dk_181 0 243 (dk_at dksX7_next_3 16 rfl rfl)
theorem dX7_next_90 : decode cX7_next 90 = .ok (.iconst 0, 1) := dk_3 (dk_at dksX7_next_3 19 rfl rfl)
theorem dX7_next_91 : decode cX7_next 91 = .ok (.istore_n 2, 1) := dk_61 (dk_at dksX7_next_3 20 rfl rfl)
theorem dX7_next_92 : decode cX7_next 92 = .ok (.iload_n 1, 1) := dk_27 (dk_at dksX7_next_3 21 rfl rfl)
theorem dX7_next_93 : decode cX7_next 93 = .ok (.ifCond .ge 11, 3) := dk_156 0 11 (dk_at dksX7_next_4 0 rfl rfl)
theorem dX7_next_96 : decode cX7_next 96 = .ok (.aload_n 0, 1) := dk_42 (dk_at dksX7_next_4 3 rfl rfl)
theorem dX7_next_97 : decode cX7_next 97 = .ok (.iconst 0, 1) := dk_3 (dk_at dksX7_next_4 4 rfl rfl)
theorem dX7_next_98 : decode cX7_next 98 = .ok (.putfield 236, 3) := dk_181 0 236 (dk_at dksX7_next_4 5 rfl rfl)
theorem dX7_next_101 : decode cX7_next 101 = .ok (.goto 205, 3) := dk_167 0 205 (dk_at dksX7_next_4 8 rfl rfl)
theorem dX7_next_104 : decode cX7_next 104 = .ok (.iload_n 1, 1) := dk_27 (dk_at dksX7_next_4 11 rfl rfl)
theorem dX7_next_105 : decode cX7_next 105 = .ok (.invokestatic 246, 3) := dk_184 0 246 (dk_at dksX7_next_4 12 rfl rfl)
theorem dX7_next_108 : decode cX7_next 108 = .ok (.ifCond .eq 75, 3) := dk_153 0 75 (dk_at dksX7_next_4 15 rfl rfl)
theorem dX7_next_111 : decode cX7_next 111 = .ok (.aload_n 0, 1) := dk_42 (dk_at dksX7_next_4 18 rfl rfl)
theorem dX7_next_112 : decode cX7_next 112 = .ok (.invokevirtual 226, 3) := dk_182 0 226 (dk_at dksX7_next_4 19 rfl rfl)
theorem dX7_next_115 : decode cX7_next 115 = .ok (.invokestatic 246, 3) := dk_184 0 246 (dk_at dksX7_next_5 0 rfl rfl)
theorem dX7_next_118 : decode cX7_next 118 = .ok (.ifCond .eq 48, 3) := dk_153 0 48 (dk_at dksX7_next_5 3 rfl rfl)
theorem dX7_next_121 : decode cX7_next 121 = .ok (.aload_n 0, 1) := dk_42 (dk_at dksX7_next_5 6 rfl rfl)
theorem dX7_next_122 : decode cX7_next 122 = .ok (.iload_n 2, 1) := dk_28 (dk_at dksX7_next_5 7 rfl rfl)
theorem dX7_next_123 : decode cX7_next 123 = .ok (.iconst 5, 1) := dk_8 (dk_at dksX7_next_5 8 rfl rfl)
theorem dX7_next_124 : decode cX7_next 124 = .ok (.if_icmp .ge 19, 3) := dk_162 0 19 (dk_at dksX7_next_5 9 rfl rfl)
theorem dX7_next_127 : decode cX7_next 127 = .ok (.aload_n 0, 1) := dk_42 (dk_at dksX7_next_5 12 rfl rfl)
theorem dX7_next_128 : decode cX7_next 128 = .ok (.getfield 239, 3) := dk_180 0 239 (dk_at dksX7_next_5 13 rfl rfl)
theorem dX7_next_131 : decode cX7_next 131 = .ok (.bipush 8, 2) := dk_16 8 (dk_at dksX7_next_5 16 rfl rfl)
theorem dX7_next_133 : decode cX7_next 133 = .ok (.lshl, 1) := dk_121 (dk_at dksX7_next_5 18 rfl rfl)
theorem dX7_next_134 : decode cX7_next 134 = .ok (.aload_n 0, 1) := dk_42 (dk_at dksX7_next_5 19 rfl rfl)
theorem dX7_next_135 : decode cX7_next 135 = .ok (.invokevirtual 226, 3) := dk_182 0 226 (dk_at dksX7_next_5 20 rfl rfl)
theorem dX7_next_138 : decode cX7_next 138 = .ok (.i2l, 1) := dk_133 (dk_at dksX7_next_5 23 rfl rfl)
theorem dX7_next_139 : decode cX7_next 139 = .ok (.lor, 1) := dk_129 (dk_at dksX7_next_6 0 rfl rfl)
theorem dX7_next_140 : decode cX7_next 140 = .ok (.goto 7, 3) := dk_167 0 7 (dk_at dksX7_next_6 1 rfl rfl)
theorem dX7_next_143 : decode cX7_next 143 = .ok (.aload_n 0, 1) := dk_42 (dk_at dksX7_next_6 4 rfl rfl)
theorem dX7_next_144 : decode cX7_next 144 = .ok (.getfield 239, 3) := dk_180 0 239 (dk_at dksX7_next_6 5 rfl rfl)
theorem dX7_next_147 : decode cX7_next 147 = .ok (.putfield 239, 3) := dk_181 0 239 (dk_at dksX7_next_6 8 rfl rfl)
theorem dX7_next_150 : decode cX7_next 150 = .ok (.iinc 2 1, 3) := dk_132 2 1 (dk_at dksX7_next_6 11 rfl rfl)
theorem dX7_next_153 : decode cX7_next 153 = .ok (.aload_n 0, 1) := dk_42 (dk_at dksX7_next_6 14 rfl rfl)
theorem dX7_next_154 : decode cX7_next 154 = .ok (.dup, 1) := dk_89 (dk_at dksX7_next_6 15 rfl rfl)
theorem dX7_next_155 : decode cX7_next 155 = .ok (.getfield 204, 3) := dk_180 0 204 (dk_at dksX7_next_6 16 rfl rfl)
theorem dX7_next_158 : decode cX7_next 158 = .ok (.iconst 1, 1) := dk_4 (dk_at dksX7_next_6 19 rfl rfl)
theorem dX7_next_159 : decode cX7_next 159 = .ok (.iadd, 1) := dk_96 (dk_at dksX7_next_6 20 rfl rfl)
theorem dX7_next_160 : decode cX7_next 160 = .ok (.putfield 204, 3) := dk_181 0 204 (dk_at dksX7_next_6 21 rfl rfl)
theorem dX7_next_163 : decode cX7_next 163 = .ok (.goto (-52), 3) := dk_167 255 204 (dk_at dksX7_next_7 0 rfl rfl)
theorem dX7_next_166 : decode cX7_next 166 = .ok (.aload_n 0, 1) := dk_42 (dk_at dksX7_next_7 3 rfl rfl)
theorem dX7_next_167 : decode cX7_next 167 = .ok (.iload_n 2, 1) := dk_28 (dk_at dksX7_next_7 4 rfl rfl)
theorem dX7_next_168 : decode cX7_next 168 = .ok (.iconst 5, 1) := dk_8 (dk_at dksX7_next_7 5 rfl rfl)
theorem dX7_next_169 : decode cX7_next 169 = .ok (.if_icmp .le 7, 3) := dk_164 0 7 (dk_at dksX7_next_7 6 rfl rfl)
theorem dX7_next_172 : decode cX7_next 172 = .ok (.iconst 4, 1) := dk_7 (dk_at dksX7_next_7 9 rfl rfl)
theorem dX7_next_173 : decode cX7_next 173 = .ok (.goto 4, 3) := dk_167 0 4 (dk_at dksX7_next_7 10 rfl rfl)
theorem dX7_next_176 : decode cX7_next 176 = .ok (.iconst 1, 1) := dk_4 (dk_at dksX7_next_7 13 rfl rfl)
theorem dX7_next_177 : decode cX7_next 177 = .ok (.putfield 236, 3) := dk_181 0 236 (dk_at dksX7_next_7 14 rfl rfl)
theorem dX7_next_180 : decode cX7_next 180 = .ok (.goto 126, 3) := dk_167 0 126 (dk_at dksX7_next_7 17 rfl rfl)
theorem dX7_next_183 : decode cX7_next 183 = .ok (.iload_n 1, 1) := dk_27 (dk_at dksX7_next_7 20 rfl rfl)
theorem dX7_next_184 : decode cX7_next 184 = .ok (.invokestatic 249, 3) := dk_184 0 249 (dk_at dksX7_next_7 21 rfl rfl)
theorem dX7_next_187 : decode cX7_next 187 = .ok (.ifCond .eq 77, 3) := dk_153 0 77 (dk_at dksX7_next_8 0 rfl rfl)
theorem dX7_next_190 : decode cX7_next 190 = .ok (.aload_n 0, 1) := dk_42 (dk_at dksX7_next_8 3 rfl rfl)
theorem dX7_next_191 : decode cX7_next 191 = .ok (.invokevirtual 226, 3) := dk_182 0 226 (dk_at dksX7_next_8 4 rfl rfl)
theorem dX7_next_194 : decode cX7_next 194 = .ok (.invokestatic 249, 3) := dk_184 0 249 (dk_at dksX7_next_8 7 rfl rfl)
theorem dX7_next_197 : decode cX7_next 197 = .ok (.ifCond .eq 50, 3) := dk_153 0 50 (dk_at dksX7_next_8 10 rfl rfl)
theorem dX7_next_200 : decode cX7_next 200 = .ok (.aload_n 0, 1) := dk_42 (dk_at dksX7_next_8 13 rfl rfl)
theorem dX7_next_201 : decode cX7_next 201 = .ok (.iload_n 2, 1) := dk_28 (dk_at dksX7_next_8 14 rfl rfl)
theorem dX7_next_202 : decode cX7_next 202 = .ok (.iconst 2, 1) := dk_5 (dk_at dksX7_next_8 15 rfl rfl)
theorem dX7_next_203 : decode cX7_next 203 = .ok (.if_icmp .ge 21, 3) := dk_162 0 21 (dk_at dksX7_next_8 16 rfl rfl)
theorem dX7_next_206 : decode cX7_next 206 = .ok (.bipush 10, 2) := dk_16 10 (dk_at dksX7_next_8 19 rfl rfl)
theorem dX7_next_208 : decode cX7_next 208 = .ok (.aload_n 0, 1) := dk_42 (dk_at dksX7_next_8 21 rfl rfl)
theorem dX7_next_209 : decode cX7_next 209 = .ok (.getfield 243, 3) := dk_180 0 243 (dk_at dksX7_next_9 0 rfl rfl)
theorem dX7_next_212 : decode cX7_next 212 = .ok (.imul, 1) := dk_104 (dk_at dksX7_next_9 3 rfl rfl)
theorem dX7_next_213 : decode cX7_next 213 = .ok (.aload_n 0, 1) := dk_42 (dk_at dksX7_next_9 4 rfl rfl)
theorem dX7_next_214 : decode cX7_next 214 = .ok (.invokevirtual 226, 3) := dk_182 0 226 (dk_at dksX7_next_9 5 rfl rfl)
theorem dX7_next_217 : decode cX7_next 217 = .ok (.iadd, 1) := dk_96 (dk_at dksX7_next_9 8 rfl rfl)
theorem dX7_next_218 : decode cX7_next 218 = .ok (.bipush 48, 2) := dk_16 48 (dk_at dksX7_next_9 9 rfl rfl)
theorem dX7_next_220 : decode cX7_next 220 = .ok (.isub, 1) := dk_100 (dk_at dksX7_next_9 11 rfl rfl)
theorem dX7_next_221 : decode cX7_next 221 = .ok (.goto 7, 3) := dk_167 0 7 (dk_at dksX7_next_9 12 rfl rfl)
theorem dX7_next_224 : decode cX7_next 224 = .ok (.aload_n 0, 1) := dk_42 (dk_at dksX7_next_9 15 rfl rfl)
theorem dX7_next_225 : decode cX7_next 225 = .ok (.getfield 243, 3) := dk_180 0 243 (dk_at dksX7_next_9 16 rfl rfl)
theorem dX7_next_228 : decode cX7_next 228 = .ok (.putfield 243, 3) := dk_181 0 243 (dk_at dksX7_next_9 19 rfl rfl)
theorem dX7_next_231 : decode cX7_next 231 = .ok (.iinc 2 1, 3) := dk_132 2 1 (dk_at dksX7_next_10 0 rfl rfl)
theorem dX7_next_234 : decode cX7_next 234 = .ok (.aload_n 0, 1) := dk_42 (dk_at dksX7_next_10 3 rfl rfl)
theorem dX7_next_235 : decode cX7_next 235 = .ok (.dup, 1) := dk_89 (dk_at dksX7_next_10 4 rfl rfl)
theorem dX7_next_236 : decode cX7_next 236 = .ok (.getfield 204, 3) := dk_180 0 204 (dk_at dksX7_next_10 5 rfl rfl)
theorem dX7_next_239 : decode cX7_next 239 = .ok (.iconst 1, 1) := dk_4 (dk_at dksX7_next_10 8 rfl rfl)
theorem dX7_next_240 : decode cX7_next 240 = .ok (.iadd, 1) := dk_96 (dk_at dksX7_next_10 9 rfl rfl)
theorem dX7_next_241 : decode cX7_next 241 = .ok (.putfield 204, 3) := dk_181 0 204 (dk_at dksX7_next_10 10 rfl rfl)
theorem dX7_next_244 : decode cX7_next 244 = .ok (.goto (-54), 3) := dk_167 255 202 (dk_at dksX7_next_10 13 rfl rfl)
theorem dX7_next_247 : decode cX7_next 247 = .ok (.aload_n 0, 1) := dk_42 (dk_at dksX7_next_10 16 rfl rfl)
theorem dX7_next_248 : decode cX7_next 248 = .ok (.iload_n 2, 1) := dk_28 (dk_at dksX7_next_10 17 rfl rfl)
theorem dX7_next_249 : decode cX7_next 249 = .ok (.iconst 2, 1) := dk_5 (dk_at dksX7_next_10 18 rfl rfl)
theorem dX7_next_250 : decode cX7_next 250 = .ok (.if_icmp .le 7, 3) := dk_164 0 7 (dk_at dksX7_next_10 19 rfl rfl)
theorem dX7_next_253 : decode cX7_next 253 = .ok (.iconst 4, 1) := dk_7 (dk_at dksX7_next_10 22 rfl rfl)
theorem dX7_next_254 : decode cX7_next 254 = .ok (.goto 4, 3) := dk_167 0 4 (dk_at dksX7_next_11 0 rfl rfl)
theorem dX7_next_257 : decode cX7_next 257 = .ok (.iconst 2, 1) := dk_5 (dk_at dksX7_next_11 3 rfl rfl)
theorem dX7_next_258 : decode cX7_next 258 = .ok (.putfield 236, 3) := dk_181 0 236 (dk_at dksX7_next_11 4 rfl rfl)
theorem dX7_next_261 : decode cX7_next 261 = .ok (.goto 45, 3) := dk_167 0 45 (dk_at dksX7_next_11 7 rfl rfl)
theorem dX7_next_264 : decode cX7_next 264 = .ok (.aload_n 0, 1) := dk_42 (dk_at dksX7_next_11 10 rfl rfl)
theorem dX7_next_265 : decode cX7_next 265 = .ok (.iload_n 1, 1) := dk_27 (dk_at dksX7_next_11 11 rfl rfl)
theorem dX7_next_266 : decode cX7_next 266 = .ok (.bipush 45, 2) := dk_16 45 (dk_at dksX7_next_11 12 rfl rfl)
theorem dX7_next_268 : decode cX7_next 268 = .ok (.if_icmp .eq 15, 3) := dk_159 0 15 (dk_at dksX7_next_11 14 rfl rfl)
theorem dX7_next_271 : decode cX7_next 271 = .ok (.iload_n 1, 1) := dk_27 (dk_at dksX7_next_11 17 rfl rfl)
theorem dX7_next_272 : decode cX7_next 272 = .ok (.bipush 59, 2) := dk_16 59 (dk_at dksX7_next_11 18 rfl rfl)
theorem dX7_next_274 : decode cX7_next 274 = .ok (.if_icmp .eq 9, 3) := dk_159 0 9 (dk_at dksX7_next_11 20 rfl rfl)
theorem dX7_next_277 : decode cX7_next 277 = .ok (.iload_n 1, 1) := dk_27 (dk_at dksX7_next_11 23 rfl rfl)
theorem dX7_next_278 : decode cX7_next 278 = .ok (.bipush 46, 2) := dk_16 46 (dk_at dksX7_next_12 0 rfl rfl)
theorem dX7_next_280 : decode cX7_next 280 = .ok (.if_icmp .ne 7, 3) := dk_160 0 7 (dk_at dksX7_next_12 2 rfl rfl)
theorem dX7_next_283 : decode cX7_next 283 = .ok (.iconst 3, 1) := dk_6 (dk_at dksX7_next_12 5 rfl rfl)
theorem dX7_next_284 : decode cX7_next 284 = .ok (.goto 4, 3) := dk_167 0 4 (dk_at dksX7_next_12 6 rfl rfl)
theorem dX7_next_287 : decode cX7_next 287 = .ok (.iconst 4, 1) := dk_7 (dk_at dksX7_next_12 9 rfl rfl)
theorem dX7_next_288 : decode cX7_next 288 = .ok (.putfield 236, 3) := dk_181 0 236 (dk_at dksX7_next_12 10 rfl rfl)
theorem dX7_next_291 : decode cX7_next 291 = .ok (.aload_n 0, 1) := dk_42 (dk_at dksX7_next_12 13 rfl rfl)
theorem dX7_next_292 : decode cX7_next 292 = .ok (.iload_n 1, 1) := dk_27 (dk_at dksX7_next_12 14 rfl rfl)
theorem dX7_next_293 : decode cX7_next 293 = .ok (.putfield 243, 3) := dk_181 0 243 (dk_at dksX7_next_12 15 rfl rfl)
theorem dX7_next_296 : decode cX7_next 296 = .ok (.aload_n 0, 1) := dk_42 (dk_at dksX7_next_12 18 rfl rfl)
theorem dX7_next_297 : decode cX7_next 297 = .ok (.dup, 1) := dk_89 (dk_at dksX7_next_12 19 rfl rfl)
theorem dX7_next_298 : decode cX7_next 298 = .ok (.getfield 204, 3) := dk_180 0 204 (dk_at dksX7_next_12 20 rfl rfl)
theorem dX7_next_301 : decode cX7_next 301 = .ok (.iconst 1, 1) := dk_4 (dk_at dksX7_next_12 23 rfl rfl)
theorem dX7_next_302 : decode cX7_next 302 = .ok (.iadd, 1) := dk_96 (dk_at dksX7_next_13 0 rfl rfl)
theorem dX7_next_303 : decode cX7_next 303 = .ok (.putfield 204, 3) := dk_181 0 204 (dk_at dksX7_next_13 1 rfl rfl)
theorem dX7_next_306 : decode cX7_next 306 = .ok (.return_, 1) := dk_177 (dk_at dksX7_next_13 4 rfl rfl)
abbrev cX7_peek : ByteArray := prog_14_method_15_code
def yX7_peek : MethodName := ⟨RX7, "peek", "()I"⟩
def dkwX7_peek_1 : List UInt8 := [167, 0, 4, 2, 172]
abbrev dktX7_peek_1 : List UInt8 := dkwX7_peek_1 ++ []
def dkwX7_peek_0 : List UInt8 := [42, 180, 0, 204, 42, 180, 0, 201, 162, 0, 19, 42, 180, 0, 7, 42, 180, 0, 204, 51, 17, 0, 255, 126]
abbrev dktX7_peek_0 : List UInt8 := dkwX7_peek_0 ++ dktX7_peek_1
theorem dksX7_peek_0 : cX7_peek.data.toList.drop 0 = dktX7_peek_0 := by decide +kernel
theorem dksX7_peek_1 : cX7_peek.data.toList.drop 24 = dktX7_peek_1 := dk_seg dksX7_peek_0 24 rfl rfl
theorem dX7_peek_0 : decode cX7_peek 0 = .ok (.aload_n 0, 1) := dk_42 (dk_at dksX7_peek_0 0 rfl rfl)
theorem dX7_peek_1 : decode cX7_peek 1 = .ok (.getfield 204, 3) := dk_180 0 204 (dk_at dksX7_peek_0 1 rfl rfl)
theorem dX7_peek_4 : decode cX7_peek 4 = .ok (.aload_n 0, 1) := dk_42 (dk_at dksX7_peek_0 4 rfl rfl)
theorem dX7_peek_5 : decode cX7_peek 5 = .ok (.getfield 201, 3) := dk_180 0 201 (dk_at dksX7_peek_0 5 rfl rfl)
theorem dX7_peek_8 : decode cX7_peek 8 = .ok (.if_icmp .ge 19, 3) := dk_162 0 19 (dk_at dksX7_peek_0 8 rfl rfl)
theorem dX7_peek_11 : decode cX7_peek 11 = .ok (.aload_n 0, 1) := dk_42 (dk_at dksX7_peek_0 11 rfl rfl)
theorem dX7_peek_12 : decode cX7_peek 12 = .ok (.getfield 7, 3) := dk_180 0 7 (dk_at dksX7_peek_0 12 rfl rfl)
theorem dX7_peek_15 : decode cX7_peek 15 = .ok (.aload_n 0, 1) := dk_42 (dk_at dksX7_peek_0 15 rfl rfl)
theorem dX7_peek_16 : decode cX7_peek 16 = .ok (.getfield 204, 3) := dk_180 0 204 (dk_at dksX7_peek_0 16 rfl rfl)
theorem dX7_peek_19 : decode cX7_peek 19 = .ok (.baload, 1) := dk_51 (dk_at dksX7_peek_0 19 rfl rfl)
theorem dX7_peek_20 : decode cX7_peek 20 = .ok (.sipush 255, 3) := dk_17 0 255 (dk_at dksX7_peek_0 20 rfl rfl)
theorem dX7_peek_23 : decode cX7_peek 23 = .ok (.iand, 1) := dk_126 (dk_at dksX7_peek_0 23 rfl rfl)
theorem dX7_peek_24 : decode cX7_peek 24 = .ok (.goto 4, 3) := dk_167 0 4 (dk_at dksX7_peek_1 0 rfl rfl)
theorem dX7_peek_27 : decode cX7_peek 27 = .ok (.iconst (-1), 1) := dk_2 (dk_at dksX7_peek_1 3 rfl rfl)
theorem dX7_peek_28 : decode cX7_peek 28 = .ok (.ireturn, 1) := dk_172 (dk_at dksX7_peek_1 4 rfl rfl)
abbrev cX7_isSmall : ByteArray := prog_14_method_16_code
def yX7_isSmall : MethodName := ⟨RX7, "isSmall", "(I)Z"⟩
def dkwX7_isSmall_0 : List UInt8 := [26, 16, 97, 161, 0, 13, 26, 16, 122, 163, 0, 7, 4, 167, 0, 4, 3, 172]
abbrev dktX7_isSmall_0 : List UInt8 := dkwX7_isSmall_0 ++ []
theorem dksX7_isSmall_0 : cX7_isSmall.data.toList.drop 0 = dktX7_isSmall_0 := by decide +kernel
theorem dX7_isSmall_0 : decode cX7_isSmall 0 = .ok (.iload_n 0, 1) := dk_26 (dk_at dksX7_isSmall_0 0 rfl rfl)
theorem dX7_isSmall_1 : decode cX7_isSmall 1 = .ok (.bipush 97, 2) := dk_16 97 (dk_at dksX7_isSmall_0 1 rfl rfl)
theorem dX7_isSmall_3 : decode cX7_isSmall 3 = .ok (.if_icmp .lt 13, 3) := dk_161 0 13 (dk_at dksX7_isSmall_0 3 rfl rfl)
theorem dX7_isSmall_6 : decode cX7_isSmall 6 = .ok (.iload_n 0, 1) := dk_26 (dk_at dksX7_isSmall_0 6 rfl rfl)
theorem dX7_isSmall_7 : decode cX7_isSmall 7 = .ok (.bipush 122, 2) := dk_16 122 (dk_at dksX7_isSmall_0 7 rfl rfl)
theorem dX7_isSmall_9 : decode cX7_isSmall 9 = .ok (.if_icmp .gt 7, 3) := dk_163 0 7 (dk_at dksX7_isSmall_0 9 rfl rfl)
theorem dX7_isSmall_12 : decode cX7_isSmall 12 = .ok (.iconst 1, 1) := dk_4 (dk_at dksX7_isSmall_0 12 rfl rfl)
theorem dX7_isSmall_13 : decode cX7_isSmall 13 = .ok (.goto 4, 3) := dk_167 0 4 (dk_at dksX7_isSmall_0 13 rfl rfl)
theorem dX7_isSmall_16 : decode cX7_isSmall 16 = .ok (.iconst 0, 1) := dk_3 (dk_at dksX7_isSmall_0 16 rfl rfl)
theorem dX7_isSmall_17 : decode cX7_isSmall 17 = .ok (.ireturn, 1) := dk_172 (dk_at dksX7_isSmall_0 17 rfl rfl)
abbrev cX7_isDigit : ByteArray := prog_14_method_17_code
def yX7_isDigit : MethodName := ⟨RX7, "isDigit", "(I)Z"⟩
def dkwX7_isDigit_0 : List UInt8 := [26, 16, 48, 161, 0, 13, 26, 16, 57, 163, 0, 7, 4, 167, 0, 4, 3, 172]
abbrev dktX7_isDigit_0 : List UInt8 := dkwX7_isDigit_0 ++ []
theorem dksX7_isDigit_0 : cX7_isDigit.data.toList.drop 0 = dktX7_isDigit_0 := by decide +kernel
theorem dX7_isDigit_0 : decode cX7_isDigit 0 = .ok (.iload_n 0, 1) := dk_26 (dk_at dksX7_isDigit_0 0 rfl rfl)
theorem dX7_isDigit_1 : decode cX7_isDigit 1 = .ok (.bipush 48, 2) := dk_16 48 (dk_at dksX7_isDigit_0 1 rfl rfl)
theorem dX7_isDigit_3 : decode cX7_isDigit 3 = .ok (.if_icmp .lt 13, 3) := dk_161 0 13 (dk_at dksX7_isDigit_0 3 rfl rfl)
theorem dX7_isDigit_6 : decode cX7_isDigit 6 = .ok (.iload_n 0, 1) := dk_26 (dk_at dksX7_isDigit_0 6 rfl rfl)
theorem dX7_isDigit_7 : decode cX7_isDigit 7 = .ok (.bipush 57, 2) := dk_16 57 (dk_at dksX7_isDigit_0 7 rfl rfl)
theorem dX7_isDigit_9 : decode cX7_isDigit 9 = .ok (.if_icmp .gt 7, 3) := dk_163 0 7 (dk_at dksX7_isDigit_0 9 rfl rfl)
theorem dX7_isDigit_12 : decode cX7_isDigit 12 = .ok (.iconst 1, 1) := dk_4 (dk_at dksX7_isDigit_0 12 rfl rfl)
theorem dX7_isDigit_13 : decode cX7_isDigit 13 = .ok (.goto 4, 3) := dk_167 0 4 (dk_at dksX7_isDigit_0 13 rfl rfl)
theorem dX7_isDigit_16 : decode cX7_isDigit 16 = .ok (.iconst 0, 1) := dk_3 (dk_at dksX7_isDigit_0 16 rfl rfl)
theorem dX7_isDigit_17 : decode cX7_isDigit 17 = .ok (.ireturn, 1) := dk_172 (dk_at dksX7_isDigit_0 17 rfl rfl)
abbrev cX7_read : ByteArray := prog_14_method_27_code
def yX7_read : MethodName := ⟨RX7, "read", "()Z"⟩
def dkwX7_read_6 : List UInt8 := [4, 92, 46, 4, 96, 79, 167, 255, 109, 4, 172]
abbrev dktX7_read_6 : List UInt8 := dkwX7_read_6 ++ []
def dkwX7_read_5 : List UInt8 := [4, 46, 96, 28, 79, 42, 180, 0, 23, 16, 60, 42, 180, 0, 26, 4, 46, 96, 29, 79, 42, 180, 0, 26]
abbrev dktX7_read_5 : List UInt8 := dkwX7_read_5 ++ dktX7_read_6
def dkwX7_read_4 : List UInt8 := [155, 0, 12, 42, 16, 59, 182, 1, 77, 154, 0, 5, 3, 172, 42, 180, 0, 20, 16, 60, 42, 180, 0, 26]
abbrev dktX7_read_4 : List UInt8 := dkwX7_read_4 ++ dktX7_read_5
def dkwX7_read_3 : List UInt8 := [28, 155, 0, 12, 42, 16, 45, 182, 1, 77, 154, 0, 5, 3, 172, 42, 28, 182, 1, 83, 62, 29]
abbrev dktX7_read_3 : List UInt8 := dkwX7_read_3 ++ dktX7_read_4
def dkwX7_read_2 : List UInt8 := [42, 27, 153, 0, 7, 7, 167, 0, 4, 4, 42, 180, 0, 230, 182, 1, 2, 172, 42, 2, 182, 1, 83, 61]
abbrev dktX7_read_2 : List UInt8 := dkwX7_read_2 ++ dktX7_read_3
def dkwX7_read_1 : List UInt8 := [153, 0, 7, 4, 167, 0, 4, 3, 60, 27, 153, 0, 14, 42, 180, 0, 26, 4, 46, 16, 60, 160, 0, 21]
abbrev dktX7_read_1 : List UInt8 := dkwX7_read_1 ++ dktX7_read_2
def dkwX7_read_0 : List UInt8 := [42, 180, 0, 236, 153, 0, 146, 42, 180, 0, 236, 4, 160, 0, 18, 42, 42, 180, 0, 239, 182, 1, 70]
abbrev dktX7_read_0 : List UInt8 := dkwX7_read_0 ++ dktX7_read_1
theorem dksX7_read_0 : cX7_read.data.toList.drop 0 = dktX7_read_0 := by decide +kernel
theorem dksX7_read_1 : cX7_read.data.toList.drop 23 = dktX7_read_1 := dk_seg dksX7_read_0 23 rfl rfl
theorem dksX7_read_2 : cX7_read.data.toList.drop 47 = dktX7_read_2 := dk_seg dksX7_read_1 24 rfl rfl
theorem dksX7_read_3 : cX7_read.data.toList.drop 71 = dktX7_read_3 := dk_seg dksX7_read_2 24 rfl rfl
theorem dksX7_read_4 : cX7_read.data.toList.drop 93 = dktX7_read_4 := dk_seg dksX7_read_3 22 rfl rfl
theorem dksX7_read_5 : cX7_read.data.toList.drop 117 = dktX7_read_5 := dk_seg dksX7_read_4 24 rfl rfl
theorem dksX7_read_6 : cX7_read.data.toList.drop 141 = dktX7_read_6 := dk_seg dksX7_read_5 24 rfl rfl
theorem dX7_read_0 : decode cX7_read 0 = .ok (.aload_n 0, 1) := dk_42 (dk_at dksX7_read_0 0 rfl rfl)
theorem dX7_read_1 : decode cX7_read 1 = .ok (.getfield 236, 3) := dk_180 0 236 (dk_at dksX7_read_0 1 rfl rfl)
theorem dX7_read_4 : decode cX7_read 4 = .ok (.ifCond .eq 146, 3) := dk_153 0 146 (dk_at dksX7_read_0 4 rfl rfl)
theorem dX7_read_7 : decode cX7_read 7 = .ok (.aload_n 0, 1) := dk_42 (dk_at dksX7_read_0 7 rfl rfl)
theorem dX7_read_8 : decode cX7_read 8 = .ok (.getfield 236, 3) := dk_180 0 236 (dk_at dksX7_read_0 8 rfl rfl)
theorem dX7_read_11 : decode cX7_read 11 = .ok (.iconst 1, 1) := dk_4 (dk_at dksX7_read_0 11 rfl rfl)
theorem dX7_read_12 : decode cX7_read 12 = .ok (.if_icmp .ne 18, 3) := dk_160 0 18 (dk_at dksX7_read_0 12 rfl rfl)
theorem dX7_read_15 : decode cX7_read 15 = .ok (.aload_n 0, 1) := dk_42 (dk_at dksX7_read_0 15 rfl rfl)
theorem dX7_read_16 : decode cX7_read 16 = .ok (.aload_n 0, 1) := dk_42 (dk_at dksX7_read_0 16 rfl rfl)
theorem dX7_read_17 : decode cX7_read 17 = .ok (.getfield 239, 3) := dk_180 0 239 (dk_at dksX7_read_0 17 rfl rfl)
theorem dX7_read_20 : decode cX7_read 20 = .ok (.invokevirtual 326, 3) := dk_182 1 70 (dk_at dksX7_read_0 20 rfl rfl)
theorem dX7_read_23 : decode cX7_read 23 = .ok (.ifCond .eq 7, 3) := dk_153 0 7 (dk_at dksX7_read_1 0 rfl rfl)
theorem dX7_read_26 : decode cX7_read 26 = .ok (.iconst 1, 1) := dk_4 (dk_at dksX7_read_1 3 rfl rfl)
theorem dX7_read_27 : decode cX7_read 27 = .ok (.goto 4, 3) := dk_167 0 4 (dk_at dksX7_read_1 4 rfl rfl)
theorem dX7_read_30 : decode cX7_read 30 = .ok (.iconst 0, 1) := dk_3 (dk_at dksX7_read_1 7 rfl rfl)
theorem dX7_read_31 : decode cX7_read 31 = .ok (.istore_n 1, 1) := dk_60 (dk_at dksX7_read_1 8 rfl rfl)
theorem dX7_read_32 : decode cX7_read 32 = .ok (.iload_n 1, 1) := dk_27 (dk_at dksX7_read_1 9 rfl rfl)
theorem dX7_read_33 : decode cX7_read 33 = .ok (.ifCond .eq 14, 3) := dk_153 0 14 (dk_at dksX7_read_1 10 rfl rfl)
theorem dX7_read_36 : decode cX7_read 36 = .ok (.aload_n 0, 1) := dk_42 (dk_at dksX7_read_1 13 rfl rfl)
theorem dX7_read_37 : decode cX7_read 37 = .ok (.getfield 26, 3) := dk_180 0 26 (dk_at dksX7_read_1 14 rfl rfl)
theorem dX7_read_40 : decode cX7_read 40 = .ok (.iconst 1, 1) := dk_4 (dk_at dksX7_read_1 17 rfl rfl)
theorem dX7_read_41 : decode cX7_read 41 = .ok (.iaload, 1) := dk_46 (dk_at dksX7_read_1 18 rfl rfl)
theorem dX7_read_42 : decode cX7_read 42 = .ok (.bipush 60, 2) := dk_16 60 (dk_at dksX7_read_1 19 rfl rfl)
theorem dX7_read_44 : decode cX7_read 44 = .ok (.if_icmp .ne 21, 3) := dk_160 0 21 (dk_at dksX7_read_1 21 rfl rfl)
theorem dX7_read_47 : decode cX7_read 47 = .ok (.aload_n 0, 1) := dk_42 (dk_at dksX7_read_2 0 rfl rfl)
theorem dX7_read_48 : decode cX7_read 48 = .ok (.iload_n 1, 1) := dk_27 (dk_at dksX7_read_2 1 rfl rfl)
theorem dX7_read_49 : decode cX7_read 49 = .ok (.ifCond .eq 7, 3) := dk_153 0 7 (dk_at dksX7_read_2 2 rfl rfl)
theorem dX7_read_52 : decode cX7_read 52 = .ok (.iconst 4, 1) := dk_7 (dk_at dksX7_read_2 5 rfl rfl)
theorem dX7_read_53 : decode cX7_read 53 = .ok (.goto 4, 3) := dk_167 0 4 (dk_at dksX7_read_2 6 rfl rfl)
theorem dX7_read_56 : decode cX7_read 56 = .ok (.iconst 1, 1) := dk_4 (dk_at dksX7_read_2 9 rfl rfl)
theorem dX7_read_57 : decode cX7_read 57 = .ok (.aload_n 0, 1) := dk_42 (dk_at dksX7_read_2 10 rfl rfl)
theorem dX7_read_58 : decode cX7_read 58 = .ok (.getfield 230, 3) := dk_180 0 230 (dk_at dksX7_read_2 11 rfl rfl)
theorem dX7_read_61 : decode cX7_read 61 = .ok (.invokevirtual 258, 3) := dk_182 1 2 (dk_at dksX7_read_2 14 rfl rfl)
theorem dX7_read_64 : decode cX7_read 64 = .ok (.ireturn, 1) := dk_172 (dk_at dksX7_read_2 17 rfl rfl)
theorem dX7_read_65 : decode cX7_read 65 = .ok (.aload_n 0, 1) := dk_42 (dk_at dksX7_read_2 18 rfl rfl)
theorem dX7_read_66 : decode cX7_read 66 = .ok (.iconst (-1), 1) := dk_2 (dk_at dksX7_read_2 19 rfl rfl)
theorem dX7_read_67 : decode cX7_read 67 = .ok (.invokevirtual 339, 3) := dk_182 1 83 (dk_at dksX7_read_2 20 rfl rfl)
theorem dX7_read_70 : decode cX7_read 70 = .ok (.istore_n 2, 1) := dk_61 (dk_at dksX7_read_2 23 rfl rfl)
theorem dX7_read_71 : decode cX7_read 71 = .ok (.iload_n 2, 1) := dk_28 (dk_at dksX7_read_3 0 rfl rfl)
theorem dX7_read_72 : decode cX7_read 72 = .ok (.ifCond .lt 12, 3) := dk_155 0 12 (dk_at dksX7_read_3 1 rfl rfl)
theorem dX7_read_75 : decode cX7_read 75 = .ok (.aload_n 0, 1) := dk_42 (dk_at dksX7_read_3 4 rfl rfl)
theorem dX7_read_76 : decode cX7_read 76 = .ok (.bipush 45, 2) := dk_16 45 (dk_at dksX7_read_3 5 rfl rfl)
theorem dX7_read_78 : decode cX7_read 78 = .ok (.invokevirtual 333, 3) := dk_182 1 77 (dk_at dksX7_read_3 7 rfl rfl)
theorem dX7_read_81 : decode cX7_read 81 = .ok (.ifCond .ne 5, 3) := dk_154 0 5 (dk_at dksX7_read_3 10 rfl rfl)
theorem dX7_read_84 : decode cX7_read 84 = .ok (.iconst 0, 1) := dk_3 (dk_at dksX7_read_3 13 rfl rfl)
theorem dX7_read_85 : decode cX7_read 85 = .ok (.ireturn, 1) := dk_172 (dk_at dksX7_read_3 14 rfl rfl)
theorem dX7_read_86 : decode cX7_read 86 = .ok (.aload_n 0, 1) := dk_42 (dk_at dksX7_read_3 15 rfl rfl)
theorem dX7_read_87 : decode cX7_read 87 = .ok (.iload_n 2, 1) := dk_28 (dk_at dksX7_read_3 16 rfl rfl)
theorem dX7_read_88 : decode cX7_read 88 = .ok (.invokevirtual 339, 3) := dk_182 1 83 (dk_at dksX7_read_3 17 rfl rfl)
theorem dX7_read_91 : decode cX7_read 91 = .ok (.istore_n 3, 1) := dk_62 (dk_at dksX7_read_3 20 rfl rfl)
theorem dX7_read_92 : decode cX7_read 92 = .ok (.iload_n 3, 1) := dk_29 (dk_at dksX7_read_3 21 rfl rfl)
theorem dX7_read_93 : decode cX7_read 93 = .ok (.ifCond .lt 12, 3) := dk_155 0 12 (dk_at dksX7_read_4 0 rfl rfl)
theorem dX7_read_96 : decode cX7_read 96 = .ok (.aload_n 0, 1) := dk_42 (dk_at dksX7_read_4 3 rfl rfl)
theorem dX7_read_97 : decode cX7_read 97 = .ok (.bipush 59, 2) := dk_16 59 (dk_at dksX7_read_4 4 rfl rfl)
theorem dX7_read_99 : decode cX7_read 99 = .ok (.invokevirtual 333, 3) := dk_182 1 77 (dk_at dksX7_read_4 6 rfl rfl)
theorem dX7_read_102 : decode cX7_read 102 = .ok (.ifCond .ne 5, 3) := dk_154 0 5 (dk_at dksX7_read_4 9 rfl rfl)
theorem dX7_read_105 : decode cX7_read 105 = .ok (.iconst 0, 1) := dk_3 (dk_at dksX7_read_4 12 rfl rfl)
theorem dX7_read_106 : decode cX7_read 106 = .ok (.ireturn, 1) := dk_172 (dk_at dksX7_read_4 13 rfl rfl)
theorem dX7_read_107 : decode cX7_read 107 = .ok (.aload_n 0, 1) := dk_42 (dk_at dksX7_read_4 14 rfl rfl)
theorem dX7_read_108 : decode cX7_read 108 = .ok (.getfield 20, 3) := dk_180 0 20 (dk_at dksX7_read_4 15 rfl rfl)
theorem dX7_read_111 : decode cX7_read 111 = .ok (.bipush 60, 2) := dk_16 60 (dk_at dksX7_read_4 18 rfl rfl)
theorem dX7_read_113 : decode cX7_read 113 = .ok (.aload_n 0, 1) := dk_42 (dk_at dksX7_read_4 20 rfl rfl)
theorem dX7_read_114 : decode cX7_read 114 = .ok (.getfield 26, 3) := dk_180 0 26 (dk_at dksX7_read_4 21 rfl rfl)
theorem dX7_read_117 : decode cX7_read 117 = .ok (.iconst 1, 1) := dk_4 (dk_at dksX7_read_5 0 rfl rfl)
theorem dX7_read_118 : decode cX7_read 118 = .ok (.iaload, 1) := dk_46 (dk_at dksX7_read_5 1 rfl rfl)
theorem dX7_read_119 : decode cX7_read 119 = .ok (.iadd, 1) := dk_96 (dk_at dksX7_read_5 2 rfl rfl)
theorem dX7_read_120 : decode cX7_read 120 = .ok (.iload_n 2, 1) := dk_28 (dk_at dksX7_read_5 3 rfl rfl)
theorem dX7_read_121 : decode cX7_read 121 = .ok (.iastore, 1) := dk_79 (dk_at dksX7_read_5 4 rfl rfl)
theorem dX7_read_122 : decode cX7_read 122 = .ok (.aload_n 0, 1) := dk_42 (dk_at dksX7_read_5 5 rfl rfl)
theorem dX7_read_123 : decode cX7_read 123 = .ok (.getfield 23, 3) := dk_180 0 23 (dk_at dksX7_read_5 6 rfl rfl)
theorem dX7_read_126 : decode cX7_read 126 = .ok (.bipush 60, 2) := dk_16 60 (dk_at dksX7_read_5 9 rfl rfl)
theorem dX7_read_128 : decode cX7_read 128 = .ok (.aload_n 0, 1) := dk_42 (dk_at dksX7_read_5 11 rfl rfl)
theorem dX7_read_129 : decode cX7_read 129 = .ok (.getfield 26, 3) := dk_180 0 26 (dk_at dksX7_read_5 12 rfl rfl)
theorem dX7_read_132 : decode cX7_read 132 = .ok (.iconst 1, 1) := dk_4 (dk_at dksX7_read_5 15 rfl rfl)
theorem dX7_read_133 : decode cX7_read 133 = .ok (.iaload, 1) := dk_46 (dk_at dksX7_read_5 16 rfl rfl)
theorem dX7_read_134 : decode cX7_read 134 = .ok (.iadd, 1) := dk_96 (dk_at dksX7_read_5 17 rfl rfl)
theorem dX7_read_135 : decode cX7_read 135 = .ok (.iload_n 3, 1) := dk_29 (dk_at dksX7_read_5 18 rfl rfl)
theorem dX7_read_136 : decode cX7_read 136 = .ok (.iastore, 1) := dk_79 (dk_at dksX7_read_5 19 rfl rfl)
theorem dX7_read_137 : decode cX7_read 137 = .ok (.aload_n 0, 1) := dk_42 (dk_at dksX7_read_5 20 rfl rfl)
theorem dX7_read_138 : decode cX7_read 138 = .ok (.getfield 26, 3) := dk_180 0 26 (dk_at dksX7_read_5 21 rfl rfl)
theorem dX7_read_141 : decode cX7_read 141 = .ok (.iconst 1, 1) := dk_4 (dk_at dksX7_read_6 0 rfl rfl)
theorem dX7_read_142 : decode cX7_read 142 = .ok (.dup2, 1) := dk_92 (dk_at dksX7_read_6 1 rfl rfl)
theorem dX7_read_143 : decode cX7_read 143 = .ok (.iaload, 1) := dk_46 (dk_at dksX7_read_6 2 rfl rfl)
theorem dX7_read_144 : decode cX7_read 144 = .ok (.iconst 1, 1) := dk_4 (dk_at dksX7_read_6 3 rfl rfl)
theorem dX7_read_145 : decode cX7_read 145 = .ok (.iadd, 1) := dk_96 (dk_at dksX7_read_6 4 rfl rfl)
theorem dX7_read_146 : decode cX7_read 146 = .ok (.iastore, 1) := dk_79 (dk_at dksX7_read_6 5 rfl rfl)
theorem dX7_read_147 : decode cX7_read 147 = .ok (.goto (-147), 3) := dk_167 255 109 (dk_at dksX7_read_6 6 rfl rfl)
theorem dX7_read_150 : decode cX7_read 150 = .ok (.iconst 1, 1) := dk_4 (dk_at dksX7_read_6 9 rfl rfl)
theorem dX7_read_151 : decode cX7_read 151 = .ok (.ireturn, 1) := dk_172 (dk_at dksX7_read_6 10 rfl rfl)
abbrev cX7_isHub : ByteArray := prog_14_method_23_code
def yX7_isHub : MethodName := ⟨RX7, "isHub", "(J)Z"⟩
def dkwX7_isHub_19 : List UInt8 := [167, 0, 4, 2, 181, 1, 26, 42, 180, 1, 26, 155, 0, 7, 4, 167, 0, 4, 3, 172]
abbrev dktX7_isHub_19 : List UInt8 := dkwX7_isHub_19 ++ []
def dkwX7_isHub_18 : List UInt8 := [20, 1, 63, 148, 154, 0, 8, 16, 65, 167, 0, 18, 31, 20, 1, 65, 148, 154, 0, 9, 17, 0, 156]
abbrev dktX7_isHub_18 : List UInt8 := dkwX7_isHub_18 ++ dktX7_isHub_19
def dkwX7_isHub_17 : List UInt8 := [167, 0, 4, 6, 181, 1, 15, 42, 31, 20, 1, 61, 148, 154, 0, 9, 17, 0, 132, 167, 0, 31, 31]
abbrev dktX7_isHub_17 : List UInt8 := dkwX7_isHub_17 ++ dktX7_isHub_18
def dkwX7_isHub_16 : List UInt8 := [180, 1, 26, 155, 0, 5, 4, 172, 42, 4, 181, 1, 12, 42, 31, 20, 1, 61, 148, 154, 0, 8, 16, 12]
abbrev dktX7_isHub_16 : List UInt8 := dkwX7_isHub_16 ++ dktX7_isHub_17
def dkwX7_isHub_15 : List UInt8 := [167, 0, 18, 31, 20, 1, 59, 148, 154, 0, 9, 17, 0, 205, 167, 0, 4, 2, 181, 1, 26, 42]
abbrev dktX7_isHub_15 : List UInt8 := dkwX7_isHub_15 ++ dktX7_isHub_16
def dkwX7_isHub_14 : List UInt8 := [20, 1, 55, 148, 154, 0, 9, 17, 0, 181, 167, 0, 32, 31, 20, 1, 57, 148, 154, 0, 9, 17, 0, 193]
abbrev dktX7_isHub_14 : List UInt8 := dkwX7_isHub_14 ++ dktX7_isHub_15
def dkwX7_isHub_13 : List UInt8 := [154, 0, 8, 16, 68, 167, 0, 59, 31, 20, 1, 53, 148, 154, 0, 8, 16, 96, 167, 0, 46, 31]
abbrev dktX7_isHub_13 : List UInt8 := dkwX7_isHub_13 ++ dktX7_isHub_14
def dkwX7_isHub_12 : List UInt8 := [20, 1, 53, 148, 154, 0, 8, 16, 6, 167, 0, 4, 6, 181, 1, 12, 42, 31, 20, 1, 51, 148]
abbrev dktX7_isHub_12 : List UInt8 := dkwX7_isHub_12 ++ dktX7_isHub_13
def dkwX7_isHub_11 : List UInt8 := [181, 1, 26, 42, 180, 1, 26, 155, 0, 5, 4, 172, 42, 31, 20, 1, 51, 148, 153, 0, 11, 31]
abbrev dktX7_isHub_11 : List UInt8 := dkwX7_isHub_11 ++ dktX7_isHub_12
def dkwX7_isHub_10 : List UInt8 := [154, 0, 9, 17, 0, 148, 167, 0, 18, 31, 20, 1, 49, 148, 154, 0, 9, 17, 0, 152, 167, 0, 4, 2]
abbrev dktX7_isHub_10 : List UInt8 := dkwX7_isHub_10 ++ dktX7_isHub_11
def dkwX7_isHub_9 : List UInt8 := [167, 0, 46, 31, 20, 1, 45, 148, 154, 0, 9, 17, 0, 144, 167, 0, 32, 31, 20, 1, 47, 148]
abbrev dktX7_isHub_9 : List UInt8 := dkwX7_isHub_9 ++ dktX7_isHub_10
def dkwX7_isHub_8 : List UInt8 := [20, 1, 41, 148, 154, 0, 8, 16, 124, 167, 0, 60, 31, 20, 1, 43, 148, 154, 0, 9, 17, 0, 128]
abbrev dktX7_isHub_8 : List UInt8 := dkwX7_isHub_8 ++ dktX7_isHub_9
def dkwX7_isHub_7 : List UInt8 := [154, 0, 8, 16, 92, 167, 0, 86, 31, 20, 1, 39, 148, 154, 0, 8, 16, 120, 167, 0, 73, 31]
abbrev dktX7_isHub_7 : List UInt8 := dkwX7_isHub_7 ++ dktX7_isHub_8
def dkwX7_isHub_6 : List UInt8 := [181, 1, 15, 42, 31, 20, 1, 35, 148, 154, 0, 8, 16, 61, 167, 0, 99, 31, 20, 1, 37, 148]
abbrev dktX7_isHub_6 : List UInt8 := dkwX7_isHub_6 ++ dktX7_isHub_7
def dkwX7_isHub_5 : List UInt8 := [154, 0, 9, 17, 0, 180, 167, 0, 4, 2, 181, 1, 26, 42, 180, 1, 26, 155, 0, 5, 4, 172, 42, 7]
abbrev dktX7_isHub_5 : List UInt8 := dkwX7_isHub_5 ++ dktX7_isHub_6
def dkwX7_isHub_4 : List UInt8 := [167, 0, 32, 31, 20, 1, 31, 148, 154, 0, 9, 17, 0, 179, 167, 0, 18, 31, 20, 1, 33, 148]
abbrev dktX7_isHub_4 : List UInt8 := dkwX7_isHub_4 ++ dktX7_isHub_5
def dkwX7_isHub_3 : List UInt8 := [180, 1, 26, 155, 0, 5, 4, 172, 42, 4, 181, 1, 15, 42, 31, 20, 1, 29, 148, 154, 0, 8, 16, 60]
abbrev dktX7_isHub_3 : List UInt8 := dkwX7_isHub_3 ++ dktX7_isHub_4
def dkwX7_isHub_2 : List UInt8 := [167, 0, 18, 31, 20, 1, 24, 148, 154, 0, 9, 17, 0, 159, 167, 0, 4, 2, 181, 1, 26, 42]
abbrev dktX7_isHub_2 : List UInt8 := dkwX7_isHub_2 ++ dktX7_isHub_3
def dkwX7_isHub_1 : List UInt8 := [31, 20, 1, 20, 148, 154, 0, 8, 16, 20, 167, 0, 31, 31, 20, 1, 22, 148, 154, 0, 8, 16, 40]
abbrev dktX7_isHub_1 : List UInt8 := dkwX7_isHub_1 ++ dktX7_isHub_2
def dkwX7_isHub_0 : List UInt8 := [42, 4, 181, 1, 12, 42, 16, 20, 181, 1, 15, 42, 31, 20, 1, 18, 148, 154, 0, 7, 3, 167, 0, 44]
abbrev dktX7_isHub_0 : List UInt8 := dkwX7_isHub_0 ++ dktX7_isHub_1
theorem dksX7_isHub_0 : cX7_isHub.data.toList.drop 0 = dktX7_isHub_0 := by decide +kernel
theorem dksX7_isHub_1 : cX7_isHub.data.toList.drop 24 = dktX7_isHub_1 := dk_seg dksX7_isHub_0 24 rfl rfl
theorem dksX7_isHub_2 : cX7_isHub.data.toList.drop 47 = dktX7_isHub_2 := dk_seg dksX7_isHub_1 23 rfl rfl
theorem dksX7_isHub_3 : cX7_isHub.data.toList.drop 69 = dktX7_isHub_3 := dk_seg dksX7_isHub_2 22 rfl rfl
theorem dksX7_isHub_4 : cX7_isHub.data.toList.drop 93 = dktX7_isHub_4 := dk_seg dksX7_isHub_3 24 rfl rfl
theorem dksX7_isHub_5 : cX7_isHub.data.toList.drop 115 = dktX7_isHub_5 := dk_seg dksX7_isHub_4 22 rfl rfl
theorem dksX7_isHub_6 : cX7_isHub.data.toList.drop 139 = dktX7_isHub_6 := dk_seg dksX7_isHub_5 24 rfl rfl
theorem dksX7_isHub_7 : cX7_isHub.data.toList.drop 161 = dktX7_isHub_7 := dk_seg dksX7_isHub_6 22 rfl rfl
theorem dksX7_isHub_8 : cX7_isHub.data.toList.drop 183 = dktX7_isHub_8 := dk_seg dksX7_isHub_7 22 rfl rfl
theorem dksX7_isHub_9 : cX7_isHub.data.toList.drop 206 = dktX7_isHub_9 := dk_seg dksX7_isHub_8 23 rfl rfl
theorem dksX7_isHub_10 : cX7_isHub.data.toList.drop 228 = dktX7_isHub_10 := dk_seg dksX7_isHub_9 22 rfl rfl
theorem dksX7_isHub_11 : cX7_isHub.data.toList.drop 252 = dktX7_isHub_11 := dk_seg dksX7_isHub_10 24 rfl rfl
theorem dksX7_isHub_12 : cX7_isHub.data.toList.drop 274 = dktX7_isHub_12 := dk_seg dksX7_isHub_11 22 rfl rfl
theorem dksX7_isHub_13 : cX7_isHub.data.toList.drop 296 = dktX7_isHub_13 := dk_seg dksX7_isHub_12 22 rfl rfl
theorem dksX7_isHub_14 : cX7_isHub.data.toList.drop 318 = dktX7_isHub_14 := dk_seg dksX7_isHub_13 22 rfl rfl
theorem dksX7_isHub_15 : cX7_isHub.data.toList.drop 342 = dktX7_isHub_15 := dk_seg dksX7_isHub_14 24 rfl rfl
theorem dksX7_isHub_16 : cX7_isHub.data.toList.drop 364 = dktX7_isHub_16 := dk_seg dksX7_isHub_15 22 rfl rfl
theorem dksX7_isHub_17 : cX7_isHub.data.toList.drop 388 = dktX7_isHub_17 := dk_seg dksX7_isHub_16 24 rfl rfl
theorem dksX7_isHub_18 : cX7_isHub.data.toList.drop 411 = dktX7_isHub_18 := dk_seg dksX7_isHub_17 23 rfl rfl
theorem dksX7_isHub_19 : cX7_isHub.data.toList.drop 434 = dktX7_isHub_19 := dk_seg dksX7_isHub_18 23 rfl rfl
theorem dX7_isHub_0 : decode cX7_isHub 0 = .ok (.aload_n 0, 1) := dk_42 (dk_at dksX7_isHub_0 0 rfl rfl)
theorem dX7_isHub_1 : decode cX7_isHub 1 = .ok (.iconst 1, 1) := dk_4 (dk_at dksX7_isHub_0 1 rfl rfl)
theorem dX7_isHub_2 : decode cX7_isHub 2 = .ok (.putfield 268, 3) := dk_181 1 12 (dk_at dksX7_isHub_0 2 rfl rfl)
theorem dX7_isHub_5 : decode cX7_isHub 5 = .ok (.aload_n 0, 1) := dk_42 (dk_at dksX7_isHub_0 5 rfl rfl)
theorem dX7_isHub_6 : decode cX7_isHub 6 = .ok (.bipush 20, 2) := dk_16 20 (dk_at dksX7_isHub_0 6 rfl rfl)
theorem dX7_isHub_8 : decode cX7_isHub 8 = .ok (.putfield 271, 3) := dk_181 1 15 (dk_at dksX7_isHub_0 8 rfl rfl)
theorem dX7_isHub_11 : decode cX7_isHub 11 = .ok (.aload_n 0, 1) := dk_42 (dk_at dksX7_isHub_0 11 rfl rfl)
theorem dX7_isHub_12 : decode cX7_isHub 12 = .ok (.lload_n 1, 1) := dk_31 (dk_at dksX7_isHub_0 12 rfl rfl)
theorem dX7_isHub_13 : decode cX7_isHub 13 = .ok (.ldc2_w 274, 3) := dk_20 1 18 (dk_at dksX7_isHub_0 13 rfl rfl)
theorem dX7_isHub_16 : decode cX7_isHub 16 = .ok (.lcmp, 1) := dk_148 (dk_at dksX7_isHub_0 16 rfl rfl)
theorem dX7_isHub_17 : decode cX7_isHub 17 = .ok (.ifCond .ne 7, 3) := dk_154 0 7 (dk_at dksX7_isHub_0 17 rfl rfl)
theorem dX7_isHub_20 : decode cX7_isHub 20 = .ok (.iconst 0, 1) := dk_3 (dk_at dksX7_isHub_0 20 rfl rfl)
theorem dX7_isHub_21 : decode cX7_isHub 21 = .ok (.goto 44, 3) := dk_167 0 44 (dk_at dksX7_isHub_0 21 rfl rfl)
theorem dX7_isHub_24 : decode cX7_isHub 24 = .ok (.lload_n 1, 1) := dk_31 (dk_at dksX7_isHub_1 0 rfl rfl)
theorem dX7_isHub_25 : decode cX7_isHub 25 = .ok (.ldc2_w 276, 3) := dk_20 1 20 (dk_at dksX7_isHub_1 1 rfl rfl)
theorem dX7_isHub_28 : decode cX7_isHub 28 = .ok (.lcmp, 1) := dk_148 (dk_at dksX7_isHub_1 4 rfl rfl)
theorem dX7_isHub_29 : decode cX7_isHub 29 = .ok (.ifCond .ne 8, 3) := dk_154 0 8 (dk_at dksX7_isHub_1 5 rfl rfl)
theorem dX7_isHub_32 : decode cX7_isHub 32 = .ok (.bipush 20, 2) := dk_16 20 (dk_at dksX7_isHub_1 8 rfl rfl)
theorem dX7_isHub_34 : decode cX7_isHub 34 = .ok (.goto 31, 3) := dk_167 0 31 (dk_at dksX7_isHub_1 10 rfl rfl)
theorem dX7_isHub_37 : decode cX7_isHub 37 = .ok (.lload_n 1, 1) := dk_31 (dk_at dksX7_isHub_1 13 rfl rfl)
theorem dX7_isHub_38 : decode cX7_isHub 38 = .ok (.ldc2_w 278, 3) := dk_20 1 22 (dk_at dksX7_isHub_1 14 rfl rfl)
theorem dX7_isHub_41 : decode cX7_isHub 41 = .ok (.lcmp, 1) := dk_148 (dk_at dksX7_isHub_1 17 rfl rfl)
theorem dX7_isHub_42 : decode cX7_isHub 42 = .ok (.ifCond .ne 8, 3) := dk_154 0 8 (dk_at dksX7_isHub_1 18 rfl rfl)
theorem dX7_isHub_45 : decode cX7_isHub 45 = .ok (.bipush 40, 2) := dk_16 40 (dk_at dksX7_isHub_1 21 rfl rfl)
theorem dX7_isHub_47 : decode cX7_isHub 47 = .ok (.goto 18, 3) := dk_167 0 18 (dk_at dksX7_isHub_2 0 rfl rfl)
theorem dX7_isHub_50 : decode cX7_isHub 50 = .ok (.lload_n 1, 1) := dk_31 (dk_at dksX7_isHub_2 3 rfl rfl)
theorem dX7_isHub_51 : decode cX7_isHub 51 = .ok (.ldc2_w 280, 3) := dk_20 1 24 (dk_at dksX7_isHub_2 4 rfl rfl)
theorem dX7_isHub_54 : decode cX7_isHub 54 = .ok (.lcmp, 1) := dk_148 (dk_at dksX7_isHub_2 7 rfl rfl)
theorem dX7_isHub_55 : decode cX7_isHub 55 = .ok (.ifCond .ne 9, 3) := dk_154 0 9 (dk_at dksX7_isHub_2 8 rfl rfl)
theorem dX7_isHub_58 : decode cX7_isHub 58 = .ok (.sipush 159, 3) := dk_17 0 159 (dk_at dksX7_isHub_2 11 rfl rfl)
theorem dX7_isHub_61 : decode cX7_isHub 61 = .ok (.goto 4, 3) := dk_167 0 4 (dk_at dksX7_isHub_2 14 rfl rfl)
theorem dX7_isHub_64 : decode cX7_isHub 64 = .ok (.iconst (-1), 1) := dk_2 (dk_at dksX7_isHub_2 17 rfl rfl)
theorem dX7_isHub_65 : decode cX7_isHub 65 = .ok (.putfield 282, 3) := dk_181 1 26 (dk_at dksX7_isHub_2 18 rfl rfl)
theorem dX7_isHub_68 : decode cX7_isHub 68 = .ok (.aload_n 0, 1) := dk_42 (dk_at dksX7_isHub_2 21 rfl rfl)
theorem dX7_isHub_69 : decode cX7_isHub 69 = .ok (.getfield 282, 3) := dk_180 1 26 (dk_at dksX7_isHub_3 0 rfl rfl)
theorem dX7_isHub_72 : decode cX7_isHub 72 = .ok (.ifCond .lt 5, 3) := dk_155 0 5 (dk_at dksX7_isHub_3 3 rfl rfl)
theorem dX7_isHub_75 : decode cX7_isHub 75 = .ok (.iconst 1, 1) := dk_4 (dk_at dksX7_isHub_3 6 rfl rfl)
theorem dX7_isHub_76 : decode cX7_isHub 76 = .ok (.ireturn, 1) := dk_172 (dk_at dksX7_isHub_3 7 rfl rfl)
theorem dX7_isHub_77 : decode cX7_isHub 77 = .ok (.aload_n 0, 1) := dk_42 (dk_at dksX7_isHub_3 8 rfl rfl)
theorem dX7_isHub_78 : decode cX7_isHub 78 = .ok (.iconst 1, 1) := dk_4 (dk_at dksX7_isHub_3 9 rfl rfl)
theorem dX7_isHub_79 : decode cX7_isHub 79 = .ok (.putfield 271, 3) := dk_181 1 15 (dk_at dksX7_isHub_3 10 rfl rfl)
theorem dX7_isHub_82 : decode cX7_isHub 82 = .ok (.aload_n 0, 1) := dk_42 (dk_at dksX7_isHub_3 13 rfl rfl)
theorem dX7_isHub_83 : decode cX7_isHub 83 = .ok (.lload_n 1, 1) := dk_31 (dk_at dksX7_isHub_3 14 rfl rfl)
theorem dX7_isHub_84 : decode cX7_isHub 84 = .ok (.ldc2_w 285, 3) := dk_20 1 29 (dk_at dksX7_isHub_3 15 rfl rfl)
theorem dX7_isHub_87 : decode cX7_isHub 87 = .ok (.lcmp, 1) := dk_148 (dk_at dksX7_isHub_3 18 rfl rfl)
theorem dX7_isHub_88 : decode cX7_isHub 88 = .ok (.ifCond .ne 8, 3) := dk_154 0 8 (dk_at dksX7_isHub_3 19 rfl rfl)
theorem dX7_isHub_91 : decode cX7_isHub 91 = .ok (.bipush 60, 2) := dk_16 60 (dk_at dksX7_isHub_3 22 rfl rfl)
theorem dX7_isHub_93 : decode cX7_isHub 93 = .ok (.goto 32, 3) := dk_167 0 32 (dk_at dksX7_isHub_4 0 rfl rfl)
theorem dX7_isHub_96 : decode cX7_isHub 96 = .ok (.lload_n 1, 1) := dk_31 (dk_at dksX7_isHub_4 3 rfl rfl)
theorem dX7_isHub_97 : decode cX7_isHub 97 = .ok (.ldc2_w 287, 3) := dk_20 1 31 (dk_at dksX7_isHub_4 4 rfl rfl)
theorem dX7_isHub_100 : decode cX7_isHub 100 = .ok (.lcmp, 1) := dk_148 (dk_at dksX7_isHub_4 7 rfl rfl)
theorem dX7_isHub_101 : decode cX7_isHub 101 = .ok (.ifCond .ne 9, 3) := dk_154 0 9 (dk_at dksX7_isHub_4 8 rfl rfl)
theorem dX7_isHub_104 : decode cX7_isHub 104 = .ok (.sipush 179, 3) := dk_17 0 179 (dk_at dksX7_isHub_4 11 rfl rfl)
theorem dX7_isHub_107 : decode cX7_isHub 107 = .ok (.goto 18, 3) := dk_167 0 18 (dk_at dksX7_isHub_4 14 rfl rfl)
theorem dX7_isHub_110 : decode cX7_isHub 110 = .ok (.lload_n 1, 1) := dk_31 (dk_at dksX7_isHub_4 17 rfl rfl)
theorem dX7_isHub_111 : decode cX7_isHub 111 = .ok (.ldc2_w 289, 3) := dk_20 1 33 (dk_at dksX7_isHub_4 18 rfl rfl)
theorem dX7_isHub_114 : decode cX7_isHub 114 = .ok (.lcmp, 1) := dk_148 (dk_at dksX7_isHub_4 21 rfl rfl)
theorem dX7_isHub_115 : decode cX7_isHub 115 = .ok (.ifCond .ne 9, 3) := dk_154 0 9 (dk_at dksX7_isHub_5 0 rfl rfl)
theorem dX7_isHub_118 : decode cX7_isHub 118 = .ok (.sipush 180, 3) := dk_17 0 180 (dk_at dksX7_isHub_5 3 rfl rfl)
theorem dX7_isHub_121 : decode cX7_isHub 121 = .ok (.goto 4, 3) := dk_167 0 4 (dk_at dksX7_isHub_5 6 rfl rfl)
theorem dX7_isHub_124 : decode cX7_isHub 124 = .ok (.iconst (-1), 1) := dk_2 (dk_at dksX7_isHub_5 9 rfl rfl)
theorem dX7_isHub_125 : decode cX7_isHub 125 = .ok (.putfield 282, 3) := dk_181 1 26 (dk_at dksX7_isHub_5 10 rfl rfl)
theorem dX7_isHub_128 : decode cX7_isHub 128 = .ok (.aload_n 0, 1) := dk_42 (dk_at dksX7_isHub_5 13 rfl rfl)
theorem dX7_isHub_129 : decode cX7_isHub 129 = .ok (.getfield 282, 3) := dk_180 1 26 (dk_at dksX7_isHub_5 14 rfl rfl)
theorem dX7_isHub_132 : decode cX7_isHub 132 = .ok (.ifCond .lt 5, 3) := dk_155 0 5 (dk_at dksX7_isHub_5 17 rfl rfl)
theorem dX7_isHub_135 : decode cX7_isHub 135 = .ok (.iconst 1, 1) := dk_4 (dk_at dksX7_isHub_5 20 rfl rfl)
theorem dX7_isHub_136 : decode cX7_isHub 136 = .ok (.ireturn, 1) := dk_172 (dk_at dksX7_isHub_5 21 rfl rfl)
theorem dX7_isHub_137 : decode cX7_isHub 137 = .ok (.aload_n 0, 1) := dk_42 (dk_at dksX7_isHub_5 22 rfl rfl)
theorem dX7_isHub_138 : decode cX7_isHub 138 = .ok (.iconst 4, 1) := dk_7 (dk_at dksX7_isHub_5 23 rfl rfl)
theorem dX7_isHub_139 : decode cX7_isHub 139 = .ok (.putfield 271, 3) := dk_181 1 15 (dk_at dksX7_isHub_6 0 rfl rfl)
theorem dX7_isHub_142 : decode cX7_isHub 142 = .ok (.aload_n 0, 1) := dk_42 (dk_at dksX7_isHub_6 3 rfl rfl)
theorem dX7_isHub_143 : decode cX7_isHub 143 = .ok (.lload_n 1, 1) := dk_31 (dk_at dksX7_isHub_6 4 rfl rfl)
theorem dX7_isHub_144 : decode cX7_isHub 144 = .ok (.ldc2_w 291, 3) := dk_20 1 35 (dk_at dksX7_isHub_6 5 rfl rfl)
theorem dX7_isHub_147 : decode cX7_isHub 147 = .ok (.lcmp, 1) := dk_148 (dk_at dksX7_isHub_6 8 rfl rfl)
theorem dX7_isHub_148 : decode cX7_isHub 148 = .ok (.ifCond .ne 8, 3) := dk_154 0 8 (dk_at dksX7_isHub_6 9 rfl rfl)
theorem dX7_isHub_151 : decode cX7_isHub 151 = .ok (.bipush 61, 2) := dk_16 61 (dk_at dksX7_isHub_6 12 rfl rfl)
theorem dX7_isHub_153 : decode cX7_isHub 153 = .ok (.goto 99, 3) := dk_167 0 99 (dk_at dksX7_isHub_6 14 rfl rfl)
theorem dX7_isHub_156 : decode cX7_isHub 156 = .ok (.lload_n 1, 1) := dk_31 (dk_at dksX7_isHub_6 17 rfl rfl)
theorem dX7_isHub_157 : decode cX7_isHub 157 = .ok (.ldc2_w 293, 3) := dk_20 1 37 (dk_at dksX7_isHub_6 18 rfl rfl)
theorem dX7_isHub_160 : decode cX7_isHub 160 = .ok (.lcmp, 1) := dk_148 (dk_at dksX7_isHub_6 21 rfl rfl)
theorem dX7_isHub_161 : decode cX7_isHub 161 = .ok (.ifCond .ne 8, 3) := dk_154 0 8 (dk_at dksX7_isHub_7 0 rfl rfl)
theorem dX7_isHub_164 : decode cX7_isHub 164 = .ok (.bipush 92, 2) := dk_16 92 (dk_at dksX7_isHub_7 3 rfl rfl)
theorem dX7_isHub_166 : decode cX7_isHub 166 = .ok (.goto 86, 3) := dk_167 0 86 (dk_at dksX7_isHub_7 5 rfl rfl)
theorem dX7_isHub_169 : decode cX7_isHub 169 = .ok (.lload_n 1, 1) := dk_31 (dk_at dksX7_isHub_7 8 rfl rfl)
theorem dX7_isHub_170 : decode cX7_isHub 170 = .ok (.ldc2_w 295, 3) := dk_20 1 39 (dk_at dksX7_isHub_7 9 rfl rfl)
theorem dX7_isHub_173 : decode cX7_isHub 173 = .ok (.lcmp, 1) := dk_148 (dk_at dksX7_isHub_7 12 rfl rfl)
theorem dX7_isHub_174 : decode cX7_isHub 174 = .ok (.ifCond .ne 8, 3) := dk_154 0 8 (dk_at dksX7_isHub_7 13 rfl rfl)
theorem dX7_isHub_177 : decode cX7_isHub 177 = .ok (.bipush 120, 2) := dk_16 120 (dk_at dksX7_isHub_7 16 rfl rfl)
theorem dX7_isHub_179 : decode cX7_isHub 179 = .ok (.goto 73, 3) := dk_167 0 73 (dk_at dksX7_isHub_7 18 rfl rfl)
theorem dX7_isHub_182 : decode cX7_isHub 182 = .ok (.lload_n 1, 1) := dk_31 (dk_at dksX7_isHub_7 21 rfl rfl)
theorem dX7_isHub_183 : decode cX7_isHub 183 = .ok (.ldc2_w 297, 3) := dk_20 1 41 (dk_at dksX7_isHub_8 0 rfl rfl)
theorem dX7_isHub_186 : decode cX7_isHub 186 = .ok (.lcmp, 1) := dk_148 (dk_at dksX7_isHub_8 3 rfl rfl)
theorem dX7_isHub_187 : decode cX7_isHub 187 = .ok (.ifCond .ne 8, 3) := dk_154 0 8 (dk_at dksX7_isHub_8 4 rfl rfl)
theorem dX7_isHub_190 : decode cX7_isHub 190 = .ok (.bipush 124, 2) := dk_16 124 (dk_at dksX7_isHub_8 7 rfl rfl)
theorem dX7_isHub_192 : decode cX7_isHub 192 = .ok (.goto 60, 3) := dk_167 0 60 (dk_at dksX7_isHub_8 9 rfl rfl)
theorem dX7_isHub_195 : decode cX7_isHub 195 = .ok (.lload_n 1, 1) := dk_31 (dk_at dksX7_isHub_8 12 rfl rfl)
theorem dX7_isHub_196 : decode cX7_isHub 196 = .ok (.ldc2_w 299, 3) := dk_20 1 43 (dk_at dksX7_isHub_8 13 rfl rfl)
theorem dX7_isHub_199 : decode cX7_isHub 199 = .ok (.lcmp, 1) := dk_148 (dk_at dksX7_isHub_8 16 rfl rfl)
theorem dX7_isHub_200 : decode cX7_isHub 200 = .ok (.ifCond .ne 9, 3) := dk_154 0 9 (dk_at dksX7_isHub_8 17 rfl rfl)
theorem dX7_isHub_203 : decode cX7_isHub 203 = .ok (.sipush 128, 3) := dk_17 0 128 (dk_at dksX7_isHub_8 20 rfl rfl)
theorem dX7_isHub_206 : decode cX7_isHub 206 = .ok (.goto 46, 3) := dk_167 0 46 (dk_at dksX7_isHub_9 0 rfl rfl)
theorem dX7_isHub_209 : decode cX7_isHub 209 = .ok (.lload_n 1, 1) := dk_31 (dk_at dksX7_isHub_9 3 rfl rfl)
theorem dX7_isHub_210 : decode cX7_isHub 210 = .ok (.ldc2_w 301, 3) := dk_20 1 45 (dk_at dksX7_isHub_9 4 rfl rfl)
theorem dX7_isHub_213 : decode cX7_isHub 213 = .ok (.lcmp, 1) := dk_148 (dk_at dksX7_isHub_9 7 rfl rfl)
theorem dX7_isHub_214 : decode cX7_isHub 214 = .ok (.ifCond .ne 9, 3) := dk_154 0 9 (dk_at dksX7_isHub_9 8 rfl rfl)
theorem dX7_isHub_217 : decode cX7_isHub 217 = .ok (.sipush 144, 3) := dk_17 0 144 (dk_at dksX7_isHub_9 11 rfl rfl)
theorem dX7_isHub_220 : decode cX7_isHub 220 = .ok (.goto 32, 3) := dk_167 0 32 (dk_at dksX7_isHub_9 14 rfl rfl)
theorem dX7_isHub_223 : decode cX7_isHub 223 = .ok (.lload_n 1, 1) := dk_31 (dk_at dksX7_isHub_9 17 rfl rfl)
theorem dX7_isHub_224 : decode cX7_isHub 224 = .ok (.ldc2_w 303, 3) := dk_20 1 47 (dk_at dksX7_isHub_9 18 rfl rfl)
theorem dX7_isHub_227 : decode cX7_isHub 227 = .ok (.lcmp, 1) := dk_148 (dk_at dksX7_isHub_9 21 rfl rfl)
theorem dX7_isHub_228 : decode cX7_isHub 228 = .ok (.ifCond .ne 9, 3) := dk_154 0 9 (dk_at dksX7_isHub_10 0 rfl rfl)
theorem dX7_isHub_231 : decode cX7_isHub 231 = .ok (.sipush 148, 3) := dk_17 0 148 (dk_at dksX7_isHub_10 3 rfl rfl)
theorem dX7_isHub_234 : decode cX7_isHub 234 = .ok (.goto 18, 3) := dk_167 0 18 (dk_at dksX7_isHub_10 6 rfl rfl)
theorem dX7_isHub_237 : decode cX7_isHub 237 = .ok (.lload_n 1, 1) := dk_31 (dk_at dksX7_isHub_10 9 rfl rfl)
theorem dX7_isHub_238 : decode cX7_isHub 238 = .ok (.ldc2_w 305, 3) := dk_20 1 49 (dk_at dksX7_isHub_10 10 rfl rfl)
theorem dX7_isHub_241 : decode cX7_isHub 241 = .ok (.lcmp, 1) := dk_148 (dk_at dksX7_isHub_10 13 rfl rfl)
theorem dX7_isHub_242 : decode cX7_isHub 242 = .ok (.ifCond .ne 9, 3) := dk_154 0 9 (dk_at dksX7_isHub_10 14 rfl rfl)
theorem dX7_isHub_245 : decode cX7_isHub 245 = .ok (.sipush 152, 3) := dk_17 0 152 (dk_at dksX7_isHub_10 17 rfl rfl)
theorem dX7_isHub_248 : decode cX7_isHub 248 = .ok (.goto 4, 3) := dk_167 0 4 (dk_at dksX7_isHub_10 20 rfl rfl)
theorem dX7_isHub_251 : decode cX7_isHub 251 = .ok (.iconst (-1), 1) := dk_2 (dk_at dksX7_isHub_10 23 rfl rfl)
theorem dX7_isHub_252 : decode cX7_isHub 252 = .ok (.putfield 282, 3) := dk_181 1 26 (dk_at dksX7_isHub_11 0 rfl rfl)
theorem dX7_isHub_255 : decode cX7_isHub 255 = .ok (.aload_n 0, 1) := dk_42 (dk_at dksX7_isHub_11 3 rfl rfl)
theorem dX7_isHub_256 : decode cX7_isHub 256 = .ok (.getfield 282, 3) := dk_180 1 26 (dk_at dksX7_isHub_11 4 rfl rfl)
theorem dX7_isHub_259 : decode cX7_isHub 259 = .ok (.ifCond .lt 5, 3) := dk_155 0 5 (dk_at dksX7_isHub_11 7 rfl rfl)
theorem dX7_isHub_262 : decode cX7_isHub 262 = .ok (.iconst 1, 1) := dk_4 (dk_at dksX7_isHub_11 10 rfl rfl)
theorem dX7_isHub_263 : decode cX7_isHub 263 = .ok (.ireturn, 1) := dk_172 (dk_at dksX7_isHub_11 11 rfl rfl)
theorem dX7_isHub_264 : decode cX7_isHub 264 = .ok (.aload_n 0, 1) := dk_42 (dk_at dksX7_isHub_11 12 rfl rfl)
theorem dX7_isHub_265 : decode cX7_isHub 265 = .ok (.lload_n 1, 1) := dk_31 (dk_at dksX7_isHub_11 13 rfl rfl)
theorem dX7_isHub_266 : decode cX7_isHub 266 = .ok (.ldc2_w 307, 3) := dk_20 1 51 (dk_at dksX7_isHub_11 14 rfl rfl)
theorem dX7_isHub_269 : decode cX7_isHub 269 = .ok (.lcmp, 1) := dk_148 (dk_at dksX7_isHub_11 17 rfl rfl)
theorem dX7_isHub_270 : decode cX7_isHub 270 = .ok (.ifCond .eq 11, 3) := dk_153 0 11 (dk_at dksX7_isHub_11 18 rfl rfl)
theorem dX7_isHub_273 : decode cX7_isHub 273 = .ok (.lload_n 1, 1) := dk_31 (dk_at dksX7_isHub_11 21 rfl rfl)
theorem dX7_isHub_274 : decode cX7_isHub 274 = .ok (.ldc2_w 309, 3) := dk_20 1 53 (dk_at dksX7_isHub_12 0 rfl rfl)
theorem dX7_isHub_277 : decode cX7_isHub 277 = .ok (.lcmp, 1) := dk_148 (dk_at dksX7_isHub_12 3 rfl rfl)
theorem dX7_isHub_278 : decode cX7_isHub 278 = .ok (.ifCond .ne 8, 3) := dk_154 0 8 (dk_at dksX7_isHub_12 4 rfl rfl)
theorem dX7_isHub_281 : decode cX7_isHub 281 = .ok (.bipush 6, 2) := dk_16 6 (dk_at dksX7_isHub_12 7 rfl rfl)
theorem dX7_isHub_283 : decode cX7_isHub 283 = .ok (.goto 4, 3) := dk_167 0 4 (dk_at dksX7_isHub_12 9 rfl rfl)
theorem dX7_isHub_286 : decode cX7_isHub 286 = .ok (.iconst 3, 1) := dk_6 (dk_at dksX7_isHub_12 12 rfl rfl)
theorem dX7_isHub_287 : decode cX7_isHub 287 = .ok (.putfield 268, 3) := dk_181 1 12 (dk_at dksX7_isHub_12 13 rfl rfl)
theorem dX7_isHub_290 : decode cX7_isHub 290 = .ok (.aload_n 0, 1) := dk_42 (dk_at dksX7_isHub_12 16 rfl rfl)
theorem dX7_isHub_291 : decode cX7_isHub 291 = .ok (.lload_n 1, 1) := dk_31 (dk_at dksX7_isHub_12 17 rfl rfl)
theorem dX7_isHub_292 : decode cX7_isHub 292 = .ok (.ldc2_w 307, 3) := dk_20 1 51 (dk_at dksX7_isHub_12 18 rfl rfl)
theorem dX7_isHub_295 : decode cX7_isHub 295 = .ok (.lcmp, 1) := dk_148 (dk_at dksX7_isHub_12 21 rfl rfl)
theorem dX7_isHub_296 : decode cX7_isHub 296 = .ok (.ifCond .ne 8, 3) := dk_154 0 8 (dk_at dksX7_isHub_13 0 rfl rfl)
theorem dX7_isHub_299 : decode cX7_isHub 299 = .ok (.bipush 68, 2) := dk_16 68 (dk_at dksX7_isHub_13 3 rfl rfl)
theorem dX7_isHub_301 : decode cX7_isHub 301 = .ok (.goto 59, 3) := dk_167 0 59 (dk_at dksX7_isHub_13 5 rfl rfl)
theorem dX7_isHub_304 : decode cX7_isHub 304 = .ok (.lload_n 1, 1) := dk_31 (dk_at dksX7_isHub_13 8 rfl rfl)
theorem dX7_isHub_305 : decode cX7_isHub 305 = .ok (.ldc2_w 309, 3) := dk_20 1 53 (dk_at dksX7_isHub_13 9 rfl rfl)
theorem dX7_isHub_308 : decode cX7_isHub 308 = .ok (.lcmp, 1) := dk_148 (dk_at dksX7_isHub_13 12 rfl rfl)
theorem dX7_isHub_309 : decode cX7_isHub 309 = .ok (.ifCond .ne 8, 3) := dk_154 0 8 (dk_at dksX7_isHub_13 13 rfl rfl)
theorem dX7_isHub_312 : decode cX7_isHub 312 = .ok (.bipush 96, 2) := dk_16 96 (dk_at dksX7_isHub_13 16 rfl rfl)
theorem dX7_isHub_314 : decode cX7_isHub 314 = .ok (.goto 46, 3) := dk_167 0 46 (dk_at dksX7_isHub_13 18 rfl rfl)
theorem dX7_isHub_317 : decode cX7_isHub 317 = .ok (.lload_n 1, 1) := dk_31 (dk_at dksX7_isHub_13 21 rfl rfl)
theorem dX7_isHub_318 : decode cX7_isHub 318 = .ok (.ldc2_w 311, 3) := dk_20 1 55 (dk_at dksX7_isHub_14 0 rfl rfl)
theorem dX7_isHub_321 : decode cX7_isHub 321 = .ok (.lcmp, 1) := dk_148 (dk_at dksX7_isHub_14 3 rfl rfl)
theorem dX7_isHub_322 : decode cX7_isHub 322 = .ok (.ifCond .ne 9, 3) := dk_154 0 9 (dk_at dksX7_isHub_14 4 rfl rfl)
theorem dX7_isHub_325 : decode cX7_isHub 325 = .ok (.sipush 181, 3) := dk_17 0 181 (dk_at dksX7_isHub_14 7 rfl rfl)
theorem dX7_isHub_328 : decode cX7_isHub 328 = .ok (.goto 32, 3) := dk_167 0 32 (dk_at dksX7_isHub_14 10 rfl rfl)
theorem dX7_isHub_331 : decode cX7_isHub 331 = .ok (.lload_n 1, 1) := dk_31 (dk_at dksX7_isHub_14 13 rfl rfl)
theorem dX7_isHub_332 : decode cX7_isHub 332 = .ok (.ldc2_w 313, 3) := dk_20 1 57 (dk_at dksX7_isHub_14 14 rfl rfl)
theorem dX7_isHub_335 : decode cX7_isHub 335 = .ok (.lcmp, 1) := dk_148 (dk_at dksX7_isHub_14 17 rfl rfl)
theorem dX7_isHub_336 : decode cX7_isHub 336 = .ok (.ifCond .ne 9, 3) := dk_154 0 9 (dk_at dksX7_isHub_14 18 rfl rfl)
theorem dX7_isHub_339 : decode cX7_isHub 339 = .ok (.sipush 193, 3) := dk_17 0 193 (dk_at dksX7_isHub_14 21 rfl rfl)
theorem dX7_isHub_342 : decode cX7_isHub 342 = .ok (.goto 18, 3) := dk_167 0 18 (dk_at dksX7_isHub_15 0 rfl rfl)
theorem dX7_isHub_345 : decode cX7_isHub 345 = .ok (.lload_n 1, 1) := dk_31 (dk_at dksX7_isHub_15 3 rfl rfl)
theorem dX7_isHub_346 : decode cX7_isHub 346 = .ok (.ldc2_w 315, 3) := dk_20 1 59 (dk_at dksX7_isHub_15 4 rfl rfl)
theorem dX7_isHub_349 : decode cX7_isHub 349 = .ok (.lcmp, 1) := dk_148 (dk_at dksX7_isHub_15 7 rfl rfl)
theorem dX7_isHub_350 : decode cX7_isHub 350 = .ok (.ifCond .ne 9, 3) := dk_154 0 9 (dk_at dksX7_isHub_15 8 rfl rfl)
theorem dX7_isHub_353 : decode cX7_isHub 353 = .ok (.sipush 205, 3) := dk_17 0 205 (dk_at dksX7_isHub_15 11 rfl rfl)
theorem dX7_isHub_356 : decode cX7_isHub 356 = .ok (.goto 4, 3) := dk_167 0 4 (dk_at dksX7_isHub_15 14 rfl rfl)
theorem dX7_isHub_359 : decode cX7_isHub 359 = .ok (.iconst (-1), 1) := dk_2 (dk_at dksX7_isHub_15 17 rfl rfl)
theorem dX7_isHub_360 : decode cX7_isHub 360 = .ok (.putfield 282, 3) := dk_181 1 26 (dk_at dksX7_isHub_15 18 rfl rfl)
theorem dX7_isHub_363 : decode cX7_isHub 363 = .ok (.aload_n 0, 1) := dk_42 (dk_at dksX7_isHub_15 21 rfl rfl)
theorem dX7_isHub_364 : decode cX7_isHub 364 = .ok (.getfield 282, 3) := dk_180 1 26 (dk_at dksX7_isHub_16 0 rfl rfl)
theorem dX7_isHub_367 : decode cX7_isHub 367 = .ok (.ifCond .lt 5, 3) := dk_155 0 5 (dk_at dksX7_isHub_16 3 rfl rfl)
theorem dX7_isHub_370 : decode cX7_isHub 370 = .ok (.iconst 1, 1) := dk_4 (dk_at dksX7_isHub_16 6 rfl rfl)
theorem dX7_isHub_371 : decode cX7_isHub 371 = .ok (.ireturn, 1) := dk_172 (dk_at dksX7_isHub_16 7 rfl rfl)
theorem dX7_isHub_372 : decode cX7_isHub 372 = .ok (.aload_n 0, 1) := dk_42 (dk_at dksX7_isHub_16 8 rfl rfl)
theorem dX7_isHub_373 : decode cX7_isHub 373 = .ok (.iconst 1, 1) := dk_4 (dk_at dksX7_isHub_16 9 rfl rfl)
theorem dX7_isHub_374 : decode cX7_isHub 374 = .ok (.putfield 268, 3) := dk_181 1 12 (dk_at dksX7_isHub_16 10 rfl rfl)
theorem dX7_isHub_377 : decode cX7_isHub 377 = .ok (.aload_n 0, 1) := dk_42 (dk_at dksX7_isHub_16 13 rfl rfl)
theorem dX7_isHub_378 : decode cX7_isHub 378 = .ok (.lload_n 1, 1) := dk_31 (dk_at dksX7_isHub_16 14 rfl rfl)
theorem dX7_isHub_379 : decode cX7_isHub 379 = .ok (.ldc2_w 317, 3) := dk_20 1 61 (dk_at dksX7_isHub_16 15 rfl rfl)
theorem dX7_isHub_382 : decode cX7_isHub 382 = .ok (.lcmp, 1) := dk_148 (dk_at dksX7_isHub_16 18 rfl rfl)
theorem dX7_isHub_383 : decode cX7_isHub 383 = .ok (.ifCond .ne 8, 3) := dk_154 0 8 (dk_at dksX7_isHub_16 19 rfl rfl)
theorem dX7_isHub_386 : decode cX7_isHub 386 = .ok (.bipush 12, 2) := dk_16 12 (dk_at dksX7_isHub_16 22 rfl rfl)
theorem dX7_isHub_388 : decode cX7_isHub 388 = .ok (.goto 4, 3) := dk_167 0 4 (dk_at dksX7_isHub_17 0 rfl rfl)
theorem dX7_isHub_391 : decode cX7_isHub 391 = .ok (.iconst 3, 1) := dk_6 (dk_at dksX7_isHub_17 3 rfl rfl)
theorem dX7_isHub_392 : decode cX7_isHub 392 = .ok (.putfield 271, 3) := dk_181 1 15 (dk_at dksX7_isHub_17 4 rfl rfl)
theorem dX7_isHub_395 : decode cX7_isHub 395 = .ok (.aload_n 0, 1) := dk_42 (dk_at dksX7_isHub_17 7 rfl rfl)
theorem dX7_isHub_396 : decode cX7_isHub 396 = .ok (.lload_n 1, 1) := dk_31 (dk_at dksX7_isHub_17 8 rfl rfl)
theorem dX7_isHub_397 : decode cX7_isHub 397 = .ok (.ldc2_w 317, 3) := dk_20 1 61 (dk_at dksX7_isHub_17 9 rfl rfl)
theorem dX7_isHub_400 : decode cX7_isHub 400 = .ok (.lcmp, 1) := dk_148 (dk_at dksX7_isHub_17 12 rfl rfl)
theorem dX7_isHub_401 : decode cX7_isHub 401 = .ok (.ifCond .ne 9, 3) := dk_154 0 9 (dk_at dksX7_isHub_17 13 rfl rfl)
theorem dX7_isHub_404 : decode cX7_isHub 404 = .ok (.sipush 132, 3) := dk_17 0 132 (dk_at dksX7_isHub_17 16 rfl rfl)
theorem dX7_isHub_407 : decode cX7_isHub 407 = .ok (.goto 31, 3) := dk_167 0 31 (dk_at dksX7_isHub_17 19 rfl rfl)
theorem dX7_isHub_410 : decode cX7_isHub 410 = .ok (.lload_n 1, 1) := dk_31 (dk_at dksX7_isHub_17 22 rfl rfl)
theorem dX7_isHub_411 : decode cX7_isHub 411 = .ok (.ldc2_w 319, 3) := dk_20 1 63 (dk_at dksX7_isHub_18 0 rfl rfl)
theorem dX7_isHub_414 : decode cX7_isHub 414 = .ok (.lcmp, 1) := dk_148 (dk_at dksX7_isHub_18 3 rfl rfl)
theorem dX7_isHub_415 : decode cX7_isHub 415 = .ok (.ifCond .ne 8, 3) := dk_154 0 8 (dk_at dksX7_isHub_18 4 rfl rfl)
theorem dX7_isHub_418 : decode cX7_isHub 418 = .ok (.bipush 65, 2) := dk_16 65 (dk_at dksX7_isHub_18 7 rfl rfl)
theorem dX7_isHub_420 : decode cX7_isHub 420 = .ok (.goto 18, 3) := dk_167 0 18 (dk_at dksX7_isHub_18 9 rfl rfl)
theorem dX7_isHub_423 : decode cX7_isHub 423 = .ok (.lload_n 1, 1) := dk_31 (dk_at dksX7_isHub_18 12 rfl rfl)
theorem dX7_isHub_424 : decode cX7_isHub 424 = .ok (.ldc2_w 321, 3) := dk_20 1 65 (dk_at dksX7_isHub_18 13 rfl rfl)
theorem dX7_isHub_427 : decode cX7_isHub 427 = .ok (.lcmp, 1) := dk_148 (dk_at dksX7_isHub_18 16 rfl rfl)
theorem dX7_isHub_428 : decode cX7_isHub 428 = .ok (.ifCond .ne 9, 3) := dk_154 0 9 (dk_at dksX7_isHub_18 17 rfl rfl)
theorem dX7_isHub_431 : decode cX7_isHub 431 = .ok (.sipush 156, 3) := dk_17 0 156 (dk_at dksX7_isHub_18 20 rfl rfl)
theorem dX7_isHub_434 : decode cX7_isHub 434 = .ok (.goto 4, 3) := dk_167 0 4 (dk_at dksX7_isHub_19 0 rfl rfl)
theorem dX7_isHub_437 : decode cX7_isHub 437 = .ok (.iconst (-1), 1) := dk_2 (dk_at dksX7_isHub_19 3 rfl rfl)
theorem dX7_isHub_438 : decode cX7_isHub 438 = .ok (.putfield 282, 3) := dk_181 1 26 (dk_at dksX7_isHub_19 4 rfl rfl)
theorem dX7_isHub_441 : decode cX7_isHub 441 = .ok (.aload_n 0, 1) := dk_42 (dk_at dksX7_isHub_19 7 rfl rfl)
theorem dX7_isHub_442 : decode cX7_isHub 442 = .ok (.getfield 282, 3) := dk_180 1 26 (dk_at dksX7_isHub_19 8 rfl rfl)
theorem dX7_isHub_445 : decode cX7_isHub 445 = .ok (.ifCond .lt 7, 3) := dk_155 0 7 (dk_at dksX7_isHub_19 11 rfl rfl)
theorem dX7_isHub_448 : decode cX7_isHub 448 = .ok (.iconst 1, 1) := dk_4 (dk_at dksX7_isHub_19 14 rfl rfl)
theorem dX7_isHub_449 : decode cX7_isHub 449 = .ok (.goto 4, 3) := dk_167 0 4 (dk_at dksX7_isHub_19 15 rfl rfl)
theorem dX7_isHub_452 : decode cX7_isHub 452 = .ok (.iconst 0, 1) := dk_3 (dk_at dksX7_isHub_19 18 rfl rfl)
theorem dX7_isHub_453 : decode cX7_isHub 453 = .ok (.ireturn, 1) := dk_172 (dk_at dksX7_isHub_19 19 rfl rfl)
abbrev cX7_bad : ByteArray := prog_14_method_19_code
def yX7_bad : MethodName := ⟨RX7, "bad", "(II)Z"⟩
def dkwX7_bad_0 : List UInt8 := [42, 27, 181, 0, 252, 42, 28, 181, 0, 255, 3, 172]
abbrev dktX7_bad_0 : List UInt8 := dkwX7_bad_0 ++ []
theorem dksX7_bad_0 : cX7_bad.data.toList.drop 0 = dktX7_bad_0 := by decide +kernel
theorem dX7_bad_0 : decode cX7_bad 0 = .ok (.aload_n 0, 1) := dk_42 (dk_at dksX7_bad_0 0 rfl rfl)
theorem dX7_bad_1 : decode cX7_bad 1 = .ok (.iload_n 1, 1) := dk_27 (dk_at dksX7_bad_0 1 rfl rfl)
theorem dX7_bad_2 : decode cX7_bad 2 = .ok (.putfield 252, 3) := dk_181 0 252 (dk_at dksX7_bad_0 2 rfl rfl)
theorem dX7_bad_5 : decode cX7_bad 5 = .ok (.aload_n 0, 1) := dk_42 (dk_at dksX7_bad_0 5 rfl rfl)
theorem dX7_bad_6 : decode cX7_bad 6 = .ok (.iload_n 2, 1) := dk_28 (dk_at dksX7_bad_0 6 rfl rfl)
theorem dX7_bad_7 : decode cX7_bad 7 = .ok (.putfield 255, 3) := dk_181 0 255 (dk_at dksX7_bad_0 7 rfl rfl)
theorem dX7_bad_10 : decode cX7_bad 10 = .ok (.iconst 0, 1) := dk_3 (dk_at dksX7_bad_0 10 rfl rfl)
theorem dX7_bad_11 : decode cX7_bad 11 = .ok (.ireturn, 1) := dk_172 (dk_at dksX7_bad_0 11 rfl rfl)
abbrev cX7_hub : ByteArray := prog_14_method_26_code
def yX7_hub : MethodName := ⟨RX7, "hub", "(I)I"⟩
def dkwX7_hub_7 : List UInt8 := [180, 0, 29, 21, 6, 92, 46, 4, 96, 79, 21, 6, 172]
abbrev dktX7_hub_7 : List UInt8 := dkwX7_hub_7 ++ []
def dkwX7_hub_6 : List UInt8 := [180, 0, 29, 21, 6, 46, 21, 6, 184, 1, 80, 160, 0, 12, 42, 6, 28, 182, 1, 2, 87, 2, 172, 42]
abbrev dktX7_hub_6 : List UInt8 := dkwX7_hub_6 ++ dktX7_hub_7
def dkwX7_hub_5 : List UInt8 := [154, 0, 5, 2, 172, 21, 6, 42, 180, 1, 9, 4, 100, 96, 54, 6, 21, 6, 27, 159, 0, 18, 42]
abbrev dktX7_hub_5 : List UInt8 := dkwX7_hub_5 ++ dktX7_hub_6
def dkwX7_hub_4 : List UInt8 := [21, 5, 4, 164, 0, 35, 42, 16, 46, 182, 1, 77, 153, 0, 13, 42, 4, 21, 5, 182, 1, 74]
abbrev dktX7_hub_4 : List UInt8 := dkwX7_hub_4 ++ dktX7_hub_5
def dkwX7_hub_3 : List UInt8 := [21, 4, 182, 1, 74, 154, 0, 5, 2, 172, 21, 6, 42, 180, 1, 9, 4, 100, 21, 5, 104, 96, 54, 6]
abbrev dktX7_hub_3 : List UInt8 := dkwX7_hub_3 ++ dktX7_hub_4
def dkwX7_hub_2 : List UInt8 := [54, 4, 42, 180, 1, 12, 54, 5, 42, 182, 1, 6, 29, 54, 6, 21, 4, 4, 164, 0, 67, 42, 4]
abbrev dktX7_hub_2 : List UInt8 := dkwX7_hub_2 ++ dktX7_hub_3
def dkwX7_hub_1 : List UInt8 := [180, 0, 230, 182, 1, 2, 87, 2, 172, 42, 180, 0, 230, 61, 42, 180, 1, 26, 62, 42, 180, 1, 15]
abbrev dktX7_hub_1 : List UInt8 := dkwX7_hub_1 ++ dktX7_hub_2
def dkwX7_hub_0 : List UInt8 := [42, 180, 0, 236, 4, 160, 0, 14, 42, 42, 180, 0, 239, 182, 1, 70, 154, 0, 15, 42, 4, 42]
abbrev dktX7_hub_0 : List UInt8 := dkwX7_hub_0 ++ dktX7_hub_1
theorem dksX7_hub_0 : cX7_hub.data.toList.drop 0 = dktX7_hub_0 := by decide +kernel
theorem dksX7_hub_1 : cX7_hub.data.toList.drop 22 = dktX7_hub_1 := dk_seg dksX7_hub_0 22 rfl rfl
theorem dksX7_hub_2 : cX7_hub.data.toList.drop 45 = dktX7_hub_2 := dk_seg dksX7_hub_1 23 rfl rfl
theorem dksX7_hub_3 : cX7_hub.data.toList.drop 68 = dktX7_hub_3 := dk_seg dksX7_hub_2 23 rfl rfl
theorem dksX7_hub_4 : cX7_hub.data.toList.drop 92 = dktX7_hub_4 := dk_seg dksX7_hub_3 24 rfl rfl
theorem dksX7_hub_5 : cX7_hub.data.toList.drop 114 = dktX7_hub_5 := dk_seg dksX7_hub_4 22 rfl rfl
theorem dksX7_hub_6 : cX7_hub.data.toList.drop 137 = dktX7_hub_6 := dk_seg dksX7_hub_5 23 rfl rfl
theorem dksX7_hub_7 : cX7_hub.data.toList.drop 161 = dktX7_hub_7 := dk_seg dksX7_hub_6 24 rfl rfl
theorem dX7_hub_0 : decode cX7_hub 0 = .ok (.aload_n 0, 1) := dk_42 (dk_at dksX7_hub_0 0 rfl rfl)
theorem dX7_hub_1 : decode cX7_hub 1 = .ok (.getfield 236, 3) := dk_180 0 236 (dk_at dksX7_hub_0 1 rfl rfl)
theorem dX7_hub_4 : decode cX7_hub 4 = .ok (.iconst 1, 1) := dk_4 (dk_at dksX7_hub_0 4 rfl rfl)
theorem dX7_hub_5 : decode cX7_hub 5 = .ok (.if_icmp .ne 14, 3) := dk_160 0 14 (dk_at dksX7_hub_0 5 rfl rfl)
theorem dX7_hub_8 : decode cX7_hub 8 = .ok (.aload_n 0, 1) := dk_42 (dk_at dksX7_hub_0 8 rfl rfl)
theorem dX7_hub_9 : decode cX7_hub 9 = .ok (.aload_n 0, 1) := dk_42 (dk_at dksX7_hub_0 9 rfl rfl)
theorem dX7_hub_10 : decode cX7_hub 10 = .ok (.getfield 239, 3) := dk_180 0 239 (dk_at dksX7_hub_0 10 rfl rfl)
theorem dX7_hub_13 : decode cX7_hub 13 = .ok (.invokevirtual 326, 3) := dk_182 1 70 (dk_at dksX7_hub_0 13 rfl rfl)
theorem dX7_hub_16 : decode cX7_hub 16 = .ok (.ifCond .ne 15, 3) := dk_154 0 15 (dk_at dksX7_hub_0 16 rfl rfl)
theorem dX7_hub_19 : decode cX7_hub 19 = .ok (.aload_n 0, 1) := dk_42 (dk_at dksX7_hub_0 19 rfl rfl)
theorem dX7_hub_20 : decode cX7_hub 20 = .ok (.iconst 1, 1) := dk_4 (dk_at dksX7_hub_0 20 rfl rfl)
theorem dX7_hub_21 : decode cX7_hub 21 = .ok (.aload_n 0, 1) := dk_42 (dk_at dksX7_hub_0 21 rfl rfl)
theorem dX7_hub_22 : decode cX7_hub 22 = .ok (.getfield 230, 3) := dk_180 0 230 (dk_at dksX7_hub_1 0 rfl rfl)
theorem dX7_hub_25 : decode cX7_hub 25 = .ok (.invokevirtual 258, 3) := dk_182 1 2 (dk_at dksX7_hub_1 3 rfl rfl)
theorem dX7_hub_28 : decode cX7_hub 28 = .ok (.pop, 1) := dk_87 (dk_at dksX7_hub_1 6 rfl rfl)
theorem dX7_hub_29 : decode cX7_hub 29 = .ok (.iconst (-1), 1) := dk_2 (dk_at dksX7_hub_1 7 rfl rfl)
theorem dX7_hub_30 : decode cX7_hub 30 = .ok (.ireturn, 1) := dk_172 (dk_at dksX7_hub_1 8 rfl rfl)
theorem dX7_hub_31 : decode cX7_hub 31 = .ok (.aload_n 0, 1) := dk_42 (dk_at dksX7_hub_1 9 rfl rfl)
theorem dX7_hub_32 : decode cX7_hub 32 = .ok (.getfield 230, 3) := dk_180 0 230 (dk_at dksX7_hub_1 10 rfl rfl)
theorem dX7_hub_35 : decode cX7_hub 35 = .ok (.istore_n 2, 1) := dk_61 (dk_at dksX7_hub_1 13 rfl rfl)
theorem dX7_hub_36 : decode cX7_hub 36 = .ok (.aload_n 0, 1) := dk_42 (dk_at dksX7_hub_1 14 rfl rfl)
theorem dX7_hub_37 : decode cX7_hub 37 = .ok (.getfield 282, 3) := dk_180 1 26 (dk_at dksX7_hub_1 15 rfl rfl)
theorem dX7_hub_40 : decode cX7_hub 40 = .ok (.istore_n 3, 1) := dk_62 (dk_at dksX7_hub_1 18 rfl rfl)
theorem dX7_hub_41 : decode cX7_hub 41 = .ok (.aload_n 0, 1) := dk_42 (dk_at dksX7_hub_1 19 rfl rfl)
theorem dX7_hub_42 : decode cX7_hub 42 = .ok (.getfield 271, 3) := dk_180 1 15 (dk_at dksX7_hub_1 20 rfl rfl)
theorem dX7_hub_45 : decode cX7_hub 45 = .ok (.istore 4, 2) := dk_54 4 (dk_at dksX7_hub_2 0 rfl rfl)
theorem dX7_hub_47 : decode cX7_hub 47 = .ok (.aload_n 0, 1) := dk_42 (dk_at dksX7_hub_2 2 rfl rfl)
theorem dX7_hub_48 : decode cX7_hub 48 = .ok (.getfield 268, 3) := dk_180 1 12 (dk_at dksX7_hub_2 3 rfl rfl)
theorem dX7_hub_51 : decode cX7_hub 51 = .ok (.istore 5, 2) := dk_54 5 (dk_at dksX7_hub_2 6 rfl rfl)
theorem dX7_hub_53 : decode cX7_hub 53 = .ok (.aload_n 0, 1) := dk_42 (dk_at dksX7_hub_2 8 rfl rfl)
theorem dX7_hub_54 : decode cX7_hub 54 = .ok (.invokevirtual 262, 3) := dk_182 1 6 (dk_at dksX7_hub_2 9 rfl rfl)
theorem dX7_hub_57 : decode cX7_hub 57 = .ok (.iload_n 3, 1) := dk_29 (dk_at dksX7_hub_2 12 rfl rfl)
theorem dX7_hub_58 : decode cX7_hub 58 = .ok (.istore 6, 2) := dk_54 6 (dk_at dksX7_hub_2 13 rfl rfl)
theorem dX7_hub_60 : decode cX7_hub 60 = .ok (.iload 4, 2) := dk_21 4 (dk_at dksX7_hub_2 15 rfl rfl)
theorem dX7_hub_62 : decode cX7_hub 62 = .ok (.iconst 1, 1) := dk_4 (dk_at dksX7_hub_2 17 rfl rfl)
theorem dX7_hub_63 : decode cX7_hub 63 = .ok (.if_icmp .le 67, 3) := dk_164 0 67 (dk_at dksX7_hub_2 18 rfl rfl)
theorem dX7_hub_66 : decode cX7_hub 66 = .ok (.aload_n 0, 1) := dk_42 (dk_at dksX7_hub_2 21 rfl rfl)
theorem dX7_hub_67 : decode cX7_hub 67 = .ok (.iconst 1, 1) := dk_4 (dk_at dksX7_hub_2 22 rfl rfl)
theorem dX7_hub_68 : decode cX7_hub 68 = .ok (.iload 4, 2) := dk_21 4 (dk_at dksX7_hub_3 0 rfl rfl)
theorem dX7_hub_70 : decode cX7_hub 70 = .ok (.invokevirtual 330, 3) := dk_182 1 74 (dk_at dksX7_hub_3 2 rfl rfl)
theorem dX7_hub_73 : decode cX7_hub 73 = .ok (.ifCond .ne 5, 3) := dk_154 0 5 (dk_at dksX7_hub_3 5 rfl rfl)
theorem dX7_hub_76 : decode cX7_hub 76 = .ok (.iconst (-1), 1) := dk_2 (dk_at dksX7_hub_3 8 rfl rfl)
theorem dX7_hub_77 : decode cX7_hub 77 = .ok (.ireturn, 1) := dk_172 (dk_at dksX7_hub_3 9 rfl rfl)
theorem dX7_hub_78 : decode cX7_hub 78 = .ok (.iload 6, 2) := dk_21 6 (dk_at dksX7_hub_3 10 rfl rfl)
theorem dX7_hub_80 : decode cX7_hub 80 = .ok (.aload_n 0, 1) := dk_42 (dk_at dksX7_hub_3 12 rfl rfl)
theorem dX7_hub_81 : decode cX7_hub 81 = .ok (.getfield 265, 3) := dk_180 1 9 (dk_at dksX7_hub_3 13 rfl rfl)
theorem dX7_hub_84 : decode cX7_hub 84 = .ok (.iconst 1, 1) := dk_4 (dk_at dksX7_hub_3 16 rfl rfl)
theorem dX7_hub_85 : decode cX7_hub 85 = .ok (.isub, 1) := dk_100 (dk_at dksX7_hub_3 17 rfl rfl)
theorem dX7_hub_86 : decode cX7_hub 86 = .ok (.iload 5, 2) := dk_21 5 (dk_at dksX7_hub_3 18 rfl rfl)
theorem dX7_hub_88 : decode cX7_hub 88 = .ok (.imul, 1) := dk_104 (dk_at dksX7_hub_3 20 rfl rfl)
theorem dX7_hub_89 : decode cX7_hub 89 = .ok (.iadd, 1) := dk_96 (dk_at dksX7_hub_3 21 rfl rfl)
theorem dX7_hub_90 : decode cX7_hub 90 = .ok (.istore 6, 2) := dk_54 6 (dk_at dksX7_hub_3 22 rfl rfl)
theorem dX7_hub_92 : decode cX7_hub 92 = .ok (.iload 5, 2) := dk_21 5 (dk_at dksX7_hub_4 0 rfl rfl)
theorem dX7_hub_94 : decode cX7_hub 94 = .ok (.iconst 1, 1) := dk_4 (dk_at dksX7_hub_4 2 rfl rfl)
theorem dX7_hub_95 : decode cX7_hub 95 = .ok (.if_icmp .le 35, 3) := dk_164 0 35 (dk_at dksX7_hub_4 3 rfl rfl)
theorem dX7_hub_98 : decode cX7_hub 98 = .ok (.aload_n 0, 1) := dk_42 (dk_at dksX7_hub_4 6 rfl rfl)
theorem dX7_hub_99 : decode cX7_hub 99 = .ok (.bipush 46, 2) := dk_16 46 (dk_at dksX7_hub_4 7 rfl rfl)
theorem dX7_hub_101 : decode cX7_hub 101 = .ok (.invokevirtual 333, 3) := dk_182 1 77 (dk_at dksX7_hub_4 9 rfl rfl)
theorem dX7_hub_104 : decode cX7_hub 104 = .ok (.ifCond .eq 13, 3) := dk_153 0 13 (dk_at dksX7_hub_4 12 rfl rfl)
theorem dX7_hub_107 : decode cX7_hub 107 = .ok (.aload_n 0, 1) := dk_42 (dk_at dksX7_hub_4 15 rfl rfl)
theorem dX7_hub_108 : decode cX7_hub 108 = .ok (.iconst 1, 1) := dk_4 (dk_at dksX7_hub_4 16 rfl rfl)
theorem dX7_hub_109 : decode cX7_hub 109 = .ok (.iload 5, 2) := dk_21 5 (dk_at dksX7_hub_4 17 rfl rfl)
theorem dX7_hub_111 : decode cX7_hub 111 = .ok (.invokevirtual 330, 3) := dk_182 1 74 (dk_at dksX7_hub_4 19 rfl rfl)
theorem dX7_hub_114 : decode cX7_hub 114 = .ok (.ifCond .ne 5, 3) := dk_154 0 5 (dk_at dksX7_hub_5 0 rfl rfl)
theorem dX7_hub_117 : decode cX7_hub 117 = .ok (.iconst (-1), 1) := dk_2 (dk_at dksX7_hub_5 3 rfl rfl)
theorem dX7_hub_118 : decode cX7_hub 118 = .ok (.ireturn, 1) := dk_172 (dk_at dksX7_hub_5 4 rfl rfl)
theorem dX7_hub_119 : decode cX7_hub 119 = .ok (.iload 6, 2) := dk_21 6 (dk_at dksX7_hub_5 5 rfl rfl)
theorem dX7_hub_121 : decode cX7_hub 121 = .ok (.aload_n 0, 1) := dk_42 (dk_at dksX7_hub_5 7 rfl rfl)
theorem dX7_hub_122 : decode cX7_hub 122 = .ok (.getfield 265, 3) := dk_180 1 9 (dk_at dksX7_hub_5 8 rfl rfl)
theorem dX7_hub_125 : decode cX7_hub 125 = .ok (.iconst 1, 1) := dk_4 (dk_at dksX7_hub_5 11 rfl rfl)
theorem dX7_hub_126 : decode cX7_hub 126 = .ok (.isub, 1) := dk_100 (dk_at dksX7_hub_5 12 rfl rfl)
theorem dX7_hub_127 : decode cX7_hub 127 = .ok (.iadd, 1) := dk_96 (dk_at dksX7_hub_5 13 rfl rfl)
theorem dX7_hub_128 : decode cX7_hub 128 = .ok (.istore 6, 2) := dk_54 6 (dk_at dksX7_hub_5 14 rfl rfl)
theorem dX7_hub_130 : decode cX7_hub 130 = .ok (.iload 6, 2) := dk_21 6 (dk_at dksX7_hub_5 16 rfl rfl)
theorem dX7_hub_132 : decode cX7_hub 132 = .ok (.iload_n 1, 1) := dk_27 (dk_at dksX7_hub_5 18 rfl rfl)
theorem dX7_hub_133 : decode cX7_hub 133 = .ok (.if_icmp .eq 18, 3) := dk_159 0 18 (dk_at dksX7_hub_5 19 rfl rfl)
theorem dX7_hub_136 : decode cX7_hub 136 = .ok (.aload_n 0, 1) := dk_42 (dk_at dksX7_hub_5 22 rfl rfl)
theorem dX7_hub_137 : decode cX7_hub 137 = .ok (.getfield 29, 3) := dk_180 0 29 (dk_at dksX7_hub_6 0 rfl rfl)
theorem dX7_hub_140 : decode cX7_hub 140 = .ok (.iload 6, 2) := dk_21 6 (dk_at dksX7_hub_6 3 rfl rfl)
theorem dX7_hub_142 : decode cX7_hub 142 = .ok (.iaload, 1) := dk_46 (dk_at dksX7_hub_6 5 rfl rfl)
theorem dX7_hub_143 : decode cX7_hub 143 = .ok (.iload 6, 2) := dk_21 6 (dk_at dksX7_hub_6 6 rfl rfl)
theorem dX7_hub_145 : decode cX7_hub 145 = .ok (.invokestatic 336, 3) := dk_184 1 80 (dk_at dksX7_hub_6 8 rfl rfl)
theorem dX7_hub_148 : decode cX7_hub 148 = .ok (.if_icmp .ne 12, 3) := dk_160 0 12 (dk_at dksX7_hub_6 11 rfl rfl)
theorem dX7_hub_151 : decode cX7_hub 151 = .ok (.aload_n 0, 1) := dk_42 (dk_at dksX7_hub_6 14 rfl rfl)
theorem dX7_hub_152 : decode cX7_hub 152 = .ok (.iconst 3, 1) := dk_6 (dk_at dksX7_hub_6 15 rfl rfl)
theorem dX7_hub_153 : decode cX7_hub 153 = .ok (.iload_n 2, 1) := dk_28 (dk_at dksX7_hub_6 16 rfl rfl)
theorem dX7_hub_154 : decode cX7_hub 154 = .ok (.invokevirtual 258, 3) := dk_182 1 2 (dk_at dksX7_hub_6 17 rfl rfl)
theorem dX7_hub_157 : decode cX7_hub 157 = .ok (.pop, 1) := dk_87 (dk_at dksX7_hub_6 20 rfl rfl)
theorem dX7_hub_158 : decode cX7_hub 158 = .ok (.iconst (-1), 1) := dk_2 (dk_at dksX7_hub_6 21 rfl rfl)
theorem dX7_hub_159 : decode cX7_hub 159 = .ok (.ireturn, 1) := dk_172 (dk_at dksX7_hub_6 22 rfl rfl)
theorem dX7_hub_160 : decode cX7_hub 160 = .ok (.aload_n 0, 1) := dk_42 (dk_at dksX7_hub_6 23 rfl rfl)
theorem dX7_hub_161 : decode cX7_hub 161 = .ok (.getfield 29, 3) := dk_180 0 29 (dk_at dksX7_hub_7 0 rfl rfl)
theorem dX7_hub_164 : decode cX7_hub 164 = .ok (.iload 6, 2) := dk_21 6 (dk_at dksX7_hub_7 3 rfl rfl)
theorem dX7_hub_166 : decode cX7_hub 166 = .ok (.dup2, 1) := dk_92 (dk_at dksX7_hub_7 5 rfl rfl)
theorem dX7_hub_167 : decode cX7_hub 167 = .ok (.iaload, 1) := dk_46 (dk_at dksX7_hub_7 6 rfl rfl)
theorem dX7_hub_168 : decode cX7_hub 168 = .ok (.iconst 1, 1) := dk_4 (dk_at dksX7_hub_7 7 rfl rfl)
theorem dX7_hub_169 : decode cX7_hub 169 = .ok (.iadd, 1) := dk_96 (dk_at dksX7_hub_7 8 rfl rfl)
theorem dX7_hub_170 : decode cX7_hub 170 = .ok (.iastore, 1) := dk_79 (dk_at dksX7_hub_7 9 rfl rfl)
theorem dX7_hub_171 : decode cX7_hub 171 = .ok (.iload 6, 2) := dk_21 6 (dk_at dksX7_hub_7 10 rfl rfl)
theorem dX7_hub_173 : decode cX7_hub 173 = .ok (.ireturn, 1) := dk_172 (dk_at dksX7_hub_7 12 rfl rfl)
abbrev cX7_takes : ByteArray := prog_14_method_21_code
def yX7_takes : MethodName := ⟨RX7, "takes", "(II)Z"⟩
def dkwX7_takes_2 : List UInt8 := [42, 182, 1, 6, 4, 172]
abbrev dktX7_takes_2 : List UInt8 := dkwX7_takes_2 ++ []
def dkwX7_takes_1 : List UInt8 := [184, 0, 207, 154, 0, 13, 42, 5, 42, 180, 0, 230, 182, 1, 2, 172, 42, 42, 180, 0, 243, 181, 1, 9]
abbrev dktX7_takes_1 : List UInt8 := dkwX7_takes_1 ++ dktX7_takes_2
def dkwX7_takes_0 : List UInt8 := [42, 180, 0, 236, 5, 159, 0, 13, 42, 4, 42, 180, 0, 230, 182, 1, 2, 172, 42, 180, 0, 243, 27, 28]
abbrev dktX7_takes_0 : List UInt8 := dkwX7_takes_0 ++ dktX7_takes_1
theorem dksX7_takes_0 : cX7_takes.data.toList.drop 0 = dktX7_takes_0 := by decide +kernel
theorem dksX7_takes_1 : cX7_takes.data.toList.drop 24 = dktX7_takes_1 := dk_seg dksX7_takes_0 24 rfl rfl
theorem dksX7_takes_2 : cX7_takes.data.toList.drop 48 = dktX7_takes_2 := dk_seg dksX7_takes_1 24 rfl rfl
theorem dX7_takes_0 : decode cX7_takes 0 = .ok (.aload_n 0, 1) := dk_42 (dk_at dksX7_takes_0 0 rfl rfl)
theorem dX7_takes_1 : decode cX7_takes 1 = .ok (.getfield 236, 3) := dk_180 0 236 (dk_at dksX7_takes_0 1 rfl rfl)
theorem dX7_takes_4 : decode cX7_takes 4 = .ok (.iconst 2, 1) := dk_5 (dk_at dksX7_takes_0 4 rfl rfl)
theorem dX7_takes_5 : decode cX7_takes 5 = .ok (.if_icmp .eq 13, 3) := dk_159 0 13 (dk_at dksX7_takes_0 5 rfl rfl)
theorem dX7_takes_8 : decode cX7_takes 8 = .ok (.aload_n 0, 1) := dk_42 (dk_at dksX7_takes_0 8 rfl rfl)
theorem dX7_takes_9 : decode cX7_takes 9 = .ok (.iconst 1, 1) := dk_4 (dk_at dksX7_takes_0 9 rfl rfl)
theorem dX7_takes_10 : decode cX7_takes 10 = .ok (.aload_n 0, 1) := dk_42 (dk_at dksX7_takes_0 10 rfl rfl)
theorem dX7_takes_11 : decode cX7_takes 11 = .ok (.getfield 230, 3) := dk_180 0 230 (dk_at dksX7_takes_0 11 rfl rfl)
theorem dX7_takes_14 : decode cX7_takes 14 = .ok (.invokevirtual 258, 3) := dk_182 1 2 (dk_at dksX7_takes_0 14 rfl rfl)
theorem dX7_takes_17 : decode cX7_takes 17 = .ok (.ireturn, 1) := dk_172 (dk_at dksX7_takes_0 17 rfl rfl)
theorem dX7_takes_18 : decode cX7_takes 18 = .ok (.aload_n 0, 1) := dk_42 (dk_at dksX7_takes_0 18 rfl rfl)
theorem dX7_takes_19 : decode cX7_takes 19 = .ok (.getfield 243, 3) := dk_180 0 243 (dk_at dksX7_takes_0 19 rfl rfl)
theorem dX7_takes_22 : decode cX7_takes 22 = .ok (.iload_n 1, 1) := dk_27 (dk_at dksX7_takes_0 22 rfl rfl)
theorem dX7_takes_23 : decode cX7_takes 23 = .ok (.iload_n 2, 1) := dk_28 (dk_at dksX7_takes_0 23 rfl rfl)
theorem dX7_takes_24 : decode cX7_takes 24 = .ok (.invokestatic 207, 3) := dk_184 0 207 (dk_at dksX7_takes_1 0 rfl rfl)
theorem dX7_takes_27 : decode cX7_takes 27 = .ok (.ifCond .ne 13, 3) := dk_154 0 13 (dk_at dksX7_takes_1 3 rfl rfl)
theorem dX7_takes_30 : decode cX7_takes 30 = .ok (.aload_n 0, 1) := dk_42 (dk_at dksX7_takes_1 6 rfl rfl)
theorem dX7_takes_31 : decode cX7_takes 31 = .ok (.iconst 2, 1) := dk_5 (dk_at dksX7_takes_1 7 rfl rfl)
theorem dX7_takes_32 : decode cX7_takes 32 = .ok (.aload_n 0, 1) := dk_42 (dk_at dksX7_takes_1 8 rfl rfl)
theorem dX7_takes_33 : decode cX7_takes 33 = .ok (.getfield 230, 3) := dk_180 0 230 (dk_at dksX7_takes_1 9 rfl rfl)
theorem dX7_takes_36 : decode cX7_takes 36 = .ok (.invokevirtual 258, 3) := dk_182 1 2 (dk_at dksX7_takes_1 12 rfl rfl)
theorem dX7_takes_39 : decode cX7_takes 39 = .ok (.ireturn, 1) := dk_172 (dk_at dksX7_takes_1 15 rfl rfl)
theorem dX7_takes_40 : decode cX7_takes 40 = .ok (.aload_n 0, 1) := dk_42 (dk_at dksX7_takes_1 16 rfl rfl)
theorem dX7_takes_41 : decode cX7_takes 41 = .ok (.aload_n 0, 1) := dk_42 (dk_at dksX7_takes_1 17 rfl rfl)
theorem dX7_takes_42 : decode cX7_takes 42 = .ok (.getfield 243, 3) := dk_180 0 243 (dk_at dksX7_takes_1 18 rfl rfl)
theorem dX7_takes_45 : decode cX7_takes 45 = .ok (.putfield 265, 3) := dk_181 1 9 (dk_at dksX7_takes_1 21 rfl rfl)
theorem dX7_takes_48 : decode cX7_takes 48 = .ok (.aload_n 0, 1) := dk_42 (dk_at dksX7_takes_2 0 rfl rfl)
theorem dX7_takes_49 : decode cX7_takes 49 = .ok (.invokevirtual 262, 3) := dk_182 1 6 (dk_at dksX7_takes_2 1 rfl rfl)
theorem dX7_takes_52 : decode cX7_takes 52 = .ok (.iconst 1, 1) := dk_4 (dk_at dksX7_takes_2 4 rfl rfl)
theorem dX7_takes_53 : decode cX7_takes 53 = .ok (.ireturn, 1) := dk_172 (dk_at dksX7_takes_2 5 rfl rfl)
abbrev cX7_sign : ByteArray := prog_14_method_20_code
def yX7_sign : MethodName := ⟨RX7, "sign", "(I)Z"⟩
def dkwX7_sign_1 : List UInt8 := [182, 1, 2, 172, 42, 182, 1, 6, 4, 172]
abbrev dktX7_sign_1 : List UInt8 := dkwX7_sign_1 ++ []
def dkwX7_sign_0 : List UInt8 := [42, 180, 0, 236, 6, 160, 0, 11, 42, 180, 0, 243, 27, 159, 0, 13, 42, 4, 42, 180, 0, 230]
abbrev dktX7_sign_0 : List UInt8 := dkwX7_sign_0 ++ dktX7_sign_1
theorem dksX7_sign_0 : cX7_sign.data.toList.drop 0 = dktX7_sign_0 := by decide +kernel
theorem dksX7_sign_1 : cX7_sign.data.toList.drop 22 = dktX7_sign_1 := dk_seg dksX7_sign_0 22 rfl rfl
theorem dX7_sign_0 : decode cX7_sign 0 = .ok (.aload_n 0, 1) := dk_42 (dk_at dksX7_sign_0 0 rfl rfl)
theorem dX7_sign_1 : decode cX7_sign 1 = .ok (.getfield 236, 3) := dk_180 0 236 (dk_at dksX7_sign_0 1 rfl rfl)
theorem dX7_sign_4 : decode cX7_sign 4 = .ok (.iconst 3, 1) := dk_6 (dk_at dksX7_sign_0 4 rfl rfl)
theorem dX7_sign_5 : decode cX7_sign 5 = .ok (.if_icmp .ne 11, 3) := dk_160 0 11 (dk_at dksX7_sign_0 5 rfl rfl)
theorem dX7_sign_8 : decode cX7_sign 8 = .ok (.aload_n 0, 1) := dk_42 (dk_at dksX7_sign_0 8 rfl rfl)
theorem dX7_sign_9 : decode cX7_sign 9 = .ok (.getfield 243, 3) := dk_180 0 243 (dk_at dksX7_sign_0 9 rfl rfl)
theorem dX7_sign_12 : decode cX7_sign 12 = .ok (.iload_n 1, 1) := dk_27 (dk_at dksX7_sign_0 12 rfl rfl)
theorem dX7_sign_13 : decode cX7_sign 13 = .ok (.if_icmp .eq 13, 3) := dk_159 0 13 (dk_at dksX7_sign_0 13 rfl rfl)
theorem dX7_sign_16 : decode cX7_sign 16 = .ok (.aload_n 0, 1) := dk_42 (dk_at dksX7_sign_0 16 rfl rfl)
theorem dX7_sign_17 : decode cX7_sign 17 = .ok (.iconst 1, 1) := dk_4 (dk_at dksX7_sign_0 17 rfl rfl)
theorem dX7_sign_18 : decode cX7_sign 18 = .ok (.aload_n 0, 1) := dk_42 (dk_at dksX7_sign_0 18 rfl rfl)
theorem dX7_sign_19 : decode cX7_sign 19 = .ok (.getfield 230, 3) := dk_180 0 230 (dk_at dksX7_sign_0 19 rfl rfl)
theorem dX7_sign_22 : decode cX7_sign 22 = .ok (.invokevirtual 258, 3) := dk_182 1 2 (dk_at dksX7_sign_1 0 rfl rfl)
theorem dX7_sign_25 : decode cX7_sign 25 = .ok (.ireturn, 1) := dk_172 (dk_at dksX7_sign_1 3 rfl rfl)
theorem dX7_sign_26 : decode cX7_sign 26 = .ok (.aload_n 0, 1) := dk_42 (dk_at dksX7_sign_1 4 rfl rfl)
theorem dX7_sign_27 : decode cX7_sign 27 = .ok (.invokevirtual 262, 3) := dk_182 1 6 (dk_at dksX7_sign_1 5 rfl rfl)
theorem dX7_sign_30 : decode cX7_sign 30 = .ok (.iconst 1, 1) := dk_4 (dk_at dksX7_sign_1 8 rfl rfl)
theorem dX7_sign_31 : decode cX7_sign 31 = .ok (.ireturn, 1) := dk_172 (dk_at dksX7_sign_1 9 rfl rfl)
abbrev cX7_most : ByteArray := prog_14_method_25_code
def yX7_most : MethodName := ⟨RX7, "most", "(I)I"⟩
def dkwX7_most_0 : List UInt8 := [26, 184, 1, 67, 153, 0, 7, 4, 167, 0, 5, 16, 8, 172]
abbrev dktX7_most_0 : List UInt8 := dkwX7_most_0 ++ []
theorem dksX7_most_0 : cX7_most.data.toList.drop 0 = dktX7_most_0 := by decide +kernel
theorem dX7_most_0 : decode cX7_most 0 = .ok (.iload_n 0, 1) := dk_26 (dk_at dksX7_most_0 0 rfl rfl)
theorem dX7_most_1 : decode cX7_most 1 = .ok (.invokestatic 323, 3) := dk_184 1 67 (dk_at dksX7_most_0 1 rfl rfl)
theorem dX7_most_4 : decode cX7_most 4 = .ok (.ifCond .eq 7, 3) := dk_153 0 7 (dk_at dksX7_most_0 4 rfl rfl)
theorem dX7_most_7 : decode cX7_most 7 = .ok (.iconst 1, 1) := dk_4 (dk_at dksX7_most_0 7 rfl rfl)
theorem dX7_most_8 : decode cX7_most 8 = .ok (.goto 5, 3) := dk_167 0 5 (dk_at dksX7_most_0 8 rfl rfl)
theorem dX7_most_11 : decode cX7_most 11 = .ok (.bipush 8, 2) := dk_16 8 (dk_at dksX7_most_0 11 rfl rfl)
theorem dX7_most_13 : decode cX7_most 13 = .ok (.ireturn, 1) := dk_172 (dk_at dksX7_most_0 13 rfl rfl)
abbrev cX7_takesOnly : ByteArray := prog_14_method_24_code
def yX7_takesOnly : MethodName := ⟨RX7, "takesOnly", "(I)Z"⟩
def dkwX7_takesOnly_0 : List UInt8 := [26, 16, 96, 17, 0, 180, 184, 0, 207, 172]
abbrev dktX7_takesOnly_0 : List UInt8 := dkwX7_takesOnly_0 ++ []
theorem dksX7_takesOnly_0 : cX7_takesOnly.data.toList.drop 0 = dktX7_takesOnly_0 := by decide +kernel
theorem dX7_takesOnly_0 : decode cX7_takesOnly 0 = .ok (.iload_n 0, 1) := dk_26 (dk_at dksX7_takesOnly_0 0 rfl rfl)
theorem dX7_takesOnly_1 : decode cX7_takesOnly 1 = .ok (.bipush 96, 2) := dk_16 96 (dk_at dksX7_takesOnly_0 1 rfl rfl)
theorem dX7_takesOnly_3 : decode cX7_takesOnly 3 = .ok (.sipush 180, 3) := dk_17 0 180 (dk_at dksX7_takesOnly_0 3 rfl rfl)
theorem dX7_takesOnly_6 : decode cX7_takesOnly 6 = .ok (.invokestatic 207, 3) := dk_184 0 207 (dk_at dksX7_takesOnly_0 6 rfl rfl)
theorem dX7_takesOnly_9 : decode cX7_takesOnly 9 = .ok (.ireturn, 1) := dk_172 (dk_at dksX7_takesOnly_0 9 rfl rfl)
abbrev cX7_copyBoard : ByteArray := prog_14_method_28_code
def yX7_copyBoard : MethodName := ⟨RX7, "copyBoard", "(II)V"⟩
def dkwX7_copyBoard_2 : List UInt8 := [28, 104, 29, 96, 42, 180, 0, 23, 16, 60, 27, 104, 29, 96, 46, 79, 132, 3, 1, 167, 255, 203, 177]
abbrev dktX7_copyBoard_2 : List UInt8 := dkwX7_copyBoard_2 ++ []
def dkwX7_copyBoard_1 : List UInt8 := [16, 60, 28, 104, 29, 96, 42, 180, 0, 20, 16, 60, 27, 104, 29, 96, 46, 79, 42, 180, 0, 23, 16, 60]
abbrev dktX7_copyBoard_1 : List UInt8 := dkwX7_copyBoard_1 ++ dktX7_copyBoard_2
def dkwX7_copyBoard_0 : List UInt8 := [42, 180, 0, 26, 28, 42, 180, 0, 26, 27, 46, 79, 3, 62, 29, 16, 60, 162, 0, 53, 42, 180, 0, 20]
abbrev dktX7_copyBoard_0 : List UInt8 := dkwX7_copyBoard_0 ++ dktX7_copyBoard_1
theorem dksX7_copyBoard_0 : cX7_copyBoard.data.toList.drop 0 = dktX7_copyBoard_0 := by decide +kernel
theorem dksX7_copyBoard_1 : cX7_copyBoard.data.toList.drop 24 = dktX7_copyBoard_1 := dk_seg dksX7_copyBoard_0 24 rfl rfl
theorem dksX7_copyBoard_2 : cX7_copyBoard.data.toList.drop 48 = dktX7_copyBoard_2 := dk_seg dksX7_copyBoard_1 24 rfl rfl
theorem dX7_copyBoard_0 : decode cX7_copyBoard 0 = .ok (.aload_n 0, 1) := dk_42 (dk_at dksX7_copyBoard_0 0 rfl rfl)
theorem dX7_copyBoard_1 : decode cX7_copyBoard 1 = .ok (.getfield 26, 3) := dk_180 0 26 (dk_at dksX7_copyBoard_0 1 rfl rfl)
theorem dX7_copyBoard_4 : decode cX7_copyBoard 4 = .ok (.iload_n 2, 1) := dk_28 (dk_at dksX7_copyBoard_0 4 rfl rfl)
theorem dX7_copyBoard_5 : decode cX7_copyBoard 5 = .ok (.aload_n 0, 1) := dk_42 (dk_at dksX7_copyBoard_0 5 rfl rfl)
theorem dX7_copyBoard_6 : decode cX7_copyBoard 6 = .ok (.getfield 26, 3) := dk_180 0 26 (dk_at dksX7_copyBoard_0 6 rfl rfl)
theorem dX7_copyBoard_9 : decode cX7_copyBoard 9 = .ok (.iload_n 1, 1) := dk_27 (dk_at dksX7_copyBoard_0 9 rfl rfl)
theorem dX7_copyBoard_10 : decode cX7_copyBoard 10 = .ok (.iaload, 1) := dk_46 (dk_at dksX7_copyBoard_0 10 rfl rfl)
theorem dX7_copyBoard_11 : decode cX7_copyBoard 11 = .ok (.iastore, 1) := dk_79 (dk_at dksX7_copyBoard_0 11 rfl rfl)
theorem dX7_copyBoard_12 : decode cX7_copyBoard 12 = .ok (.iconst 0, 1) := dk_3 (dk_at dksX7_copyBoard_0 12 rfl rfl)
theorem dX7_copyBoard_13 : decode cX7_copyBoard 13 = .ok (.istore_n 3, 1) := dk_62 (dk_at dksX7_copyBoard_0 13 rfl rfl)
theorem dX7_copyBoard_14 : decode cX7_copyBoard 14 = .ok (.iload_n 3, 1) := dk_29 (dk_at dksX7_copyBoard_0 14 rfl rfl)
theorem dX7_copyBoard_15 : decode cX7_copyBoard 15 = .ok (.bipush 60, 2) := dk_16 60 (dk_at dksX7_copyBoard_0 15 rfl rfl)
theorem dX7_copyBoard_17 : decode cX7_copyBoard 17 = .ok (.if_icmp .ge 53, 3) := dk_162 0 53 (dk_at dksX7_copyBoard_0 17 rfl rfl)
theorem dX7_copyBoard_20 : decode cX7_copyBoard 20 = .ok (.aload_n 0, 1) := dk_42 (dk_at dksX7_copyBoard_0 20 rfl rfl)
theorem dX7_copyBoard_21 : decode cX7_copyBoard 21 = .ok (.getfield 20, 3) := dk_180 0 20 (dk_at dksX7_copyBoard_0 21 rfl rfl)
theorem dX7_copyBoard_24 : decode cX7_copyBoard 24 = .ok (.bipush 60, 2) := dk_16 60 (dk_at dksX7_copyBoard_1 0 rfl rfl)
theorem dX7_copyBoard_26 : decode cX7_copyBoard 26 = .ok (.iload_n 2, 1) := dk_28 (dk_at dksX7_copyBoard_1 2 rfl rfl)
theorem dX7_copyBoard_27 : decode cX7_copyBoard 27 = .ok (.imul, 1) := dk_104 (dk_at dksX7_copyBoard_1 3 rfl rfl)
theorem dX7_copyBoard_28 : decode cX7_copyBoard 28 = .ok (.iload_n 3, 1) := dk_29 (dk_at dksX7_copyBoard_1 4 rfl rfl)
theorem dX7_copyBoard_29 : decode cX7_copyBoard 29 = .ok (.iadd, 1) := dk_96 (dk_at dksX7_copyBoard_1 5 rfl rfl)
theorem dX7_copyBoard_30 : decode cX7_copyBoard 30 = .ok (.aload_n 0, 1) := dk_42 (dk_at dksX7_copyBoard_1 6 rfl rfl)
theorem dX7_copyBoard_31 : decode cX7_copyBoard 31 = .ok (.getfield 20, 3) := dk_180 0 20 (dk_at dksX7_copyBoard_1 7 rfl rfl)
theorem dX7_copyBoard_34 : decode cX7_copyBoard 34 = .ok (.bipush 60, 2) := dk_16 60 (dk_at dksX7_copyBoard_1 10 rfl rfl)
theorem dX7_copyBoard_36 : decode cX7_copyBoard 36 = .ok (.iload_n 1, 1) := dk_27 (dk_at dksX7_copyBoard_1 12 rfl rfl)
theorem dX7_copyBoard_37 : decode cX7_copyBoard 37 = .ok (.imul, 1) := dk_104 (dk_at dksX7_copyBoard_1 13 rfl rfl)
theorem dX7_copyBoard_38 : decode cX7_copyBoard 38 = .ok (.iload_n 3, 1) := dk_29 (dk_at dksX7_copyBoard_1 14 rfl rfl)
theorem dX7_copyBoard_39 : decode cX7_copyBoard 39 = .ok (.iadd, 1) := dk_96 (dk_at dksX7_copyBoard_1 15 rfl rfl)
theorem dX7_copyBoard_40 : decode cX7_copyBoard 40 = .ok (.iaload, 1) := dk_46 (dk_at dksX7_copyBoard_1 16 rfl rfl)
theorem dX7_copyBoard_41 : decode cX7_copyBoard 41 = .ok (.iastore, 1) := dk_79 (dk_at dksX7_copyBoard_1 17 rfl rfl)
theorem dX7_copyBoard_42 : decode cX7_copyBoard 42 = .ok (.aload_n 0, 1) := dk_42 (dk_at dksX7_copyBoard_1 18 rfl rfl)
theorem dX7_copyBoard_43 : decode cX7_copyBoard 43 = .ok (.getfield 23, 3) := dk_180 0 23 (dk_at dksX7_copyBoard_1 19 rfl rfl)
theorem dX7_copyBoard_46 : decode cX7_copyBoard 46 = .ok (.bipush 60, 2) := dk_16 60 (dk_at dksX7_copyBoard_1 22 rfl rfl)
theorem dX7_copyBoard_48 : decode cX7_copyBoard 48 = .ok (.iload_n 2, 1) := dk_28 (dk_at dksX7_copyBoard_2 0 rfl rfl)
theorem dX7_copyBoard_49 : decode cX7_copyBoard 49 = .ok (.imul, 1) := dk_104 (dk_at dksX7_copyBoard_2 1 rfl rfl)
theorem dX7_copyBoard_50 : decode cX7_copyBoard 50 = .ok (.iload_n 3, 1) := dk_29 (dk_at dksX7_copyBoard_2 2 rfl rfl)
theorem dX7_copyBoard_51 : decode cX7_copyBoard 51 = .ok (.iadd, 1) := dk_96 (dk_at dksX7_copyBoard_2 3 rfl rfl)
theorem dX7_copyBoard_52 : decode cX7_copyBoard 52 = .ok (.aload_n 0, 1) := dk_42 (dk_at dksX7_copyBoard_2 4 rfl rfl)
theorem dX7_copyBoard_53 : decode cX7_copyBoard 53 = .ok (.getfield 23, 3) := dk_180 0 23 (dk_at dksX7_copyBoard_2 5 rfl rfl)
theorem dX7_copyBoard_56 : decode cX7_copyBoard 56 = .ok (.bipush 60, 2) := dk_16 60 (dk_at dksX7_copyBoard_2 8 rfl rfl)
theorem dX7_copyBoard_58 : decode cX7_copyBoard 58 = .ok (.iload_n 1, 1) := dk_27 (dk_at dksX7_copyBoard_2 10 rfl rfl)
theorem dX7_copyBoard_59 : decode cX7_copyBoard 59 = .ok (.imul, 1) := dk_104 (dk_at dksX7_copyBoard_2 11 rfl rfl)
theorem dX7_copyBoard_60 : decode cX7_copyBoard 60 = .ok (.iload_n 3, 1) := dk_29 (dk_at dksX7_copyBoard_2 12 rfl rfl)
theorem dX7_copyBoard_61 : decode cX7_copyBoard 61 = .ok (.iadd, 1) := dk_96 (dk_at dksX7_copyBoard_2 13 rfl rfl)
theorem dX7_copyBoard_62 : decode cX7_copyBoard 62 = .ok (.iaload, 1) := dk_46 (dk_at dksX7_copyBoard_2 14 rfl rfl)
theorem dX7_copyBoard_63 : decode cX7_copyBoard 63 = .ok (.iastore, 1) := dk_79 (dk_at dksX7_copyBoard_2 15 rfl rfl)
theorem dX7_copyBoard_64 : decode cX7_copyBoard 64 = .ok (.iinc 3 1, 3) := dk_132 3 1 (dk_at dksX7_copyBoard_2 16 rfl rfl)
theorem dX7_copyBoard_67 : decode cX7_copyBoard 67 = .ok (.goto (-53), 3) := dk_167 255 203 (dk_at dksX7_copyBoard_2 19 rfl rfl)
theorem dX7_copyBoard_70 : decode cX7_copyBoard 70 = .ok (.return_, 1) := dk_177 (dk_at dksX7_copyBoard_2 22 rfl rfl)
abbrev cX7_run : ByteArray := prog_14_method_45_code
def yX7_run : MethodName := ⟨RX7, "run", "(II)I"⟩
def dkwX7_run_5 : List UInt8 := [42, 4, 182, 1, 150, 42, 4, 181, 1, 153, 42, 180, 0, 57, 3, 46, 172]
abbrev dktX7_run_5 : List UInt8 := dkwX7_run_5 ++ []
def dkwX7_run_4 : List UInt8 := [29, 46, 79, 132, 3, 1, 167, 255, 213, 42, 180, 0, 17, 28, 92, 46, 42, 180, 0, 63, 3, 46, 96, 79]
abbrev dktX7_run_4 : List UInt8 := dkwX7_run_4 ++ dktX7_run_5
def dkwX7_run_3 : List UInt8 := [42, 180, 0, 13, 16, 20, 16, 40, 28, 104, 42, 180, 0, 17, 28, 46, 96, 104, 29, 96, 42, 180, 0, 72]
abbrev dktX7_run_3 : List UInt8 := dkwX7_run_3 ++ dktX7_run_4
def dkwX7_run_2 : List UInt8 := [180, 0, 17, 28, 46, 100, 182, 1, 147, 3, 62, 29, 16, 20, 42, 180, 0, 63, 3, 46, 104, 162, 0, 36]
abbrev dktX7_run_2 : List UInt8 := dkwX7_run_2 ++ dktX7_run_3
def dkwX7_run_1 : List UInt8 := [2, 172, 42, 2, 181, 1, 97, 42, 27, 3, 42, 180, 0, 17, 27, 46, 2, 182, 1, 143, 42, 16, 40, 42]
abbrev dktX7_run_1 : List UInt8 := dkwX7_run_1 ++ dktX7_run_2
def dkwX7_run_0 : List UInt8 := [42, 3, 181, 0, 190, 27, 184, 0, 214, 153, 0, 15, 28, 184, 0, 214, 153, 0, 8, 27, 28, 160, 0, 5]
abbrev dktX7_run_0 : List UInt8 := dkwX7_run_0 ++ dktX7_run_1
theorem dksX7_run_0 : cX7_run.data.toList.drop 0 = dktX7_run_0 := by decide +kernel
theorem dksX7_run_1 : cX7_run.data.toList.drop 24 = dktX7_run_1 := dk_seg dksX7_run_0 24 rfl rfl
theorem dksX7_run_2 : cX7_run.data.toList.drop 48 = dktX7_run_2 := dk_seg dksX7_run_1 24 rfl rfl
theorem dksX7_run_3 : cX7_run.data.toList.drop 72 = dktX7_run_3 := dk_seg dksX7_run_2 24 rfl rfl
theorem dksX7_run_4 : cX7_run.data.toList.drop 96 = dktX7_run_4 := dk_seg dksX7_run_3 24 rfl rfl
theorem dksX7_run_5 : cX7_run.data.toList.drop 120 = dktX7_run_5 := dk_seg dksX7_run_4 24 rfl rfl
theorem dX7_run_0 : decode cX7_run 0 = .ok (.aload_n 0, 1) := dk_42 (dk_at dksX7_run_0 0 rfl rfl)
theorem dX7_run_1 : decode cX7_run 1 = .ok (.iconst 0, 1) := dk_3 (dk_at dksX7_run_0 1 rfl rfl)
theorem dX7_run_2 : decode cX7_run 2 = .ok (.putfield 190, 3) := dk_181 0 190 (dk_at dksX7_run_0 2 rfl rfl)
theorem dX7_run_5 : decode cX7_run 5 = .ok (.iload_n 1, 1) := dk_27 (dk_at dksX7_run_0 5 rfl rfl)
theorem dX7_run_6 : decode cX7_run 6 = .ok (.invokestatic 214, 3) := dk_184 0 214 (dk_at dksX7_run_0 6 rfl rfl)
theorem dX7_run_9 : decode cX7_run 9 = .ok (.ifCond .eq 15, 3) := dk_153 0 15 (dk_at dksX7_run_0 9 rfl rfl)
theorem dX7_run_12 : decode cX7_run 12 = .ok (.iload_n 2, 1) := dk_28 (dk_at dksX7_run_0 12 rfl rfl)
theorem dX7_run_13 : decode cX7_run 13 = .ok (.invokestatic 214, 3) := dk_184 0 214 (dk_at dksX7_run_0 13 rfl rfl)
theorem dX7_run_16 : decode cX7_run 16 = .ok (.ifCond .eq 8, 3) := dk_153 0 8 (dk_at dksX7_run_0 16 rfl rfl)
theorem dX7_run_19 : decode cX7_run 19 = .ok (.iload_n 1, 1) := dk_27 (dk_at dksX7_run_0 19 rfl rfl)
theorem dX7_run_20 : decode cX7_run 20 = .ok (.iload_n 2, 1) := dk_28 (dk_at dksX7_run_0 20 rfl rfl)
theorem dX7_run_21 : decode cX7_run 21 = .ok (.if_icmp .ne 5, 3) := dk_160 0 5 (dk_at dksX7_run_0 21 rfl rfl)
theorem dX7_run_24 : decode cX7_run 24 = .ok (.iconst (-1), 1) := dk_2 (dk_at dksX7_run_1 0 rfl rfl)
theorem dX7_run_25 : decode cX7_run 25 = .ok (.ireturn, 1) := dk_172 (dk_at dksX7_run_1 1 rfl rfl)
theorem dX7_run_26 : decode cX7_run 26 = .ok (.aload_n 0, 1) := dk_42 (dk_at dksX7_run_1 2 rfl rfl)
theorem dX7_run_27 : decode cX7_run 27 = .ok (.iconst (-1), 1) := dk_2 (dk_at dksX7_run_1 3 rfl rfl)
theorem dX7_run_28 : decode cX7_run 28 = .ok (.putfield 353, 3) := dk_181 1 97 (dk_at dksX7_run_1 4 rfl rfl)
theorem dX7_run_31 : decode cX7_run 31 = .ok (.aload_n 0, 1) := dk_42 (dk_at dksX7_run_1 7 rfl rfl)
theorem dX7_run_32 : decode cX7_run 32 = .ok (.iload_n 1, 1) := dk_27 (dk_at dksX7_run_1 8 rfl rfl)
theorem dX7_run_33 : decode cX7_run 33 = .ok (.iconst 0, 1) := dk_3 (dk_at dksX7_run_1 9 rfl rfl)
theorem dX7_run_34 : decode cX7_run 34 = .ok (.aload_n 0, 1) := dk_42 (dk_at dksX7_run_1 10 rfl rfl)
theorem dX7_run_35 : decode cX7_run 35 = .ok (.getfield 17, 3) := dk_180 0 17 (dk_at dksX7_run_1 11 rfl rfl)
theorem dX7_run_38 : decode cX7_run 38 = .ok (.iload_n 1, 1) := dk_27 (dk_at dksX7_run_1 14 rfl rfl)
theorem dX7_run_39 : decode cX7_run 39 = .ok (.iaload, 1) := dk_46 (dk_at dksX7_run_1 15 rfl rfl)
theorem dX7_run_40 : decode cX7_run 40 = .ok (.iconst (-1), 1) := dk_2 (dk_at dksX7_run_1 16 rfl rfl)
theorem dX7_run_41 : decode cX7_run 41 = .ok (.invokevirtual 399, 3) := dk_182 1 143 (dk_at dksX7_run_1 17 rfl rfl)
theorem dX7_run_44 : decode cX7_run 44 = .ok (.aload_n 0, 1) := dk_42 (dk_at dksX7_run_1 20 rfl rfl)
theorem dX7_run_45 : decode cX7_run 45 = .ok (.bipush 40, 2) := dk_16 40 (dk_at dksX7_run_1 21 rfl rfl)
theorem dX7_run_47 : decode cX7_run 47 = .ok (.aload_n 0, 1) := dk_42 (dk_at dksX7_run_1 23 rfl rfl)
theorem dX7_run_48 : decode cX7_run 48 = .ok (.getfield 17, 3) := dk_180 0 17 (dk_at dksX7_run_2 0 rfl rfl)
theorem dX7_run_51 : decode cX7_run 51 = .ok (.iload_n 2, 1) := dk_28 (dk_at dksX7_run_2 3 rfl rfl)
theorem dX7_run_52 : decode cX7_run 52 = .ok (.iaload, 1) := dk_46 (dk_at dksX7_run_2 4 rfl rfl)
theorem dX7_run_53 : decode cX7_run 53 = .ok (.isub, 1) := dk_100 (dk_at dksX7_run_2 5 rfl rfl)
theorem dX7_run_54 : decode cX7_run 54 = .ok (.invokevirtual 403, 3) := dk_182 1 147 (dk_at dksX7_run_2 6 rfl rfl)
theorem dX7_run_57 : decode cX7_run 57 = .ok (.iconst 0, 1) := dk_3 (dk_at dksX7_run_2 9 rfl rfl)
theorem dX7_run_58 : decode cX7_run 58 = .ok (.istore_n 3, 1) := dk_62 (dk_at dksX7_run_2 10 rfl rfl)
theorem dX7_run_59 : decode cX7_run 59 = .ok (.iload_n 3, 1) := dk_29 (dk_at dksX7_run_2 11 rfl rfl)
theorem dX7_run_60 : decode cX7_run 60 = .ok (.bipush 20, 2) := dk_16 20 (dk_at dksX7_run_2 12 rfl rfl)
theorem dX7_run_62 : decode cX7_run 62 = .ok (.aload_n 0, 1) := dk_42 (dk_at dksX7_run_2 14 rfl rfl)
theorem dX7_run_63 : decode cX7_run 63 = .ok (.getfield 63, 3) := dk_180 0 63 (dk_at dksX7_run_2 15 rfl rfl)
theorem dX7_run_66 : decode cX7_run 66 = .ok (.iconst 0, 1) := dk_3 (dk_at dksX7_run_2 18 rfl rfl)
theorem dX7_run_67 : decode cX7_run 67 = .ok (.iaload, 1) := dk_46 (dk_at dksX7_run_2 19 rfl rfl)
theorem dX7_run_68 : decode cX7_run 68 = .ok (.imul, 1) := dk_104 (dk_at dksX7_run_2 20 rfl rfl)
theorem dX7_run_69 : decode cX7_run 69 = .ok (.if_icmp .ge 36, 3) := dk_162 0 36 (dk_at dksX7_run_2 21 rfl rfl)
theorem dX7_run_72 : decode cX7_run 72 = .ok (.aload_n 0, 1) := dk_42 (dk_at dksX7_run_3 0 rfl rfl)
theorem dX7_run_73 : decode cX7_run 73 = .ok (.getfield 13, 3) := dk_180 0 13 (dk_at dksX7_run_3 1 rfl rfl)
theorem dX7_run_76 : decode cX7_run 76 = .ok (.bipush 20, 2) := dk_16 20 (dk_at dksX7_run_3 4 rfl rfl)
theorem dX7_run_78 : decode cX7_run 78 = .ok (.bipush 40, 2) := dk_16 40 (dk_at dksX7_run_3 6 rfl rfl)
theorem dX7_run_80 : decode cX7_run 80 = .ok (.iload_n 2, 1) := dk_28 (dk_at dksX7_run_3 8 rfl rfl)
theorem dX7_run_81 : decode cX7_run 81 = .ok (.imul, 1) := dk_104 (dk_at dksX7_run_3 9 rfl rfl)
theorem dX7_run_82 : decode cX7_run 82 = .ok (.aload_n 0, 1) := dk_42 (dk_at dksX7_run_3 10 rfl rfl)
theorem dX7_run_83 : decode cX7_run 83 = .ok (.getfield 17, 3) := dk_180 0 17 (dk_at dksX7_run_3 11 rfl rfl)
theorem dX7_run_86 : decode cX7_run 86 = .ok (.iload_n 2, 1) := dk_28 (dk_at dksX7_run_3 14 rfl rfl)
theorem dX7_run_87 : decode cX7_run 87 = .ok (.iaload, 1) := dk_46 (dk_at dksX7_run_3 15 rfl rfl)
theorem dX7_run_88 : decode cX7_run 88 = .ok (.iadd, 1) := dk_96 (dk_at dksX7_run_3 16 rfl rfl)
theorem dX7_run_89 : decode cX7_run 89 = .ok (.imul, 1) := dk_104 (dk_at dksX7_run_3 17 rfl rfl)
theorem dX7_run_90 : decode cX7_run 90 = .ok (.iload_n 3, 1) := dk_29 (dk_at dksX7_run_3 18 rfl rfl)
theorem dX7_run_91 : decode cX7_run 91 = .ok (.iadd, 1) := dk_96 (dk_at dksX7_run_3 19 rfl rfl)
theorem dX7_run_92 : decode cX7_run 92 = .ok (.aload_n 0, 1) := dk_42 (dk_at dksX7_run_3 20 rfl rfl)
theorem dX7_run_93 : decode cX7_run 93 = .ok (.getfield 72, 3) := dk_180 0 72 (dk_at dksX7_run_3 21 rfl rfl)
theorem dX7_run_96 : decode cX7_run 96 = .ok (.iload_n 3, 1) := dk_29 (dk_at dksX7_run_4 0 rfl rfl)
theorem dX7_run_97 : decode cX7_run 97 = .ok (.iaload, 1) := dk_46 (dk_at dksX7_run_4 1 rfl rfl)
theorem dX7_run_98 : decode cX7_run 98 = .ok (.iastore, 1) := dk_79 (dk_at dksX7_run_4 2 rfl rfl)
theorem dX7_run_99 : decode cX7_run 99 = .ok (.iinc 3 1, 3) := dk_132 3 1 (dk_at dksX7_run_4 3 rfl rfl)
theorem dX7_run_102 : decode cX7_run 102 = .ok (.goto (-43), 3) := dk_167 255 213 (dk_at dksX7_run_4 6 rfl rfl)
theorem dX7_run_105 : decode cX7_run 105 = .ok (.aload_n 0, 1) := dk_42 (dk_at dksX7_run_4 9 rfl rfl)
theorem dX7_run_106 : decode cX7_run 106 = .ok (.getfield 17, 3) := dk_180 0 17 (dk_at dksX7_run_4 10 rfl rfl)
theorem dX7_run_109 : decode cX7_run 109 = .ok (.iload_n 2, 1) := dk_28 (dk_at dksX7_run_4 13 rfl rfl)
theorem dX7_run_110 : decode cX7_run 110 = .ok (.dup2, 1) := dk_92 (dk_at dksX7_run_4 14 rfl rfl)
theorem dX7_run_111 : decode cX7_run 111 = .ok (.iaload, 1) := dk_46 (dk_at dksX7_run_4 15 rfl rfl)
theorem dX7_run_112 : decode cX7_run 112 = .ok (.aload_n 0, 1) := dk_42 (dk_at dksX7_run_4 16 rfl rfl)
theorem dX7_run_113 : decode cX7_run 113 = .ok (.getfield 63, 3) := dk_180 0 63 (dk_at dksX7_run_4 17 rfl rfl)
theorem dX7_run_116 : decode cX7_run 116 = .ok (.iconst 0, 1) := dk_3 (dk_at dksX7_run_4 20 rfl rfl)
theorem dX7_run_117 : decode cX7_run 117 = .ok (.iaload, 1) := dk_46 (dk_at dksX7_run_4 21 rfl rfl)
theorem dX7_run_118 : decode cX7_run 118 = .ok (.iadd, 1) := dk_96 (dk_at dksX7_run_4 22 rfl rfl)
theorem dX7_run_119 : decode cX7_run 119 = .ok (.iastore, 1) := dk_79 (dk_at dksX7_run_4 23 rfl rfl)
theorem dX7_run_120 : decode cX7_run 120 = .ok (.aload_n 0, 1) := dk_42 (dk_at dksX7_run_5 0 rfl rfl)
theorem dX7_run_121 : decode cX7_run 121 = .ok (.iconst 1, 1) := dk_4 (dk_at dksX7_run_5 1 rfl rfl)
theorem dX7_run_122 : decode cX7_run 122 = .ok (.invokevirtual 406, 3) := dk_182 1 150 (dk_at dksX7_run_5 2 rfl rfl)
theorem dX7_run_125 : decode cX7_run 125 = .ok (.aload_n 0, 1) := dk_42 (dk_at dksX7_run_5 5 rfl rfl)
theorem dX7_run_126 : decode cX7_run 126 = .ok (.iconst 1, 1) := dk_4 (dk_at dksX7_run_5 6 rfl rfl)
theorem dX7_run_127 : decode cX7_run 127 = .ok (.putfield 409, 3) := dk_181 1 153 (dk_at dksX7_run_5 7 rfl rfl)
theorem dX7_run_130 : decode cX7_run 130 = .ok (.aload_n 0, 1) := dk_42 (dk_at dksX7_run_5 10 rfl rfl)
theorem dX7_run_131 : decode cX7_run 131 = .ok (.getfield 57, 3) := dk_180 0 57 (dk_at dksX7_run_5 11 rfl rfl)
theorem dX7_run_134 : decode cX7_run 134 = .ok (.iconst 0, 1) := dk_3 (dk_at dksX7_run_5 14 rfl rfl)
theorem dX7_run_135 : decode cX7_run 135 = .ok (.iaload, 1) := dk_46 (dk_at dksX7_run_5 15 rfl rfl)
theorem dX7_run_136 : decode cX7_run 136 = .ok (.ireturn, 1) := dk_172 (dk_at dksX7_run_5 16 rfl rfl)
abbrev cX7_load : ByteArray := prog_14_method_30_code
def yX7_load : MethodName := ⟨RX7, "load", "(IIII)V"⟩
def dkwX7_load_3 : List UInt8 := [132, 6, 1, 167, 255, 213, 42, 89, 180, 1, 94, 4, 96, 181, 1, 94, 132, 5, 1, 167, 255, 176, 177]
abbrev dktX7_load_3 : List UInt8 := dkwX7_load_3 ++ []
def dkwX7_load_2 : List UInt8 := [21, 6, 96, 42, 180, 0, 13, 16, 20, 16, 40, 27, 104, 21, 5, 96, 104, 21, 6, 96, 46, 79]
abbrev dktX7_load_2 : List UInt8 := dkwX7_load_2 ++ dktX7_load_3
def dkwX7_load_1 : List UInt8 := [167, 0, 62, 3, 54, 6, 21, 6, 16, 20, 162, 0, 42, 42, 180, 0, 36, 16, 20, 42, 180, 1, 94, 104]
abbrev dktX7_load_1 : List UInt8 := dkwX7_load_1 ++ dktX7_load_2
def dkwX7_load_0 : List UInt8 := [42, 3, 181, 1, 94, 28, 54, 5, 21, 5, 28, 29, 96, 162, 0, 78, 21, 5, 21, 4, 160, 0, 6]
abbrev dktX7_load_0 : List UInt8 := dkwX7_load_0 ++ dktX7_load_1
theorem dksX7_load_0 : cX7_load.data.toList.drop 0 = dktX7_load_0 := by decide +kernel
theorem dksX7_load_1 : cX7_load.data.toList.drop 23 = dktX7_load_1 := dk_seg dksX7_load_0 23 rfl rfl
theorem dksX7_load_2 : cX7_load.data.toList.drop 47 = dktX7_load_2 := dk_seg dksX7_load_1 24 rfl rfl
theorem dksX7_load_3 : cX7_load.data.toList.drop 69 = dktX7_load_3 := dk_seg dksX7_load_2 22 rfl rfl
theorem dX7_load_0 : decode cX7_load 0 = .ok (.aload_n 0, 1) := dk_42 (dk_at dksX7_load_0 0 rfl rfl)
theorem dX7_load_1 : decode cX7_load 1 = .ok (.iconst 0, 1) := dk_3 (dk_at dksX7_load_0 1 rfl rfl)
theorem dX7_load_2 : decode cX7_load 2 = .ok (.putfield 350, 3) := dk_181 1 94 (dk_at dksX7_load_0 2 rfl rfl)
theorem dX7_load_5 : decode cX7_load 5 = .ok (.iload_n 2, 1) := dk_28 (dk_at dksX7_load_0 5 rfl rfl)
theorem dX7_load_6 : decode cX7_load 6 = .ok (.istore 5, 2) := dk_54 5 (dk_at dksX7_load_0 6 rfl rfl)
theorem dX7_load_8 : decode cX7_load 8 = .ok (.iload 5, 2) := dk_21 5 (dk_at dksX7_load_0 8 rfl rfl)
theorem dX7_load_10 : decode cX7_load 10 = .ok (.iload_n 2, 1) := dk_28 (dk_at dksX7_load_0 10 rfl rfl)
theorem dX7_load_11 : decode cX7_load 11 = .ok (.iload_n 3, 1) := dk_29 (dk_at dksX7_load_0 11 rfl rfl)
theorem dX7_load_12 : decode cX7_load 12 = .ok (.iadd, 1) := dk_96 (dk_at dksX7_load_0 12 rfl rfl)
theorem dX7_load_13 : decode cX7_load 13 = .ok (.if_icmp .ge 78, 3) := dk_162 0 78 (dk_at dksX7_load_0 13 rfl rfl)
theorem dX7_load_16 : decode cX7_load 16 = .ok (.iload 5, 2) := dk_21 5 (dk_at dksX7_load_0 16 rfl rfl)
theorem dX7_load_18 : decode cX7_load 18 = .ok (.iload 4, 2) := dk_21 4 (dk_at dksX7_load_0 18 rfl rfl)
theorem dX7_load_20 : decode cX7_load 20 = .ok (.if_icmp .ne 6, 3) := dk_160 0 6 (dk_at dksX7_load_0 20 rfl rfl)
theorem dX7_load_23 : decode cX7_load 23 = .ok (.goto 62, 3) := dk_167 0 62 (dk_at dksX7_load_1 0 rfl rfl)
theorem dX7_load_26 : decode cX7_load 26 = .ok (.iconst 0, 1) := dk_3 (dk_at dksX7_load_1 3 rfl rfl)
theorem dX7_load_27 : decode cX7_load 27 = .ok (.istore 6, 2) := dk_54 6 (dk_at dksX7_load_1 4 rfl rfl)
theorem dX7_load_29 : decode cX7_load 29 = .ok (.iload 6, 2) := dk_21 6 (dk_at dksX7_load_1 6 rfl rfl)
theorem dX7_load_31 : decode cX7_load 31 = .ok (.bipush 20, 2) := dk_16 20 (dk_at dksX7_load_1 8 rfl rfl)
theorem dX7_load_33 : decode cX7_load 33 = .ok (.if_icmp .ge 42, 3) := dk_162 0 42 (dk_at dksX7_load_1 10 rfl rfl)
theorem dX7_load_36 : decode cX7_load 36 = .ok (.aload_n 0, 1) := dk_42 (dk_at dksX7_load_1 13 rfl rfl)
theorem dX7_load_37 : decode cX7_load 37 = .ok (.getfield 36, 3) := dk_180 0 36 (dk_at dksX7_load_1 14 rfl rfl)
theorem dX7_load_40 : decode cX7_load 40 = .ok (.bipush 20, 2) := dk_16 20 (dk_at dksX7_load_1 17 rfl rfl)
theorem dX7_load_42 : decode cX7_load 42 = .ok (.aload_n 0, 1) := dk_42 (dk_at dksX7_load_1 19 rfl rfl)
theorem dX7_load_43 : decode cX7_load 43 = .ok (.getfield 350, 3) := dk_180 1 94 (dk_at dksX7_load_1 20 rfl rfl)
theorem dX7_load_46 : decode cX7_load 46 = .ok (.imul, 1) := dk_104 (dk_at dksX7_load_1 23 rfl rfl)
theorem dX7_load_47 : decode cX7_load 47 = .ok (.iload 6, 2) := dk_21 6 (dk_at dksX7_load_2 0 rfl rfl)
theorem dX7_load_49 : decode cX7_load 49 = .ok (.iadd, 1) := dk_96 (dk_at dksX7_load_2 2 rfl rfl)
theorem dX7_load_50 : decode cX7_load 50 = .ok (.aload_n 0, 1) := dk_42 (dk_at dksX7_load_2 3 rfl rfl)
theorem dX7_load_51 : decode cX7_load 51 = .ok (.getfield 13, 3) := dk_180 0 13 (dk_at dksX7_load_2 4 rfl rfl)
theorem dX7_load_54 : decode cX7_load 54 = .ok (.bipush 20, 2) := dk_16 20 (dk_at dksX7_load_2 7 rfl rfl)
theorem dX7_load_56 : decode cX7_load 56 = .ok (.bipush 40, 2) := dk_16 40 (dk_at dksX7_load_2 9 rfl rfl)
theorem dX7_load_58 : decode cX7_load 58 = .ok (.iload_n 1, 1) := dk_27 (dk_at dksX7_load_2 11 rfl rfl)
theorem dX7_load_59 : decode cX7_load 59 = .ok (.imul, 1) := dk_104 (dk_at dksX7_load_2 12 rfl rfl)
theorem dX7_load_60 : decode cX7_load 60 = .ok (.iload 5, 2) := dk_21 5 (dk_at dksX7_load_2 13 rfl rfl)
theorem dX7_load_62 : decode cX7_load 62 = .ok (.iadd, 1) := dk_96 (dk_at dksX7_load_2 15 rfl rfl)
theorem dX7_load_63 : decode cX7_load 63 = .ok (.imul, 1) := dk_104 (dk_at dksX7_load_2 16 rfl rfl)
theorem dX7_load_64 : decode cX7_load 64 = .ok (.iload 6, 2) := dk_21 6 (dk_at dksX7_load_2 17 rfl rfl)
theorem dX7_load_66 : decode cX7_load 66 = .ok (.iadd, 1) := dk_96 (dk_at dksX7_load_2 19 rfl rfl)
theorem dX7_load_67 : decode cX7_load 67 = .ok (.iaload, 1) := dk_46 (dk_at dksX7_load_2 20 rfl rfl)
theorem dX7_load_68 : decode cX7_load 68 = .ok (.iastore, 1) := dk_79 (dk_at dksX7_load_2 21 rfl rfl)
theorem dX7_load_69 : decode cX7_load 69 = .ok (.iinc 6 1, 3) := dk_132 6 1 (dk_at dksX7_load_3 0 rfl rfl)
theorem dX7_load_72 : decode cX7_load 72 = .ok (.goto (-43), 3) := dk_167 255 213 (dk_at dksX7_load_3 3 rfl rfl)
theorem dX7_load_75 : decode cX7_load 75 = .ok (.aload_n 0, 1) := dk_42 (dk_at dksX7_load_3 6 rfl rfl)
theorem dX7_load_76 : decode cX7_load 76 = .ok (.dup, 1) := dk_89 (dk_at dksX7_load_3 7 rfl rfl)
theorem dX7_load_77 : decode cX7_load 77 = .ok (.getfield 350, 3) := dk_180 1 94 (dk_at dksX7_load_3 8 rfl rfl)
theorem dX7_load_80 : decode cX7_load 80 = .ok (.iconst 1, 1) := dk_4 (dk_at dksX7_load_3 11 rfl rfl)
theorem dX7_load_81 : decode cX7_load 81 = .ok (.iadd, 1) := dk_96 (dk_at dksX7_load_3 12 rfl rfl)
theorem dX7_load_82 : decode cX7_load 82 = .ok (.putfield 350, 3) := dk_181 1 94 (dk_at dksX7_load_3 13 rfl rfl)
theorem dX7_load_85 : decode cX7_load 85 = .ok (.iinc 5 1, 3) := dk_132 5 1 (dk_at dksX7_load_3 16 rfl rfl)
theorem dX7_load_88 : decode cX7_load 88 = .ok (.goto (-80), 3) := dk_167 255 176 (dk_at dksX7_load_3 19 rfl rfl)
theorem dX7_load_91 : decode cX7_load 91 = .ok (.return_, 1) := dk_177 (dk_at dksX7_load_3 22 rfl rfl)
abbrev cX7_play : ByteArray := prog_14_method_37_code
def yX7_play : MethodName := ⟨RX7, "play", "(I)V"⟩
def dkwX7_play_17 : List UInt8 := [180, 0, 57, 3, 28, 153, 0, 7, 4, 167, 0, 4, 3, 79, 177]
abbrev dktX7_play_17 : List UInt8 := dkwX7_play_17 ++ []
def dkwX7_play_16 : List UInt8 := [42, 180, 0, 78, 3, 92, 46, 4, 96, 79, 132, 5, 1, 167, 255, 209, 132, 3, 1, 167, 254, 220, 42]
abbrev dktX7_play_16 : List UInt8 := dkwX7_play_16 ++ dktX7_play_17
def dkwX7_play_15 : List UInt8 := [182, 1, 126, 42, 180, 0, 57, 3, 42, 3, 182, 1, 119, 79, 42, 180, 0, 57, 3, 46, 153, 0, 4, 177]
abbrev dktX7_play_15 : List UInt8 := dkwX7_play_15 ++ dktX7_play_16
def dkwX7_play_14 : List UInt8 := [180, 1, 94, 4, 100, 160, 0, 6, 6, 54, 4, 4, 54, 5, 21, 5, 21, 4, 163, 0, 46, 42, 21, 5]
abbrev dktX7_play_14 : List UInt8 := dkwX7_play_14 ++ dktX7_play_15
def dkwX7_play_13 : List UInt8 := [17, 0, 156, 182, 1, 123, 155, 0, 7, 4, 167, 0, 4, 3, 54, 4, 28, 154, 0, 13, 29, 42]
abbrev dktX7_play_13 : List UInt8 := dkwX7_play_13 ++ dktX7_play_14
def dkwX7_play_12 : List UInt8 := [155, 0, 7, 6, 167, 0, 32, 42, 17, 0, 157, 182, 1, 123, 155, 0, 7, 5, 167, 0, 18, 42]
abbrev dktX7_play_12 : List UInt8 := dkwX7_play_12 ++ dktX7_play_13
def dkwX7_play_11 : List UInt8 := [42, 17, 0, 180, 182, 1, 123, 155, 0, 7, 4, 167, 0, 4, 3, 61, 42, 17, 0, 158, 182, 1, 123]
abbrev dktX7_play_11 : List UInt8 := dkwX7_play_11 ++ dktX7_play_12
def dkwX7_play_10 : List UInt8 := [182, 1, 119, 79, 42, 180, 0, 57, 3, 46, 153, 0, 4, 177, 42, 180, 0, 75, 3, 92, 46, 4, 96, 79]
abbrev dktX7_play_10 : List UInt8 := dkwX7_play_10 ++ dktX7_play_11
def dkwX7_play_9 : List UInt8 := [2, 79, 132, 4, 1, 167, 255, 179, 42, 180, 0, 39, 16, 60, 4, 79, 42, 180, 0, 57, 3, 42, 4]
abbrev dktX7_play_9 : List UInt8 := dkwX7_play_9 ++ dktX7_play_10
def dkwX7_play_8 : List UInt8 := [21, 4, 96, 42, 180, 0, 36, 16, 20, 29, 104, 21, 4, 96, 46, 16, 15, 164, 0, 7, 4, 167, 0, 4]
abbrev dktX7_play_8 : List UInt8 := dkwX7_play_8 ++ dktX7_play_9
def dkwX7_play_7 : List UInt8 := [180, 0, 39, 16, 20, 21, 4, 96, 42, 29, 4, 96, 21, 4, 182, 1, 115, 79, 42, 180, 0, 39, 16, 40]
abbrev dktX7_play_7 : List UInt8 := dkwX7_play_7 ++ dktX7_play_8
def dkwX7_play_6 : List UInt8 := [16, 20, 162, 0, 76, 42, 180, 0, 39, 3, 21, 4, 96, 42, 29, 21, 4, 182, 1, 115, 79, 42]
abbrev dktX7_play_6 : List UInt8 := dkwX7_play_6 ++ dktX7_play_7
def dkwX7_play_5 : List UInt8 := [16, 96, 162, 0, 17, 42, 180, 0, 39, 21, 4, 2, 79, 132, 4, 1, 167, 255, 238, 3, 54, 4, 21, 4]
abbrev dktX7_play_5 : List UInt8 := dkwX7_play_5 ++ dktX7_play_6
def dkwX7_play_4 : List UInt8 := [182, 1, 111, 3, 61, 3, 62, 29, 42, 180, 1, 94, 162, 1, 34, 28, 154, 1, 30, 3, 54, 4, 21, 4]
abbrev dktX7_play_4 : List UInt8 := dkwX7_play_4 ++ dktX7_play_5
def dkwX7_play_3 : List UInt8 := [28, 3, 79, 132, 2, 1, 167, 255, 241, 42, 180, 1, 94, 154, 0, 4, 177, 42, 42, 180, 0, 42, 3]
abbrev dktX7_play_3 : List UInt8 := dkwX7_play_3 ++ dktX7_play_4
def dkwX7_play_2 : List UInt8 := [180, 0, 84, 3, 2, 79, 42, 180, 0, 87, 3, 2, 79, 3, 61, 28, 7, 162, 0, 16, 42, 180, 0, 69]
abbrev dktX7_play_2 : List UInt8 := dkwX7_play_2 ++ dktX7_play_3
def dkwX7_play_1 : List UInt8 := [3, 79, 42, 180, 0, 75, 3, 3, 79, 42, 180, 0, 78, 3, 3, 79, 42, 180, 0, 81, 3, 3, 79, 42]
abbrev dktX7_play_1 : List UInt8 := dkwX7_play_1 ++ dktX7_play_2
def dkwX7_play_0 : List UInt8 := [42, 27, 181, 1, 108, 42, 180, 0, 57, 3, 3, 79, 42, 180, 0, 60, 3, 3, 79, 42, 180, 0, 63, 3]
abbrev dktX7_play_0 : List UInt8 := dkwX7_play_0 ++ dktX7_play_1
theorem dksX7_play_0 : cX7_play.data.toList.drop 0 = dktX7_play_0 := by decide +kernel
theorem dksX7_play_1 : cX7_play.data.toList.drop 24 = dktX7_play_1 := dk_seg dksX7_play_0 24 rfl rfl
theorem dksX7_play_2 : cX7_play.data.toList.drop 48 = dktX7_play_2 := dk_seg dksX7_play_1 24 rfl rfl
theorem dksX7_play_3 : cX7_play.data.toList.drop 72 = dktX7_play_3 := dk_seg dksX7_play_2 24 rfl rfl
theorem dksX7_play_4 : cX7_play.data.toList.drop 95 = dktX7_play_4 := dk_seg dksX7_play_3 23 rfl rfl
theorem dksX7_play_5 : cX7_play.data.toList.drop 119 = dktX7_play_5 := dk_seg dksX7_play_4 24 rfl rfl
theorem dksX7_play_6 : cX7_play.data.toList.drop 143 = dktX7_play_6 := dk_seg dksX7_play_5 24 rfl rfl
theorem dksX7_play_7 : cX7_play.data.toList.drop 165 = dktX7_play_7 := dk_seg dksX7_play_6 22 rfl rfl
theorem dksX7_play_8 : cX7_play.data.toList.drop 189 = dktX7_play_8 := dk_seg dksX7_play_7 24 rfl rfl
theorem dksX7_play_9 : cX7_play.data.toList.drop 213 = dktX7_play_9 := dk_seg dksX7_play_8 24 rfl rfl
theorem dksX7_play_10 : cX7_play.data.toList.drop 236 = dktX7_play_10 := dk_seg dksX7_play_9 23 rfl rfl
theorem dksX7_play_11 : cX7_play.data.toList.drop 260 = dktX7_play_11 := dk_seg dksX7_play_10 24 rfl rfl
theorem dksX7_play_12 : cX7_play.data.toList.drop 283 = dktX7_play_12 := dk_seg dksX7_play_11 23 rfl rfl
theorem dksX7_play_13 : cX7_play.data.toList.drop 305 = dktX7_play_13 := dk_seg dksX7_play_12 22 rfl rfl
theorem dksX7_play_14 : cX7_play.data.toList.drop 327 = dktX7_play_14 := dk_seg dksX7_play_13 22 rfl rfl
theorem dksX7_play_15 : cX7_play.data.toList.drop 351 = dktX7_play_15 := dk_seg dksX7_play_14 24 rfl rfl
theorem dksX7_play_16 : cX7_play.data.toList.drop 375 = dktX7_play_16 := dk_seg dksX7_play_15 24 rfl rfl
theorem dksX7_play_17 : cX7_play.data.toList.drop 398 = dktX7_play_17 := dk_seg dksX7_play_16 23 rfl rfl
theorem dX7_play_0 : decode cX7_play 0 = .ok (.aload_n 0, 1) := dk_42 (dk_at dksX7_play_0 0 rfl rfl)
theorem dX7_play_1 : decode cX7_play 1 = .ok (.iload_n 1, 1) := dk_27 (dk_at dksX7_play_0 1 rfl rfl)
theorem dX7_play_2 : decode cX7_play 2 = .ok (.putfield 364, 3) := dk_181 1 108 (dk_at dksX7_play_0 2 rfl rfl)
theorem dX7_play_5 : decode cX7_play 5 = .ok (.aload_n 0, 1) := dk_42 (dk_at dksX7_play_0 5 rfl rfl)
theorem dX7_play_6 : decode cX7_play 6 = .ok (.getfield 57, 3) := dk_180 0 57 (dk_at dksX7_play_0 6 rfl rfl)
theorem dX7_play_9 : decode cX7_play 9 = .ok (.iconst 0, 1) := dk_3 (dk_at dksX7_play_0 9 rfl rfl)
theorem dX7_play_10 : decode cX7_play 10 = .ok (.iconst 0, 1) := dk_3 (dk_at dksX7_play_0 10 rfl rfl)
theorem dX7_play_11 : decode cX7_play 11 = .ok (.iastore, 1) := dk_79 (dk_at dksX7_play_0 11 rfl rfl)
theorem dX7_play_12 : decode cX7_play 12 = .ok (.aload_n 0, 1) := dk_42 (dk_at dksX7_play_0 12 rfl rfl)
theorem dX7_play_13 : decode cX7_play 13 = .ok (.getfield 60, 3) := dk_180 0 60 (dk_at dksX7_play_0 13 rfl rfl)
theorem dX7_play_16 : decode cX7_play 16 = .ok (.iconst 0, 1) := dk_3 (dk_at dksX7_play_0 16 rfl rfl)
theorem dX7_play_17 : decode cX7_play 17 = .ok (.iconst 0, 1) := dk_3 (dk_at dksX7_play_0 17 rfl rfl)
theorem dX7_play_18 : decode cX7_play 18 = .ok (.iastore, 1) := dk_79 (dk_at dksX7_play_0 18 rfl rfl)
theorem dX7_play_19 : decode cX7_play 19 = .ok (.aload_n 0, 1) := dk_42 (dk_at dksX7_play_0 19 rfl rfl)
theorem dX7_play_20 : decode cX7_play 20 = .ok (.getfield 63, 3) := dk_180 0 63 (dk_at dksX7_play_0 20 rfl rfl)
theorem dX7_play_23 : decode cX7_play 23 = .ok (.iconst 0, 1) := dk_3 (dk_at dksX7_play_0 23 rfl rfl)
theorem dX7_play_24 : decode cX7_play 24 = .ok (.iconst 0, 1) := dk_3 (dk_at dksX7_play_1 0 rfl rfl)
theorem dX7_play_25 : decode cX7_play 25 = .ok (.iastore, 1) := dk_79 (dk_at dksX7_play_1 1 rfl rfl)
theorem dX7_play_26 : decode cX7_play 26 = .ok (.aload_n 0, 1) := dk_42 (dk_at dksX7_play_1 2 rfl rfl)
theorem dX7_play_27 : decode cX7_play 27 = .ok (.getfield 75, 3) := dk_180 0 75 (dk_at dksX7_play_1 3 rfl rfl)
theorem dX7_play_30 : decode cX7_play 30 = .ok (.iconst 0, 1) := dk_3 (dk_at dksX7_play_1 6 rfl rfl)
theorem dX7_play_31 : decode cX7_play 31 = .ok (.iconst 0, 1) := dk_3 (dk_at dksX7_play_1 7 rfl rfl)
theorem dX7_play_32 : decode cX7_play 32 = .ok (.iastore, 1) := dk_79 (dk_at dksX7_play_1 8 rfl rfl)
theorem dX7_play_33 : decode cX7_play 33 = .ok (.aload_n 0, 1) := dk_42 (dk_at dksX7_play_1 9 rfl rfl)
theorem dX7_play_34 : decode cX7_play 34 = .ok (.getfield 78, 3) := dk_180 0 78 (dk_at dksX7_play_1 10 rfl rfl)
theorem dX7_play_37 : decode cX7_play 37 = .ok (.iconst 0, 1) := dk_3 (dk_at dksX7_play_1 13 rfl rfl)
theorem dX7_play_38 : decode cX7_play 38 = .ok (.iconst 0, 1) := dk_3 (dk_at dksX7_play_1 14 rfl rfl)
theorem dX7_play_39 : decode cX7_play 39 = .ok (.iastore, 1) := dk_79 (dk_at dksX7_play_1 15 rfl rfl)
theorem dX7_play_40 : decode cX7_play 40 = .ok (.aload_n 0, 1) := dk_42 (dk_at dksX7_play_1 16 rfl rfl)
theorem dX7_play_41 : decode cX7_play 41 = .ok (.getfield 81, 3) := dk_180 0 81 (dk_at dksX7_play_1 17 rfl rfl)
theorem dX7_play_44 : decode cX7_play 44 = .ok (.iconst 0, 1) := dk_3 (dk_at dksX7_play_1 20 rfl rfl)
theorem dX7_play_45 : decode cX7_play 45 = .ok (.iconst 0, 1) := dk_3 (dk_at dksX7_play_1 21 rfl rfl)
theorem dX7_play_46 : decode cX7_play 46 = .ok (.iastore, 1) := dk_79 (dk_at dksX7_play_1 22 rfl rfl)
theorem dX7_play_47 : decode cX7_play 47 = .ok (.aload_n 0, 1) := dk_42 (dk_at dksX7_play_1 23 rfl rfl)
theorem dX7_play_48 : decode cX7_play 48 = .ok (.getfield 84, 3) := dk_180 0 84 (dk_at dksX7_play_2 0 rfl rfl)
theorem dX7_play_51 : decode cX7_play 51 = .ok (.iconst 0, 1) := dk_3 (dk_at dksX7_play_2 3 rfl rfl)
theorem dX7_play_52 : decode cX7_play 52 = .ok (.iconst (-1), 1) := dk_2 (dk_at dksX7_play_2 4 rfl rfl)
theorem dX7_play_53 : decode cX7_play 53 = .ok (.iastore, 1) := dk_79 (dk_at dksX7_play_2 5 rfl rfl)
theorem dX7_play_54 : decode cX7_play 54 = .ok (.aload_n 0, 1) := dk_42 (dk_at dksX7_play_2 6 rfl rfl)
theorem dX7_play_55 : decode cX7_play 55 = .ok (.getfield 87, 3) := dk_180 0 87 (dk_at dksX7_play_2 7 rfl rfl)
theorem dX7_play_58 : decode cX7_play 58 = .ok (.iconst 0, 1) := dk_3 (dk_at dksX7_play_2 10 rfl rfl)
theorem dX7_play_59 : decode cX7_play 59 = .ok (.iconst (-1), 1) := dk_2 (dk_at dksX7_play_2 11 rfl rfl)
theorem dX7_play_60 : decode cX7_play 60 = .ok (.iastore, 1) := dk_79 (dk_at dksX7_play_2 12 rfl rfl)
theorem dX7_play_61 : decode cX7_play 61 = .ok (.iconst 0, 1) := dk_3 (dk_at dksX7_play_2 13 rfl rfl)
theorem dX7_play_62 : decode cX7_play 62 = .ok (.istore_n 2, 1) := dk_61 (dk_at dksX7_play_2 14 rfl rfl)
theorem dX7_play_63 : decode cX7_play 63 = .ok (.iload_n 2, 1) := dk_28 (dk_at dksX7_play_2 15 rfl rfl)
theorem dX7_play_64 : decode cX7_play 64 = .ok (.iconst 4, 1) := dk_7 (dk_at dksX7_play_2 16 rfl rfl)
theorem dX7_play_65 : decode cX7_play 65 = .ok (.if_icmp .ge 16, 3) := dk_162 0 16 (dk_at dksX7_play_2 17 rfl rfl)
theorem dX7_play_68 : decode cX7_play 68 = .ok (.aload_n 0, 1) := dk_42 (dk_at dksX7_play_2 20 rfl rfl)
theorem dX7_play_69 : decode cX7_play 69 = .ok (.getfield 69, 3) := dk_180 0 69 (dk_at dksX7_play_2 21 rfl rfl)
theorem dX7_play_72 : decode cX7_play 72 = .ok (.iload_n 2, 1) := dk_28 (dk_at dksX7_play_3 0 rfl rfl)
theorem dX7_play_73 : decode cX7_play 73 = .ok (.iconst 0, 1) := dk_3 (dk_at dksX7_play_3 1 rfl rfl)
theorem dX7_play_74 : decode cX7_play 74 = .ok (.iastore, 1) := dk_79 (dk_at dksX7_play_3 2 rfl rfl)
theorem dX7_play_75 : decode cX7_play 75 = .ok (.iinc 2 1, 3) := dk_132 2 1 (dk_at dksX7_play_3 3 rfl rfl)
theorem dX7_play_78 : decode cX7_play 78 = .ok (.goto (-15), 3) := dk_167 255 241 (dk_at dksX7_play_3 6 rfl rfl)
theorem dX7_play_81 : decode cX7_play 81 = .ok (.aload_n 0, 1) := dk_42 (dk_at dksX7_play_3 9 rfl rfl)
theorem dX7_play_82 : decode cX7_play 82 = .ok (.getfield 350, 3) := dk_180 1 94 (dk_at dksX7_play_3 10 rfl rfl)
theorem dX7_play_85 : decode cX7_play 85 = .ok (.ifCond .ne 4, 3) := dk_154 0 4 (dk_at dksX7_play_3 13 rfl rfl)
theorem dX7_play_88 : decode cX7_play 88 = .ok (.return_, 1) := dk_177 (dk_at dksX7_play_3 16 rfl rfl)
theorem dX7_play_89 : decode cX7_play 89 = .ok (.aload_n 0, 1) := dk_42 (dk_at dksX7_play_3 17 rfl rfl)
theorem dX7_play_90 : decode cX7_play 90 = .ok (.aload_n 0, 1) := dk_42 (dk_at dksX7_play_3 18 rfl rfl)
theorem dX7_play_91 : decode cX7_play 91 = .ok (.getfield 42, 3) := dk_180 0 42 (dk_at dksX7_play_3 19 rfl rfl)
theorem dX7_play_94 : decode cX7_play 94 = .ok (.iconst 0, 1) := dk_3 (dk_at dksX7_play_3 22 rfl rfl)
theorem dX7_play_95 : decode cX7_play 95 = .ok (.invokevirtual 367, 3) := dk_182 1 111 (dk_at dksX7_play_4 0 rfl rfl)
theorem dX7_play_98 : decode cX7_play 98 = .ok (.iconst 0, 1) := dk_3 (dk_at dksX7_play_4 3 rfl rfl)
theorem dX7_play_99 : decode cX7_play 99 = .ok (.istore_n 2, 1) := dk_61 (dk_at dksX7_play_4 4 rfl rfl)
theorem dX7_play_100 : decode cX7_play 100 = .ok (.iconst 0, 1) := dk_3 (dk_at dksX7_play_4 5 rfl rfl)
theorem dX7_play_101 : decode cX7_play 101 = .ok (.istore_n 3, 1) := dk_62 (dk_at dksX7_play_4 6 rfl rfl)
theorem dX7_play_102 : decode cX7_play 102 = .ok (.iload_n 3, 1) := dk_29 (dk_at dksX7_play_4 7 rfl rfl)
theorem dX7_play_103 : decode cX7_play 103 = .ok (.aload_n 0, 1) := dk_42 (dk_at dksX7_play_4 8 rfl rfl)
theorem dX7_play_104 : decode cX7_play 104 = .ok (.getfield 350, 3) := dk_180 1 94 (dk_at dksX7_play_4 9 rfl rfl)
theorem dX7_play_107 : decode cX7_play 107 = .ok (.if_icmp .ge 290, 3) := dk_162 1 34 (dk_at dksX7_play_4 12 rfl rfl)
theorem dX7_play_110 : decode cX7_play 110 = .ok (.iload_n 2, 1) := dk_28 (dk_at dksX7_play_4 15 rfl rfl)
theorem dX7_play_111 : decode cX7_play 111 = .ok (.ifCond .ne 286, 3) := dk_154 1 30 (dk_at dksX7_play_4 16 rfl rfl)
theorem dX7_play_114 : decode cX7_play 114 = .ok (.iconst 0, 1) := dk_3 (dk_at dksX7_play_4 19 rfl rfl)
theorem dX7_play_115 : decode cX7_play 115 = .ok (.istore 4, 2) := dk_54 4 (dk_at dksX7_play_4 20 rfl rfl)
theorem dX7_play_117 : decode cX7_play 117 = .ok (.iload 4, 2) := dk_21 4 (dk_at dksX7_play_4 22 rfl rfl)
theorem dX7_play_119 : decode cX7_play 119 = .ok (.bipush 96, 2) := dk_16 96 (dk_at dksX7_play_5 0 rfl rfl)
theorem dX7_play_121 : decode cX7_play 121 = .ok (.if_icmp .ge 17, 3) := dk_162 0 17 (dk_at dksX7_play_5 2 rfl rfl)
theorem dX7_play_124 : decode cX7_play 124 = .ok (.aload_n 0, 1) := dk_42 (dk_at dksX7_play_5 5 rfl rfl)
theorem dX7_play_125 : decode cX7_play 125 = .ok (.getfield 39, 3) := dk_180 0 39 (dk_at dksX7_play_5 6 rfl rfl)
theorem dX7_play_128 : decode cX7_play 128 = .ok (.iload 4, 2) := dk_21 4 (dk_at dksX7_play_5 9 rfl rfl)
theorem dX7_play_130 : decode cX7_play 130 = .ok (.iconst (-1), 1) := dk_2 (dk_at dksX7_play_5 11 rfl rfl)
theorem dX7_play_131 : decode cX7_play 131 = .ok (.iastore, 1) := dk_79 (dk_at dksX7_play_5 12 rfl rfl)
theorem dX7_play_132 : decode cX7_play 132 = .ok (.iinc 4 1, 3) := dk_132 4 1 (dk_at dksX7_play_5 13 rfl rfl)
theorem dX7_play_135 : decode cX7_play 135 = .ok (.goto (-18), 3) := dk_167 255 238 (dk_at dksX7_play_5 16 rfl rfl)
theorem dX7_play_138 : decode cX7_play 138 = .ok (.iconst 0, 1) := dk_3 (dk_at dksX7_play_5 19 rfl rfl)
theorem dX7_play_139 : decode cX7_play 139 = .ok (.istore 4, 2) := dk_54 4 (dk_at dksX7_play_5 20 rfl rfl)
theorem dX7_play_141 : decode cX7_play 141 = .ok (.iload 4, 2) := dk_21 4 (dk_at dksX7_play_5 22 rfl rfl)
theorem dX7_play_143 : decode cX7_play 143 = .ok (.bipush 20, 2) := dk_16 20 (dk_at dksX7_play_6 0 rfl rfl)
theorem dX7_play_145 : decode cX7_play 145 = .ok (.if_icmp .ge 76, 3) := dk_162 0 76 (dk_at dksX7_play_6 2 rfl rfl)
theorem dX7_play_148 : decode cX7_play 148 = .ok (.aload_n 0, 1) := dk_42 (dk_at dksX7_play_6 5 rfl rfl)
theorem dX7_play_149 : decode cX7_play 149 = .ok (.getfield 39, 3) := dk_180 0 39 (dk_at dksX7_play_6 6 rfl rfl)
theorem dX7_play_152 : decode cX7_play 152 = .ok (.iconst 0, 1) := dk_3 (dk_at dksX7_play_6 9 rfl rfl)
theorem dX7_play_153 : decode cX7_play 153 = .ok (.iload 4, 2) := dk_21 4 (dk_at dksX7_play_6 10 rfl rfl)
theorem dX7_play_155 : decode cX7_play 155 = .ok (.iadd, 1) := dk_96 (dk_at dksX7_play_6 12 rfl rfl)
theorem dX7_play_156 : decode cX7_play 156 = .ok (.aload_n 0, 1) := dk_42 (dk_at dksX7_play_6 13 rfl rfl)
theorem dX7_play_157 : decode cX7_play 157 = .ok (.iload_n 3, 1) := dk_29 (dk_at dksX7_play_6 14 rfl rfl)
theorem dX7_play_158 : decode cX7_play 158 = .ok (.iload 4, 2) := dk_21 4 (dk_at dksX7_play_6 15 rfl rfl)
theorem dX7_play_160 : decode cX7_play 160 = .ok (.invokevirtual 371, 3) := dk_182 1 115 (dk_at dksX7_play_6 17 rfl rfl)
theorem dX7_play_163 : decode cX7_play 163 = .ok (.iastore, 1) := dk_79 (dk_at dksX7_play_6 20 rfl rfl)
theorem dX7_play_164 : decode cX7_play 164 = .ok (.aload_n 0, 1) := dk_42 (dk_at dksX7_play_6 21 rfl rfl)
theorem dX7_play_165 : decode cX7_play 165 = .ok (.getfield 39, 3) := dk_180 0 39 (dk_at dksX7_play_7 0 rfl rfl)
theorem dX7_play_168 : decode cX7_play 168 = .ok (.bipush 20, 2) := dk_16 20 (dk_at dksX7_play_7 3 rfl rfl)
theorem dX7_play_170 : decode cX7_play 170 = .ok (.iload 4, 2) := dk_21 4 (dk_at dksX7_play_7 5 rfl rfl)
theorem dX7_play_172 : decode cX7_play 172 = .ok (.iadd, 1) := dk_96 (dk_at dksX7_play_7 7 rfl rfl)
theorem dX7_play_173 : decode cX7_play 173 = .ok (.aload_n 0, 1) := dk_42 (dk_at dksX7_play_7 8 rfl rfl)
theorem dX7_play_174 : decode cX7_play 174 = .ok (.iload_n 3, 1) := dk_29 (dk_at dksX7_play_7 9 rfl rfl)
theorem dX7_play_175 : decode cX7_play 175 = .ok (.iconst 1, 1) := dk_4 (dk_at dksX7_play_7 10 rfl rfl)
theorem dX7_play_176 : decode cX7_play 176 = .ok (.iadd, 1) := dk_96 (dk_at dksX7_play_7 11 rfl rfl)
theorem dX7_play_177 : decode cX7_play 177 = .ok (.iload 4, 2) := dk_21 4 (dk_at dksX7_play_7 12 rfl rfl)
theorem dX7_play_179 : decode cX7_play 179 = .ok (.invokevirtual 371, 3) := dk_182 1 115 (dk_at dksX7_play_7 14 rfl rfl)
theorem dX7_play_182 : decode cX7_play 182 = .ok (.iastore, 1) := dk_79 (dk_at dksX7_play_7 17 rfl rfl)
theorem dX7_play_183 : decode cX7_play 183 = .ok (.aload_n 0, 1) := dk_42 (dk_at dksX7_play_7 18 rfl rfl)
theorem dX7_play_184 : decode cX7_play 184 = .ok (.getfield 39, 3) := dk_180 0 39 (dk_at dksX7_play_7 19 rfl rfl)
theorem dX7_play_187 : decode cX7_play 187 = .ok (.bipush 40, 2) := dk_16 40 (dk_at dksX7_play_7 22 rfl rfl)
theorem dX7_play_189 : decode cX7_play 189 = .ok (.iload 4, 2) := dk_21 4 (dk_at dksX7_play_8 0 rfl rfl)
theorem dX7_play_191 : decode cX7_play 191 = .ok (.iadd, 1) := dk_96 (dk_at dksX7_play_8 2 rfl rfl)
theorem dX7_play_192 : decode cX7_play 192 = .ok (.aload_n 0, 1) := dk_42 (dk_at dksX7_play_8 3 rfl rfl)
theorem dX7_play_193 : decode cX7_play 193 = .ok (.getfield 36, 3) := dk_180 0 36 (dk_at dksX7_play_8 4 rfl rfl)
theorem dX7_play_196 : decode cX7_play 196 = .ok (.bipush 20, 2) := dk_16 20 (dk_at dksX7_play_8 7 rfl rfl)
theorem dX7_play_198 : decode cX7_play 198 = .ok (.iload_n 3, 1) := dk_29 (dk_at dksX7_play_8 9 rfl rfl)
theorem dX7_play_199 : decode cX7_play 199 = .ok (.imul, 1) := dk_104 (dk_at dksX7_play_8 10 rfl rfl)
theorem dX7_play_200 : decode cX7_play 200 = .ok (.iload 4, 2) := dk_21 4 (dk_at dksX7_play_8 11 rfl rfl)
theorem dX7_play_202 : decode cX7_play 202 = .ok (.iadd, 1) := dk_96 (dk_at dksX7_play_8 13 rfl rfl)
theorem dX7_play_203 : decode cX7_play 203 = .ok (.iaload, 1) := dk_46 (dk_at dksX7_play_8 14 rfl rfl)
theorem dX7_play_204 : decode cX7_play 204 = .ok (.bipush 15, 2) := dk_16 15 (dk_at dksX7_play_8 15 rfl rfl)
theorem dX7_play_206 : decode cX7_play 206 = .ok (.if_icmp .le 7, 3) := dk_164 0 7 (dk_at dksX7_play_8 17 rfl rfl)
theorem dX7_play_209 : decode cX7_play 209 = .ok (.iconst 1, 1) := dk_4 (dk_at dksX7_play_8 20 rfl rfl)
theorem dX7_play_210 : decode cX7_play 210 = .ok (.goto 4, 3) := dk_167 0 4 (dk_at dksX7_play_8 21 rfl rfl)
theorem dX7_play_213 : decode cX7_play 213 = .ok (.iconst (-1), 1) := dk_2 (dk_at dksX7_play_9 0 rfl rfl)
theorem dX7_play_214 : decode cX7_play 214 = .ok (.iastore, 1) := dk_79 (dk_at dksX7_play_9 1 rfl rfl)
theorem dX7_play_215 : decode cX7_play 215 = .ok (.iinc 4 1, 3) := dk_132 4 1 (dk_at dksX7_play_9 2 rfl rfl)
theorem dX7_play_218 : decode cX7_play 218 = .ok (.goto (-77), 3) := dk_167 255 179 (dk_at dksX7_play_9 5 rfl rfl)
theorem dX7_play_221 : decode cX7_play 221 = .ok (.aload_n 0, 1) := dk_42 (dk_at dksX7_play_9 8 rfl rfl)
theorem dX7_play_222 : decode cX7_play 222 = .ok (.getfield 39, 3) := dk_180 0 39 (dk_at dksX7_play_9 9 rfl rfl)
theorem dX7_play_225 : decode cX7_play 225 = .ok (.bipush 60, 2) := dk_16 60 (dk_at dksX7_play_9 12 rfl rfl)
theorem dX7_play_227 : decode cX7_play 227 = .ok (.iconst 1, 1) := dk_4 (dk_at dksX7_play_9 14 rfl rfl)
theorem dX7_play_228 : decode cX7_play 228 = .ok (.iastore, 1) := dk_79 (dk_at dksX7_play_9 15 rfl rfl)
theorem dX7_play_229 : decode cX7_play 229 = .ok (.aload_n 0, 1) := dk_42 (dk_at dksX7_play_9 16 rfl rfl)
theorem dX7_play_230 : decode cX7_play 230 = .ok (.getfield 57, 3) := dk_180 0 57 (dk_at dksX7_play_9 17 rfl rfl)
theorem dX7_play_233 : decode cX7_play 233 = .ok (.iconst 0, 1) := dk_3 (dk_at dksX7_play_9 20 rfl rfl)
theorem dX7_play_234 : decode cX7_play 234 = .ok (.aload_n 0, 1) := dk_42 (dk_at dksX7_play_9 21 rfl rfl)
theorem dX7_play_235 : decode cX7_play 235 = .ok (.iconst 1, 1) := dk_4 (dk_at dksX7_play_9 22 rfl rfl)
theorem dX7_play_236 : decode cX7_play 236 = .ok (.invokevirtual 375, 3) := dk_182 1 119 (dk_at dksX7_play_10 0 rfl rfl)
theorem dX7_play_239 : decode cX7_play 239 = .ok (.iastore, 1) := dk_79 (dk_at dksX7_play_10 3 rfl rfl)
theorem dX7_play_240 : decode cX7_play 240 = .ok (.aload_n 0, 1) := dk_42 (dk_at dksX7_play_10 4 rfl rfl)
theorem dX7_play_241 : decode cX7_play 241 = .ok (.getfield 57, 3) := dk_180 0 57 (dk_at dksX7_play_10 5 rfl rfl)
theorem dX7_play_244 : decode cX7_play 244 = .ok (.iconst 0, 1) := dk_3 (dk_at dksX7_play_10 8 rfl rfl)
theorem dX7_play_245 : decode cX7_play 245 = .ok (.iaload, 1) := dk_46 (dk_at dksX7_play_10 9 rfl rfl)
theorem dX7_play_246 : decode cX7_play 246 = .ok (.ifCond .eq 4, 3) := dk_153 0 4 (dk_at dksX7_play_10 10 rfl rfl)
theorem dX7_play_249 : decode cX7_play 249 = .ok (.return_, 1) := dk_177 (dk_at dksX7_play_10 13 rfl rfl)
theorem dX7_play_250 : decode cX7_play 250 = .ok (.aload_n 0, 1) := dk_42 (dk_at dksX7_play_10 14 rfl rfl)
theorem dX7_play_251 : decode cX7_play 251 = .ok (.getfield 75, 3) := dk_180 0 75 (dk_at dksX7_play_10 15 rfl rfl)
theorem dX7_play_254 : decode cX7_play 254 = .ok (.iconst 0, 1) := dk_3 (dk_at dksX7_play_10 18 rfl rfl)
theorem dX7_play_255 : decode cX7_play 255 = .ok (.dup2, 1) := dk_92 (dk_at dksX7_play_10 19 rfl rfl)
theorem dX7_play_256 : decode cX7_play 256 = .ok (.iaload, 1) := dk_46 (dk_at dksX7_play_10 20 rfl rfl)
theorem dX7_play_257 : decode cX7_play 257 = .ok (.iconst 1, 1) := dk_4 (dk_at dksX7_play_10 21 rfl rfl)
theorem dX7_play_258 : decode cX7_play 258 = .ok (.iadd, 1) := dk_96 (dk_at dksX7_play_10 22 rfl rfl)
theorem dX7_play_259 : decode cX7_play 259 = .ok (.iastore, 1) := dk_79 (dk_at dksX7_play_10 23 rfl rfl)
theorem dX7_play_260 : decode cX7_play 260 = .ok (.aload_n 0, 1) := dk_42 (dk_at dksX7_play_11 0 rfl rfl)
theorem dX7_play_261 : decode cX7_play 261 = .ok (.sipush 180, 3) := dk_17 0 180 (dk_at dksX7_play_11 1 rfl rfl)
theorem dX7_play_264 : decode cX7_play 264 = .ok (.invokevirtual 379, 3) := dk_182 1 123 (dk_at dksX7_play_11 4 rfl rfl)
theorem dX7_play_267 : decode cX7_play 267 = .ok (.ifCond .lt 7, 3) := dk_155 0 7 (dk_at dksX7_play_11 7 rfl rfl)
theorem dX7_play_270 : decode cX7_play 270 = .ok (.iconst 1, 1) := dk_4 (dk_at dksX7_play_11 10 rfl rfl)
theorem dX7_play_271 : decode cX7_play 271 = .ok (.goto 4, 3) := dk_167 0 4 (dk_at dksX7_play_11 11 rfl rfl)
theorem dX7_play_274 : decode cX7_play 274 = .ok (.iconst 0, 1) := dk_3 (dk_at dksX7_play_11 14 rfl rfl)
theorem dX7_play_275 : decode cX7_play 275 = .ok (.istore_n 2, 1) := dk_61 (dk_at dksX7_play_11 15 rfl rfl)
theorem dX7_play_276 : decode cX7_play 276 = .ok (.aload_n 0, 1) := dk_42 (dk_at dksX7_play_11 16 rfl rfl)
theorem dX7_play_277 : decode cX7_play 277 = .ok (.sipush 158, 3) := dk_17 0 158 (dk_at dksX7_play_11 17 rfl rfl)
theorem dX7_play_280 : decode cX7_play 280 = .ok (.invokevirtual 379, 3) := dk_182 1 123 (dk_at dksX7_play_11 20 rfl rfl)
theorem dX7_play_283 : decode cX7_play 283 = .ok (.ifCond .lt 7, 3) := dk_155 0 7 (dk_at dksX7_play_12 0 rfl rfl)
theorem dX7_play_286 : decode cX7_play 286 = .ok (.iconst 3, 1) := dk_6 (dk_at dksX7_play_12 3 rfl rfl)
theorem dX7_play_287 : decode cX7_play 287 = .ok (.goto 32, 3) := dk_167 0 32 (dk_at dksX7_play_12 4 rfl rfl)
theorem dX7_play_290 : decode cX7_play 290 = .ok (.aload_n 0, 1) := dk_42 (dk_at dksX7_play_12 7 rfl rfl)
theorem dX7_play_291 : decode cX7_play 291 = .ok (.sipush 157, 3) := dk_17 0 157 (dk_at dksX7_play_12 8 rfl rfl)
theorem dX7_play_294 : decode cX7_play 294 = .ok (.invokevirtual 379, 3) := dk_182 1 123 (dk_at dksX7_play_12 11 rfl rfl)
theorem dX7_play_297 : decode cX7_play 297 = .ok (.ifCond .lt 7, 3) := dk_155 0 7 (dk_at dksX7_play_12 14 rfl rfl)
theorem dX7_play_300 : decode cX7_play 300 = .ok (.iconst 2, 1) := dk_5 (dk_at dksX7_play_12 17 rfl rfl)
theorem dX7_play_301 : decode cX7_play 301 = .ok (.goto 18, 3) := dk_167 0 18 (dk_at dksX7_play_12 18 rfl rfl)
theorem dX7_play_304 : decode cX7_play 304 = .ok (.aload_n 0, 1) := dk_42 (dk_at dksX7_play_12 21 rfl rfl)
theorem dX7_play_305 : decode cX7_play 305 = .ok (.sipush 156, 3) := dk_17 0 156 (dk_at dksX7_play_13 0 rfl rfl)
theorem dX7_play_308 : decode cX7_play 308 = .ok (.invokevirtual 379, 3) := dk_182 1 123 (dk_at dksX7_play_13 3 rfl rfl)
theorem dX7_play_311 : decode cX7_play 311 = .ok (.ifCond .lt 7, 3) := dk_155 0 7 (dk_at dksX7_play_13 6 rfl rfl)
theorem dX7_play_314 : decode cX7_play 314 = .ok (.iconst 1, 1) := dk_4 (dk_at dksX7_play_13 9 rfl rfl)
theorem dX7_play_315 : decode cX7_play 315 = .ok (.goto 4, 3) := dk_167 0 4 (dk_at dksX7_play_13 10 rfl rfl)
theorem dX7_play_318 : decode cX7_play 318 = .ok (.iconst 0, 1) := dk_3 (dk_at dksX7_play_13 13 rfl rfl)
theorem dX7_play_319 : decode cX7_play 319 = .ok (.istore 4, 2) := dk_54 4 (dk_at dksX7_play_13 14 rfl rfl)
theorem dX7_play_321 : decode cX7_play 321 = .ok (.iload_n 2, 1) := dk_28 (dk_at dksX7_play_13 16 rfl rfl)
theorem dX7_play_322 : decode cX7_play 322 = .ok (.ifCond .ne 13, 3) := dk_154 0 13 (dk_at dksX7_play_13 17 rfl rfl)
theorem dX7_play_325 : decode cX7_play 325 = .ok (.iload_n 3, 1) := dk_29 (dk_at dksX7_play_13 20 rfl rfl)
theorem dX7_play_326 : decode cX7_play 326 = .ok (.aload_n 0, 1) := dk_42 (dk_at dksX7_play_13 21 rfl rfl)
theorem dX7_play_327 : decode cX7_play 327 = .ok (.getfield 350, 3) := dk_180 1 94 (dk_at dksX7_play_14 0 rfl rfl)
theorem dX7_play_330 : decode cX7_play 330 = .ok (.iconst 1, 1) := dk_4 (dk_at dksX7_play_14 3 rfl rfl)
theorem dX7_play_331 : decode cX7_play 331 = .ok (.isub, 1) := dk_100 (dk_at dksX7_play_14 4 rfl rfl)
theorem dX7_play_332 : decode cX7_play 332 = .ok (.if_icmp .ne 6, 3) := dk_160 0 6 (dk_at dksX7_play_14 5 rfl rfl)
theorem dX7_play_335 : decode cX7_play 335 = .ok (.iconst 3, 1) := dk_6 (dk_at dksX7_play_14 8 rfl rfl)
theorem dX7_play_336 : decode cX7_play 336 = .ok (.istore 4, 2) := dk_54 4 (dk_at dksX7_play_14 9 rfl rfl)
theorem dX7_play_338 : decode cX7_play 338 = .ok (.iconst 1, 1) := dk_4 (dk_at dksX7_play_14 11 rfl rfl)
theorem dX7_play_339 : decode cX7_play 339 = .ok (.istore 5, 2) := dk_54 5 (dk_at dksX7_play_14 12 rfl rfl)
theorem dX7_play_341 : decode cX7_play 341 = .ok (.iload 5, 2) := dk_21 5 (dk_at dksX7_play_14 14 rfl rfl)
theorem dX7_play_343 : decode cX7_play 343 = .ok (.iload 4, 2) := dk_21 4 (dk_at dksX7_play_14 16 rfl rfl)
theorem dX7_play_345 : decode cX7_play 345 = .ok (.if_icmp .gt 46, 3) := dk_163 0 46 (dk_at dksX7_play_14 18 rfl rfl)
theorem dX7_play_348 : decode cX7_play 348 = .ok (.aload_n 0, 1) := dk_42 (dk_at dksX7_play_14 21 rfl rfl)
theorem dX7_play_349 : decode cX7_play 349 = .ok (.iload 5, 2) := dk_21 5 (dk_at dksX7_play_14 22 rfl rfl)
theorem dX7_play_351 : decode cX7_play 351 = .ok (.invokevirtual 382, 3) := dk_182 1 126 (dk_at dksX7_play_15 0 rfl rfl)
theorem dX7_play_354 : decode cX7_play 354 = .ok (.aload_n 0, 1) := dk_42 (dk_at dksX7_play_15 3 rfl rfl)
theorem dX7_play_355 : decode cX7_play 355 = .ok (.getfield 57, 3) := dk_180 0 57 (dk_at dksX7_play_15 4 rfl rfl)
theorem dX7_play_358 : decode cX7_play 358 = .ok (.iconst 0, 1) := dk_3 (dk_at dksX7_play_15 7 rfl rfl)
theorem dX7_play_359 : decode cX7_play 359 = .ok (.aload_n 0, 1) := dk_42 (dk_at dksX7_play_15 8 rfl rfl)
theorem dX7_play_360 : decode cX7_play 360 = .ok (.iconst 0, 1) := dk_3 (dk_at dksX7_play_15 9 rfl rfl)
theorem dX7_play_361 : decode cX7_play 361 = .ok (.invokevirtual 375, 3) := dk_182 1 119 (dk_at dksX7_play_15 10 rfl rfl)
theorem dX7_play_364 : decode cX7_play 364 = .ok (.iastore, 1) := dk_79 (dk_at dksX7_play_15 13 rfl rfl)
theorem dX7_play_365 : decode cX7_play 365 = .ok (.aload_n 0, 1) := dk_42 (dk_at dksX7_play_15 14 rfl rfl)
theorem dX7_play_366 : decode cX7_play 366 = .ok (.getfield 57, 3) := dk_180 0 57 (dk_at dksX7_play_15 15 rfl rfl)
theorem dX7_play_369 : decode cX7_play 369 = .ok (.iconst 0, 1) := dk_3 (dk_at dksX7_play_15 18 rfl rfl)
theorem dX7_play_370 : decode cX7_play 370 = .ok (.iaload, 1) := dk_46 (dk_at dksX7_play_15 19 rfl rfl)
theorem dX7_play_371 : decode cX7_play 371 = .ok (.ifCond .eq 4, 3) := dk_153 0 4 (dk_at dksX7_play_15 20 rfl rfl)
theorem dX7_play_374 : decode cX7_play 374 = .ok (.return_, 1) := dk_177 (dk_at dksX7_play_15 23 rfl rfl)
theorem dX7_play_375 : decode cX7_play 375 = .ok (.aload_n 0, 1) := dk_42 (dk_at dksX7_play_16 0 rfl rfl)
theorem dX7_play_376 : decode cX7_play 376 = .ok (.getfield 78, 3) := dk_180 0 78 (dk_at dksX7_play_16 1 rfl rfl)
theorem dX7_play_379 : decode cX7_play 379 = .ok (.iconst 0, 1) := dk_3 (dk_at dksX7_play_16 4 rfl rfl)
theorem dX7_play_380 : decode cX7_play 380 = .ok (.dup2, 1) := dk_92 (dk_at dksX7_play_16 5 rfl rfl)
theorem dX7_play_381 : decode cX7_play 381 = .ok (.iaload, 1) := dk_46 (dk_at dksX7_play_16 6 rfl rfl)
theorem dX7_play_382 : decode cX7_play 382 = .ok (.iconst 1, 1) := dk_4 (dk_at dksX7_play_16 7 rfl rfl)
theorem dX7_play_383 : decode cX7_play 383 = .ok (.iadd, 1) := dk_96 (dk_at dksX7_play_16 8 rfl rfl)
theorem dX7_play_384 : decode cX7_play 384 = .ok (.iastore, 1) := dk_79 (dk_at dksX7_play_16 9 rfl rfl)
theorem dX7_play_385 : decode cX7_play 385 = .ok (.iinc 5 1, 3) := dk_132 5 1 (dk_at dksX7_play_16 10 rfl rfl)
theorem dX7_play_388 : decode cX7_play 388 = .ok (.goto (-47), 3) := dk_167 255 209 (dk_at dksX7_play_16 13 rfl rfl)
theorem dX7_play_391 : decode cX7_play 391 = .ok (.iinc 3 1, 3) := dk_132 3 1 (dk_at dksX7_play_16 16 rfl rfl)
theorem dX7_play_394 : decode cX7_play 394 = .ok (.goto (-292), 3) := dk_167 254 220 (dk_at dksX7_play_16 19 rfl rfl)
theorem dX7_play_397 : decode cX7_play 397 = .ok (.aload_n 0, 1) := dk_42 (dk_at dksX7_play_16 22 rfl rfl)
theorem dX7_play_398 : decode cX7_play 398 = .ok (.getfield 57, 3) := dk_180 0 57 (dk_at dksX7_play_17 0 rfl rfl)
theorem dX7_play_401 : decode cX7_play 401 = .ok (.iconst 0, 1) := dk_3 (dk_at dksX7_play_17 3 rfl rfl)
theorem dX7_play_402 : decode cX7_play 402 = .ok (.iload_n 2, 1) := dk_28 (dk_at dksX7_play_17 4 rfl rfl)
theorem dX7_play_403 : decode cX7_play 403 = .ok (.ifCond .eq 7, 3) := dk_153 0 7 (dk_at dksX7_play_17 5 rfl rfl)
theorem dX7_play_406 : decode cX7_play 406 = .ok (.iconst 1, 1) := dk_4 (dk_at dksX7_play_17 8 rfl rfl)
theorem dX7_play_407 : decode cX7_play 407 = .ok (.goto 4, 3) := dk_167 0 4 (dk_at dksX7_play_17 9 rfl rfl)
theorem dX7_play_410 : decode cX7_play 410 = .ok (.iconst 0, 1) := dk_3 (dk_at dksX7_play_17 12 rfl rfl)
theorem dX7_play_411 : decode cX7_play 411 = .ok (.iastore, 1) := dk_79 (dk_at dksX7_play_17 13 rfl rfl)
theorem dX7_play_412 : decode cX7_play 412 = .ok (.return_, 1) := dk_177 (dk_at dksX7_play_17 14 rfl rfl)
abbrev cX7_nets : ByteArray := prog_14_method_31_code
def yX7_nets : MethodName := ⟨RX7, "nets", "([IZ)V"⟩
def dkwX7_nets_6 : List UInt8 := [132, 4, 1, 167, 255, 200, 167, 255, 136, 177]
abbrev dktX7_nets_6 : List UInt8 := dkwX7_nets_6 ++ []
def dkwX7_nets_5 : List UInt8 := [17, 0, 205, 21, 4, 96, 167, 0, 9, 17, 0, 193, 21, 4, 96, 184, 1, 100, 153, 0, 5, 4, 62]
abbrev dktX7_nets_5 : List UInt8 := dkwX7_nets_5 ++ dktX7_nets_6
def dkwX7_nets_4 : List UInt8 := [17, 0, 181, 21, 4, 96, 28, 153, 0, 24, 42, 180, 0, 54, 21, 4, 6, 108, 51, 153, 0, 12]
abbrev dktX7_nets_4 : List UInt8 := dkwX7_nets_4 ++ dktX7_nets_5
def dkwX7_nets_3 : List UInt8 := [153, 0, 5, 4, 62, 132, 4, 1, 167, 255, 210, 3, 54, 4, 21, 4, 16, 12, 162, 0, 55, 43]
abbrev dktX7_nets_3 : List UInt8 := dkwX7_nets_3 ++ dktX7_nets_4
def dkwX7_nets_2 : List UInt8 := [180, 1, 97, 159, 0, 26, 43, 42, 180, 0, 20, 21, 4, 46, 42, 180, 0, 23, 21, 4, 46, 184, 1, 100]
abbrev dktX7_nets_2 : List UInt8 := dkwX7_nets_2 ++ dktX7_nets_3
def dkwX7_nets_1 : List UInt8 := [153, 0, 122, 3, 62, 3, 54, 4, 21, 4, 42, 180, 0, 26, 3, 46, 162, 0, 41, 21, 4, 42]
abbrev dktX7_nets_1 : List UInt8 := dkwX7_nets_1 ++ dktX7_nets_2
def dkwX7_nets_0 : List UInt8 := [3, 62, 29, 17, 0, 217, 162, 0, 13, 43, 29, 29, 79, 132, 3, 1, 167, 255, 242, 4, 62, 29]
abbrev dktX7_nets_0 : List UInt8 := dkwX7_nets_0 ++ dktX7_nets_1
theorem dksX7_nets_0 : cX7_nets.data.toList.drop 0 = dktX7_nets_0 := by decide +kernel
theorem dksX7_nets_1 : cX7_nets.data.toList.drop 22 = dktX7_nets_1 := dk_seg dksX7_nets_0 22 rfl rfl
theorem dksX7_nets_2 : cX7_nets.data.toList.drop 44 = dktX7_nets_2 := dk_seg dksX7_nets_1 22 rfl rfl
theorem dksX7_nets_3 : cX7_nets.data.toList.drop 68 = dktX7_nets_3 := dk_seg dksX7_nets_2 24 rfl rfl
theorem dksX7_nets_4 : cX7_nets.data.toList.drop 90 = dktX7_nets_4 := dk_seg dksX7_nets_3 22 rfl rfl
theorem dksX7_nets_5 : cX7_nets.data.toList.drop 112 = dktX7_nets_5 := dk_seg dksX7_nets_4 22 rfl rfl
theorem dksX7_nets_6 : cX7_nets.data.toList.drop 135 = dktX7_nets_6 := dk_seg dksX7_nets_5 23 rfl rfl
theorem dX7_nets_0 : decode cX7_nets 0 = .ok (.iconst 0, 1) := dk_3 (dk_at dksX7_nets_0 0 rfl rfl)
theorem dX7_nets_1 : decode cX7_nets 1 = .ok (.istore_n 3, 1) := dk_62 (dk_at dksX7_nets_0 1 rfl rfl)
theorem dX7_nets_2 : decode cX7_nets 2 = .ok (.iload_n 3, 1) := dk_29 (dk_at dksX7_nets_0 2 rfl rfl)
theorem dX7_nets_3 : decode cX7_nets 3 = .ok (.sipush 217, 3) := dk_17 0 217 (dk_at dksX7_nets_0 3 rfl rfl)
theorem dX7_nets_6 : decode cX7_nets 6 = .ok (.if_icmp .ge 13, 3) := dk_162 0 13 (dk_at dksX7_nets_0 6 rfl rfl)
theorem dX7_nets_9 : decode cX7_nets 9 = .ok (.aload_n 1, 1) := dk_43 (dk_at dksX7_nets_0 9 rfl rfl)
theorem dX7_nets_10 : decode cX7_nets 10 = .ok (.iload_n 3, 1) := dk_29 (dk_at dksX7_nets_0 10 rfl rfl)
theorem dX7_nets_11 : decode cX7_nets 11 = .ok (.iload_n 3, 1) := dk_29 (dk_at dksX7_nets_0 11 rfl rfl)
theorem dX7_nets_12 : decode cX7_nets 12 = .ok (.iastore, 1) := dk_79 (dk_at dksX7_nets_0 12 rfl rfl)
theorem dX7_nets_13 : decode cX7_nets 13 = .ok (.iinc 3 1, 3) := dk_132 3 1 (dk_at dksX7_nets_0 13 rfl rfl)
theorem dX7_nets_16 : decode cX7_nets 16 = .ok (.goto (-14), 3) := dk_167 255 242 (dk_at dksX7_nets_0 16 rfl rfl)
theorem dX7_nets_19 : decode cX7_nets 19 = .ok (.iconst 1, 1) := dk_4 (dk_at dksX7_nets_0 19 rfl rfl)
theorem dX7_nets_20 : decode cX7_nets 20 = .ok (.istore_n 3, 1) := dk_62 (dk_at dksX7_nets_0 20 rfl rfl)
theorem dX7_nets_21 : decode cX7_nets 21 = .ok (.iload_n 3, 1) := dk_29 (dk_at dksX7_nets_0 21 rfl rfl)
theorem dX7_nets_22 : decode cX7_nets 22 = .ok (.ifCond .eq 122, 3) := dk_153 0 122 (dk_at dksX7_nets_1 0 rfl rfl)
theorem dX7_nets_25 : decode cX7_nets 25 = .ok (.iconst 0, 1) := dk_3 (dk_at dksX7_nets_1 3 rfl rfl)
theorem dX7_nets_26 : decode cX7_nets 26 = .ok (.istore_n 3, 1) := dk_62 (dk_at dksX7_nets_1 4 rfl rfl)
theorem dX7_nets_27 : decode cX7_nets 27 = .ok (.iconst 0, 1) := dk_3 (dk_at dksX7_nets_1 5 rfl rfl)
theorem dX7_nets_28 : decode cX7_nets 28 = .ok (.istore 4, 2) := dk_54 4 (dk_at dksX7_nets_1 6 rfl rfl)
theorem dX7_nets_30 : decode cX7_nets 30 = .ok (.iload 4, 2) := dk_21 4 (dk_at dksX7_nets_1 8 rfl rfl)
theorem dX7_nets_32 : decode cX7_nets 32 = .ok (.aload_n 0, 1) := dk_42 (dk_at dksX7_nets_1 10 rfl rfl)
theorem dX7_nets_33 : decode cX7_nets 33 = .ok (.getfield 26, 3) := dk_180 0 26 (dk_at dksX7_nets_1 11 rfl rfl)
theorem dX7_nets_36 : decode cX7_nets 36 = .ok (.iconst 0, 1) := dk_3 (dk_at dksX7_nets_1 14 rfl rfl)
theorem dX7_nets_37 : decode cX7_nets 37 = .ok (.iaload, 1) := dk_46 (dk_at dksX7_nets_1 15 rfl rfl)
theorem dX7_nets_38 : decode cX7_nets 38 = .ok (.if_icmp .ge 41, 3) := dk_162 0 41 (dk_at dksX7_nets_1 16 rfl rfl)
theorem dX7_nets_41 : decode cX7_nets 41 = .ok (.iload 4, 2) := dk_21 4 (dk_at dksX7_nets_1 19 rfl rfl)
theorem dX7_nets_43 : decode cX7_nets 43 = .ok (.aload_n 0, 1) := dk_42 (dk_at dksX7_nets_1 21 rfl rfl)
theorem dX7_nets_44 : decode cX7_nets 44 = .ok (.getfield 353, 3) := dk_180 1 97 (dk_at dksX7_nets_2 0 rfl rfl)
theorem dX7_nets_47 : decode cX7_nets 47 = .ok (.if_icmp .eq 26, 3) := dk_159 0 26 (dk_at dksX7_nets_2 3 rfl rfl)
theorem dX7_nets_50 : decode cX7_nets 50 = .ok (.aload_n 1, 1) := dk_43 (dk_at dksX7_nets_2 6 rfl rfl)
theorem dX7_nets_51 : decode cX7_nets 51 = .ok (.aload_n 0, 1) := dk_42 (dk_at dksX7_nets_2 7 rfl rfl)
theorem dX7_nets_52 : decode cX7_nets 52 = .ok (.getfield 20, 3) := dk_180 0 20 (dk_at dksX7_nets_2 8 rfl rfl)
theorem dX7_nets_55 : decode cX7_nets 55 = .ok (.iload 4, 2) := dk_21 4 (dk_at dksX7_nets_2 11 rfl rfl)
theorem dX7_nets_57 : decode cX7_nets 57 = .ok (.iaload, 1) := dk_46 (dk_at dksX7_nets_2 13 rfl rfl)
theorem dX7_nets_58 : decode cX7_nets 58 = .ok (.aload_n 0, 1) := dk_42 (dk_at dksX7_nets_2 14 rfl rfl)
theorem dX7_nets_59 : decode cX7_nets 59 = .ok (.getfield 23, 3) := dk_180 0 23 (dk_at dksX7_nets_2 15 rfl rfl)
theorem dX7_nets_62 : decode cX7_nets 62 = .ok (.iload 4, 2) := dk_21 4 (dk_at dksX7_nets_2 18 rfl rfl)
theorem dX7_nets_64 : decode cX7_nets 64 = .ok (.iaload, 1) := dk_46 (dk_at dksX7_nets_2 20 rfl rfl)
theorem dX7_nets_65 : decode cX7_nets 65 = .ok (.invokestatic 356, 3) := dk_184 1 100 (dk_at dksX7_nets_2 21 rfl rfl)
theorem dX7_nets_68 : decode cX7_nets 68 = .ok (.ifCond .eq 5, 3) := dk_153 0 5 (dk_at dksX7_nets_3 0 rfl rfl)
theorem dX7_nets_71 : decode cX7_nets 71 = .ok (.iconst 1, 1) := dk_4 (dk_at dksX7_nets_3 3 rfl rfl)
theorem dX7_nets_72 : decode cX7_nets 72 = .ok (.istore_n 3, 1) := dk_62 (dk_at dksX7_nets_3 4 rfl rfl)
theorem dX7_nets_73 : decode cX7_nets 73 = .ok (.iinc 4 1, 3) := dk_132 4 1 (dk_at dksX7_nets_3 5 rfl rfl)
theorem dX7_nets_76 : decode cX7_nets 76 = .ok (.goto (-46), 3) := dk_167 255 210 (dk_at dksX7_nets_3 8 rfl rfl)
theorem dX7_nets_79 : decode cX7_nets 79 = .ok (.iconst 0, 1) := dk_3 (dk_at dksX7_nets_3 11 rfl rfl)
theorem dX7_nets_80 : decode cX7_nets 80 = .ok (.istore 4, 2) := dk_54 4 (dk_at dksX7_nets_3 12 rfl rfl)
theorem dX7_nets_82 : decode cX7_nets 82 = .ok (.iload 4, 2) := dk_21 4 (dk_at dksX7_nets_3 14 rfl rfl)
theorem dX7_nets_84 : decode cX7_nets 84 = .ok (.bipush 12, 2) := dk_16 12 (dk_at dksX7_nets_3 16 rfl rfl)
theorem dX7_nets_86 : decode cX7_nets 86 = .ok (.if_icmp .ge 55, 3) := dk_162 0 55 (dk_at dksX7_nets_3 18 rfl rfl)
theorem dX7_nets_89 : decode cX7_nets 89 = .ok (.aload_n 1, 1) := dk_43 (dk_at dksX7_nets_3 21 rfl rfl)
theorem dX7_nets_90 : decode cX7_nets 90 = .ok (.sipush 181, 3) := dk_17 0 181 (dk_at dksX7_nets_4 0 rfl rfl)
theorem dX7_nets_93 : decode cX7_nets 93 = .ok (.iload 4, 2) := dk_21 4 (dk_at dksX7_nets_4 3 rfl rfl)
theorem dX7_nets_95 : decode cX7_nets 95 = .ok (.iadd, 1) := dk_96 (dk_at dksX7_nets_4 5 rfl rfl)
theorem dX7_nets_96 : decode cX7_nets 96 = .ok (.iload_n 2, 1) := dk_28 (dk_at dksX7_nets_4 6 rfl rfl)
theorem dX7_nets_97 : decode cX7_nets 97 = .ok (.ifCond .eq 24, 3) := dk_153 0 24 (dk_at dksX7_nets_4 7 rfl rfl)
theorem dX7_nets_100 : decode cX7_nets 100 = .ok (.aload_n 0, 1) := dk_42 (dk_at dksX7_nets_4 10 rfl rfl)
theorem dX7_nets_101 : decode cX7_nets 101 = .ok (.getfield 54, 3) := dk_180 0 54 (dk_at dksX7_nets_4 11 rfl rfl)
theorem dX7_nets_104 : decode cX7_nets 104 = .ok (.iload 4, 2) := dk_21 4 (dk_at dksX7_nets_4 14 rfl rfl)
theorem dX7_nets_106 : decode cX7_nets 106 = .ok (.iconst 3, 1) := dk_6 (dk_at dksX7_nets_4 16 rfl rfl)
theorem dX7_nets_107 : decode cX7_nets 107 = .ok (.idiv, 1) := dk_108 (dk_at dksX7_nets_4 17 rfl rfl)
theorem dX7_nets_108 : decode cX7_nets 108 = .ok (.baload, 1) := dk_51 (dk_at dksX7_nets_4 18 rfl rfl)
theorem dX7_nets_109 : decode cX7_nets 109 = .ok (.ifCond .eq 12, 3) := dk_153 0 12 (dk_at dksX7_nets_4 19 rfl rfl)
theorem dX7_nets_112 : decode cX7_nets 112 = .ok (.sipush 205, 3) := dk_17 0 205 (dk_at dksX7_nets_5 0 rfl rfl)
theorem dX7_nets_115 : decode cX7_nets 115 = .ok (.iload 4, 2) := dk_21 4 (dk_at dksX7_nets_5 3 rfl rfl)
theorem dX7_nets_117 : decode cX7_nets 117 = .ok (.iadd, 1) := dk_96 (dk_at dksX7_nets_5 5 rfl rfl)
theorem dX7_nets_118 : decode cX7_nets 118 = .ok (.goto 9, 3) := dk_167 0 9 (dk_at dksX7_nets_5 6 rfl rfl)
theorem dX7_nets_121 : decode cX7_nets 121 = .ok (.sipush 193, 3) := dk_17 0 193 (dk_at dksX7_nets_5 9 rfl rfl)
theorem dX7_nets_124 : decode cX7_nets 124 = .ok (.iload 4, 2) := dk_21 4 (dk_at dksX7_nets_5 12 rfl rfl)
theorem dX7_nets_126 : decode cX7_nets 126 = .ok (.iadd, 1) := dk_96 (dk_at dksX7_nets_5 14 rfl rfl)
theorem dX7_nets_127 : decode cX7_nets 127 = .ok (.invokestatic 356, 3) := dk_184 1 100 (dk_at dksX7_nets_5 15 rfl rfl)
theorem dX7_nets_130 : decode cX7_nets 130 = .ok (.ifCond .eq 5, 3) := dk_153 0 5 (dk_at dksX7_nets_5 18 rfl rfl)
theorem dX7_nets_133 : decode cX7_nets 133 = .ok (.iconst 1, 1) := dk_4 (dk_at dksX7_nets_5 21 rfl rfl)
theorem dX7_nets_134 : decode cX7_nets 134 = .ok (.istore_n 3, 1) := dk_62 (dk_at dksX7_nets_5 22 rfl rfl)
theorem dX7_nets_135 : decode cX7_nets 135 = .ok (.iinc 4 1, 3) := dk_132 4 1 (dk_at dksX7_nets_6 0 rfl rfl)
theorem dX7_nets_138 : decode cX7_nets 138 = .ok (.goto (-56), 3) := dk_167 255 200 (dk_at dksX7_nets_6 3 rfl rfl)
theorem dX7_nets_141 : decode cX7_nets 141 = .ok (.goto (-120), 3) := dk_167 255 136 (dk_at dksX7_nets_6 6 rfl rfl)
theorem dX7_nets_144 : decode cX7_nets 144 = .ok (.return_, 1) := dk_177 (dk_at dksX7_nets_6 9 rfl rfl)
abbrev cX7_joins : ByteArray := prog_14_method_32_code
def yX7_joins : MethodName := ⟨RX7, "joins", "([III)Z"⟩
def dkwX7_joins_1 : List UInt8 := [167, 0, 6, 42, 28, 46, 62, 42, 27, 29, 79, 42, 28, 29, 79, 4, 172]
abbrev dktX7_joins_1 : List UInt8 := dkwX7_joins_1 ++ []
def dkwX7_joins_0 : List UInt8 := [42, 27, 46, 42, 28, 46, 160, 0, 5, 3, 172, 42, 27, 46, 42, 28, 46, 162, 0, 9, 42, 27, 46]
abbrev dktX7_joins_0 : List UInt8 := dkwX7_joins_0 ++ dktX7_joins_1
theorem dksX7_joins_0 : cX7_joins.data.toList.drop 0 = dktX7_joins_0 := by decide +kernel
theorem dksX7_joins_1 : cX7_joins.data.toList.drop 23 = dktX7_joins_1 := dk_seg dksX7_joins_0 23 rfl rfl
theorem dX7_joins_0 : decode cX7_joins 0 = .ok (.aload_n 0, 1) := dk_42 (dk_at dksX7_joins_0 0 rfl rfl)
theorem dX7_joins_1 : decode cX7_joins 1 = .ok (.iload_n 1, 1) := dk_27 (dk_at dksX7_joins_0 1 rfl rfl)
theorem dX7_joins_2 : decode cX7_joins 2 = .ok (.iaload, 1) := dk_46 (dk_at dksX7_joins_0 2 rfl rfl)
theorem dX7_joins_3 : decode cX7_joins 3 = .ok (.aload_n 0, 1) := dk_42 (dk_at dksX7_joins_0 3 rfl rfl)
theorem dX7_joins_4 : decode cX7_joins 4 = .ok (.iload_n 2, 1) := dk_28 (dk_at dksX7_joins_0 4 rfl rfl)
theorem dX7_joins_5 : decode cX7_joins 5 = .ok (.iaload, 1) := dk_46 (dk_at dksX7_joins_0 5 rfl rfl)
theorem dX7_joins_6 : decode cX7_joins 6 = .ok (.if_icmp .ne 5, 3) := dk_160 0 5 (dk_at dksX7_joins_0 6 rfl rfl)
theorem dX7_joins_9 : decode cX7_joins 9 = .ok (.iconst 0, 1) := dk_3 (dk_at dksX7_joins_0 9 rfl rfl)
theorem dX7_joins_10 : decode cX7_joins 10 = .ok (.ireturn, 1) := dk_172 (dk_at dksX7_joins_0 10 rfl rfl)
theorem dX7_joins_11 : decode cX7_joins 11 = .ok (.aload_n 0, 1) := dk_42 (dk_at dksX7_joins_0 11 rfl rfl)
theorem dX7_joins_12 : decode cX7_joins 12 = .ok (.iload_n 1, 1) := dk_27 (dk_at dksX7_joins_0 12 rfl rfl)
theorem dX7_joins_13 : decode cX7_joins 13 = .ok (.iaload, 1) := dk_46 (dk_at dksX7_joins_0 13 rfl rfl)
theorem dX7_joins_14 : decode cX7_joins 14 = .ok (.aload_n 0, 1) := dk_42 (dk_at dksX7_joins_0 14 rfl rfl)
theorem dX7_joins_15 : decode cX7_joins 15 = .ok (.iload_n 2, 1) := dk_28 (dk_at dksX7_joins_0 15 rfl rfl)
theorem dX7_joins_16 : decode cX7_joins 16 = .ok (.iaload, 1) := dk_46 (dk_at dksX7_joins_0 16 rfl rfl)
theorem dX7_joins_17 : decode cX7_joins 17 = .ok (.if_icmp .ge 9, 3) := dk_162 0 9 (dk_at dksX7_joins_0 17 rfl rfl)
theorem dX7_joins_20 : decode cX7_joins 20 = .ok (.aload_n 0, 1) := dk_42 (dk_at dksX7_joins_0 20 rfl rfl)
theorem dX7_joins_21 : decode cX7_joins 21 = .ok (.iload_n 1, 1) := dk_27 (dk_at dksX7_joins_0 21 rfl rfl)
theorem dX7_joins_22 : decode cX7_joins 22 = .ok (.iaload, 1) := dk_46 (dk_at dksX7_joins_0 22 rfl rfl)
theorem dX7_joins_23 : decode cX7_joins 23 = .ok (.goto 6, 3) := dk_167 0 6 (dk_at dksX7_joins_1 0 rfl rfl)
theorem dX7_joins_26 : decode cX7_joins 26 = .ok (.aload_n 0, 1) := dk_42 (dk_at dksX7_joins_1 3 rfl rfl)
theorem dX7_joins_27 : decode cX7_joins 27 = .ok (.iload_n 2, 1) := dk_28 (dk_at dksX7_joins_1 4 rfl rfl)
theorem dX7_joins_28 : decode cX7_joins 28 = .ok (.iaload, 1) := dk_46 (dk_at dksX7_joins_1 5 rfl rfl)
theorem dX7_joins_29 : decode cX7_joins 29 = .ok (.istore_n 3, 1) := dk_62 (dk_at dksX7_joins_1 6 rfl rfl)
theorem dX7_joins_30 : decode cX7_joins 30 = .ok (.aload_n 0, 1) := dk_42 (dk_at dksX7_joins_1 7 rfl rfl)
theorem dX7_joins_31 : decode cX7_joins 31 = .ok (.iload_n 1, 1) := dk_27 (dk_at dksX7_joins_1 8 rfl rfl)
theorem dX7_joins_32 : decode cX7_joins 32 = .ok (.iload_n 3, 1) := dk_29 (dk_at dksX7_joins_1 9 rfl rfl)
theorem dX7_joins_33 : decode cX7_joins 33 = .ok (.iastore, 1) := dk_79 (dk_at dksX7_joins_1 10 rfl rfl)
theorem dX7_joins_34 : decode cX7_joins 34 = .ok (.aload_n 0, 1) := dk_42 (dk_at dksX7_joins_1 11 rfl rfl)
theorem dX7_joins_35 : decode cX7_joins 35 = .ok (.iload_n 2, 1) := dk_28 (dk_at dksX7_joins_1 12 rfl rfl)
theorem dX7_joins_36 : decode cX7_joins 36 = .ok (.iload_n 3, 1) := dk_29 (dk_at dksX7_joins_1 13 rfl rfl)
theorem dX7_joins_37 : decode cX7_joins 37 = .ok (.iastore, 1) := dk_79 (dk_at dksX7_joins_1 14 rfl rfl)
theorem dX7_joins_38 : decode cX7_joins 38 = .ok (.iconst 1, 1) := dk_4 (dk_at dksX7_joins_1 15 rfl rfl)
theorem dX7_joins_39 : decode cX7_joins 39 = .ok (.ireturn, 1) := dk_172 (dk_at dksX7_joins_1 16 rfl rfl)
abbrev cX7_digit : ByteArray := prog_14_method_36_code
def yX7_digit : MethodName := ⟨RX7, "digit", "(II)I"⟩
def dkwX7_digit_1 : List UInt8 := [62, 29, 16, 15, 160, 0, 7, 2, 167, 0, 4, 29, 172]
abbrev dktX7_digit_1 : List UInt8 := dkwX7_digit_1 ++ []
def dkwX7_digit_0 : List UInt8 := [27, 42, 180, 1, 94, 161, 0, 5, 2, 172, 42, 180, 0, 36, 16, 20, 27, 104, 28, 96, 46, 16, 16, 112]
abbrev dktX7_digit_0 : List UInt8 := dkwX7_digit_0 ++ dktX7_digit_1
theorem dksX7_digit_0 : cX7_digit.data.toList.drop 0 = dktX7_digit_0 := by decide +kernel
theorem dksX7_digit_1 : cX7_digit.data.toList.drop 24 = dktX7_digit_1 := dk_seg dksX7_digit_0 24 rfl rfl
theorem dX7_digit_0 : decode cX7_digit 0 = .ok (.iload_n 1, 1) := dk_27 (dk_at dksX7_digit_0 0 rfl rfl)
theorem dX7_digit_1 : decode cX7_digit 1 = .ok (.aload_n 0, 1) := dk_42 (dk_at dksX7_digit_0 1 rfl rfl)
theorem dX7_digit_2 : decode cX7_digit 2 = .ok (.getfield 350, 3) := dk_180 1 94 (dk_at dksX7_digit_0 2 rfl rfl)
theorem dX7_digit_5 : decode cX7_digit 5 = .ok (.if_icmp .lt 5, 3) := dk_161 0 5 (dk_at dksX7_digit_0 5 rfl rfl)
theorem dX7_digit_8 : decode cX7_digit 8 = .ok (.iconst (-1), 1) := dk_2 (dk_at dksX7_digit_0 8 rfl rfl)
theorem dX7_digit_9 : decode cX7_digit 9 = .ok (.ireturn, 1) := dk_172 (dk_at dksX7_digit_0 9 rfl rfl)
theorem dX7_digit_10 : decode cX7_digit 10 = .ok (.aload_n 0, 1) := dk_42 (dk_at dksX7_digit_0 10 rfl rfl)
theorem dX7_digit_11 : decode cX7_digit 11 = .ok (.getfield 36, 3) := dk_180 0 36 (dk_at dksX7_digit_0 11 rfl rfl)
theorem dX7_digit_14 : decode cX7_digit 14 = .ok (.bipush 20, 2) := dk_16 20 (dk_at dksX7_digit_0 14 rfl rfl)
theorem dX7_digit_16 : decode cX7_digit 16 = .ok (.iload_n 1, 1) := dk_27 (dk_at dksX7_digit_0 16 rfl rfl)
theorem dX7_digit_17 : decode cX7_digit 17 = .ok (.imul, 1) := dk_104 (dk_at dksX7_digit_0 17 rfl rfl)
theorem dX7_digit_18 : decode cX7_digit 18 = .ok (.iload_n 2, 1) := dk_28 (dk_at dksX7_digit_0 18 rfl rfl)
theorem dX7_digit_19 : decode cX7_digit 19 = .ok (.iadd, 1) := dk_96 (dk_at dksX7_digit_0 19 rfl rfl)
theorem dX7_digit_20 : decode cX7_digit 20 = .ok (.iaload, 1) := dk_46 (dk_at dksX7_digit_0 20 rfl rfl)
theorem dX7_digit_21 : decode cX7_digit 21 = .ok (.bipush 16, 2) := dk_16 16 (dk_at dksX7_digit_0 21 rfl rfl)
theorem dX7_digit_23 : decode cX7_digit 23 = .ok (.irem, 1) := dk_112 (dk_at dksX7_digit_0 23 rfl rfl)
theorem dX7_digit_24 : decode cX7_digit 24 = .ok (.istore_n 3, 1) := dk_62 (dk_at dksX7_digit_1 0 rfl rfl)
theorem dX7_digit_25 : decode cX7_digit 25 = .ok (.iload_n 3, 1) := dk_29 (dk_at dksX7_digit_1 1 rfl rfl)
theorem dX7_digit_26 : decode cX7_digit 26 = .ok (.bipush 15, 2) := dk_16 15 (dk_at dksX7_digit_1 2 rfl rfl)
theorem dX7_digit_28 : decode cX7_digit 28 = .ok (.if_icmp .ne 7, 3) := dk_160 0 7 (dk_at dksX7_digit_1 4 rfl rfl)
theorem dX7_digit_31 : decode cX7_digit 31 = .ok (.iconst (-1), 1) := dk_2 (dk_at dksX7_digit_1 7 rfl rfl)
theorem dX7_digit_32 : decode cX7_digit 32 = .ok (.goto 4, 3) := dk_167 0 4 (dk_at dksX7_digit_1 8 rfl rfl)
theorem dX7_digit_35 : decode cX7_digit 35 = .ok (.iload_n 3, 1) := dk_29 (dk_at dksX7_digit_1 11 rfl rfl)
theorem dX7_digit_36 : decode cX7_digit 36 = .ok (.ireturn, 1) := dk_172 (dk_at dksX7_digit_1 12 rfl rfl)
abbrev cX7_cycle : ByteArray := prog_14_method_39_code
def yX7_cycle : MethodName := ⟨RX7, "cycle", "(Z)I"⟩
def dkwX7_cycle_19 : List UInt8 := [132, 3, 1, 167, 255, 205, 42, 180, 0, 63, 3, 92, 46, 4, 96, 79, 3, 172]
abbrev dktX7_cycle_19 : List UInt8 := dkwX7_cycle_19 ++ []
def dkwX7_cycle_18 : List UInt8 := [29, 96, 182, 1, 123, 156, 0, 8, 16, 15, 167, 0, 12, 42, 17, 0, 159, 29, 96, 182, 1, 123, 79]
abbrev dktX7_cycle_18 : List UInt8 := dkwX7_cycle_18 ++ dktX7_cycle_19
def dkwX7_cycle_17 : List UInt8 := [16, 20, 162, 0, 51, 42, 180, 0, 72, 16, 20, 42, 180, 0, 63, 3, 46, 104, 29, 96, 42, 17, 0, 159]
abbrev dktX7_cycle_17 : List UInt8 := dkwX7_cycle_17 ++ dktX7_cycle_18
def dkwX7_cycle_16 : List UInt8 := [156, 0, 5, 3, 172, 42, 180, 0, 63, 3, 46, 42, 180, 1, 108, 160, 0, 5, 6, 172, 3, 62, 29]
abbrev dktX7_cycle_16 : List UInt8 := dkwX7_cycle_16 ++ dktX7_cycle_17
def dkwX7_cycle_15 : List UInt8 := [155, 0, 10, 42, 180, 0, 69, 29, 3, 79, 132, 3, 1, 167, 255, 229, 42, 17, 0, 179, 182, 1, 123]
abbrev dktX7_cycle_15 : List UInt8 := dkwX7_cycle_15 ++ dktX7_cycle_16
def dkwX7_cycle_14 : List UInt8 := [132, 3, 1, 167, 255, 243, 3, 62, 29, 7, 162, 0, 28, 42, 17, 0, 128, 29, 96, 182, 1, 123]
abbrev dktX7_cycle_14 : List UInt8 := dkwX7_cycle_14 ++ dktX7_cycle_15
def dkwX7_cycle_13 : List UInt8 := [42, 180, 0, 60, 3, 92, 46, 4, 96, 79, 3, 62, 29, 7, 162, 0, 14, 42, 29, 182, 1, 137]
abbrev dktX7_cycle_13 : List UInt8 := dkwX7_cycle_13 ++ dktX7_cycle_14
def dkwX7_cycle_12 : List UInt8 := [156, 0, 8, 16, 15, 167, 0, 12, 42, 17, 0, 132, 29, 96, 182, 1, 123, 79, 132, 3, 1, 167, 255, 205]
abbrev dktX7_cycle_12 : List UInt8 := dkwX7_cycle_12 ++ dktX7_cycle_13
def dkwX7_cycle_11 : List UInt8 := [180, 0, 66, 16, 12, 42, 180, 0, 60, 3, 46, 104, 29, 96, 42, 17, 0, 132, 29, 96, 182, 1, 123]
abbrev dktX7_cycle_11 : List UInt8 := dkwX7_cycle_11 ++ dktX7_cycle_12
def dkwX7_cycle_10 : List UInt8 := [42, 180, 0, 60, 3, 46, 16, 60, 160, 0, 5, 6, 172, 3, 62, 29, 16, 12, 162, 0, 51, 42]
abbrev dktX7_cycle_10 : List UInt8 := dkwX7_cycle_10 ++ dktX7_cycle_11
def dkwX7_cycle_9 : List UInt8 := [46, 4, 164, 0, 9, 42, 29, 182, 1, 132, 172, 132, 3, 1, 167, 255, 217, 42, 182, 1, 135, 153, 0, 82]
abbrev dktX7_cycle_9 : List UInt8 := dkwX7_cycle_9 ++ dktX7_cycle_10
def dkwX7_cycle_8 : List UInt8 := [16, 96, 162, 0, 39, 42, 180, 0, 39, 29, 46, 155, 0, 24, 42, 180, 0, 51, 42, 180, 0, 45, 29, 46]
abbrev dktX7_cycle_8 : List UInt8 := dkwX7_cycle_8 ++ dktX7_cycle_9
def dkwX7_cycle_7 : List UInt8 := [167, 0, 4, 2, 79, 132, 3, 1, 167, 255, 209, 42, 42, 180, 0, 45, 4, 182, 1, 129, 3, 62, 29]
abbrev dktX7_cycle_7 : List UInt8 := dkwX7_cycle_7 ++ dktX7_cycle_8
def dkwX7_cycle_6 : List UInt8 := [29, 96, 42, 17, 0, 148, 29, 96, 182, 1, 123, 42, 17, 0, 152, 29, 96, 182, 1, 123, 159, 0, 7, 4]
abbrev dktX7_cycle_6 : List UInt8 := dkwX7_cycle_6 ++ dktX7_cycle_7
def dkwX7_cycle_5 : List UInt8 := [180, 0, 45, 3, 182, 1, 129, 3, 62, 29, 7, 162, 0, 48, 27, 153, 0, 44, 42, 180, 0, 39, 16, 61]
abbrev dktX7_cycle_5 : List UInt8 := dkwX7_cycle_5 ++ dktX7_cycle_6
def dkwX7_cycle_4 : List UInt8 := [154, 0, 21, 42, 180, 0, 45, 29, 42, 180, 0, 42, 29, 46, 79, 132, 3, 1, 167, 255, 230, 42, 42]
abbrev dktX7_cycle_4 : List UInt8 := dkwX7_cycle_4 ++ dktX7_cycle_5
def dkwX7_cycle_3 : List UInt8 := [28, 153, 0, 12, 42, 42, 180, 0, 45, 4, 182, 1, 111, 3, 62, 29, 17, 0, 217, 162, 0, 25, 28]
abbrev dktX7_cycle_3 : List UInt8 := dkwX7_cycle_3 ++ dktX7_cycle_4
def dkwX7_cycle_2 : List UInt8 := [154, 0, 12, 42, 180, 0, 54, 29, 51, 153, 0, 7, 4, 167, 0, 4, 3, 61, 132, 3, 1, 167, 255, 200]
abbrev dktX7_cycle_2 : List UInt8 := dkwX7_cycle_2 ++ dktX7_cycle_3
def dkwX7_cycle_1 : List UInt8 := [180, 0, 51, 42, 180, 0, 42, 17, 0, 144, 29, 96, 46, 46, 158, 0, 7, 4, 167, 0, 4, 3, 84, 28]
abbrev dktX7_cycle_1 : List UInt8 := dkwX7_cycle_1 ++ dktX7_cycle_2
def dkwX7_cycle_0 : List UInt8 := [42, 42, 180, 0, 42, 3, 182, 1, 129, 3, 61, 3, 62, 29, 7, 162, 0, 57, 42, 180, 0, 54, 29, 42]
abbrev dktX7_cycle_0 : List UInt8 := dkwX7_cycle_0 ++ dktX7_cycle_1
theorem dksX7_cycle_0 : cX7_cycle.data.toList.drop 0 = dktX7_cycle_0 := by decide +kernel
theorem dksX7_cycle_1 : cX7_cycle.data.toList.drop 24 = dktX7_cycle_1 := dk_seg dksX7_cycle_0 24 rfl rfl
theorem dksX7_cycle_2 : cX7_cycle.data.toList.drop 48 = dktX7_cycle_2 := dk_seg dksX7_cycle_1 24 rfl rfl
theorem dksX7_cycle_3 : cX7_cycle.data.toList.drop 72 = dktX7_cycle_3 := dk_seg dksX7_cycle_2 24 rfl rfl
theorem dksX7_cycle_4 : cX7_cycle.data.toList.drop 95 = dktX7_cycle_4 := dk_seg dksX7_cycle_3 23 rfl rfl
theorem dksX7_cycle_5 : cX7_cycle.data.toList.drop 118 = dktX7_cycle_5 := dk_seg dksX7_cycle_4 23 rfl rfl
theorem dksX7_cycle_6 : cX7_cycle.data.toList.drop 142 = dktX7_cycle_6 := dk_seg dksX7_cycle_5 24 rfl rfl
theorem dksX7_cycle_7 : cX7_cycle.data.toList.drop 166 = dktX7_cycle_7 := dk_seg dksX7_cycle_6 24 rfl rfl
theorem dksX7_cycle_8 : cX7_cycle.data.toList.drop 189 = dktX7_cycle_8 := dk_seg dksX7_cycle_7 23 rfl rfl
theorem dksX7_cycle_9 : cX7_cycle.data.toList.drop 213 = dktX7_cycle_9 := dk_seg dksX7_cycle_8 24 rfl rfl
theorem dksX7_cycle_10 : cX7_cycle.data.toList.drop 237 = dktX7_cycle_10 := dk_seg dksX7_cycle_9 24 rfl rfl
theorem dksX7_cycle_11 : cX7_cycle.data.toList.drop 259 = dktX7_cycle_11 := dk_seg dksX7_cycle_10 22 rfl rfl
theorem dksX7_cycle_12 : cX7_cycle.data.toList.drop 282 = dktX7_cycle_12 := dk_seg dksX7_cycle_11 23 rfl rfl
theorem dksX7_cycle_13 : cX7_cycle.data.toList.drop 306 = dktX7_cycle_13 := dk_seg dksX7_cycle_12 24 rfl rfl
theorem dksX7_cycle_14 : cX7_cycle.data.toList.drop 328 = dktX7_cycle_14 := dk_seg dksX7_cycle_13 22 rfl rfl
theorem dksX7_cycle_15 : cX7_cycle.data.toList.drop 350 = dktX7_cycle_15 := dk_seg dksX7_cycle_14 22 rfl rfl
theorem dksX7_cycle_16 : cX7_cycle.data.toList.drop 373 = dktX7_cycle_16 := dk_seg dksX7_cycle_15 23 rfl rfl
theorem dksX7_cycle_17 : cX7_cycle.data.toList.drop 396 = dktX7_cycle_17 := dk_seg dksX7_cycle_16 23 rfl rfl
theorem dksX7_cycle_18 : cX7_cycle.data.toList.drop 420 = dktX7_cycle_18 := dk_seg dksX7_cycle_17 24 rfl rfl
theorem dksX7_cycle_19 : cX7_cycle.data.toList.drop 443 = dktX7_cycle_19 := dk_seg dksX7_cycle_18 23 rfl rfl
theorem dX7_cycle_0 : decode cX7_cycle 0 = .ok (.aload_n 0, 1) := dk_42 (dk_at dksX7_cycle_0 0 rfl rfl)
theorem dX7_cycle_1 : decode cX7_cycle 1 = .ok (.aload_n 0, 1) := dk_42 (dk_at dksX7_cycle_0 1 rfl rfl)
theorem dX7_cycle_2 : decode cX7_cycle 2 = .ok (.getfield 42, 3) := dk_180 0 42 (dk_at dksX7_cycle_0 2 rfl rfl)
theorem dX7_cycle_5 : decode cX7_cycle 5 = .ok (.iconst 0, 1) := dk_3 (dk_at dksX7_cycle_0 5 rfl rfl)
theorem dX7_cycle_6 : decode cX7_cycle 6 = .ok (.invokevirtual 385, 3) := dk_182 1 129 (dk_at dksX7_cycle_0 6 rfl rfl)
theorem dX7_cycle_9 : decode cX7_cycle 9 = .ok (.iconst 0, 1) := dk_3 (dk_at dksX7_cycle_0 9 rfl rfl)
theorem dX7_cycle_10 : decode cX7_cycle 10 = .ok (.istore_n 2, 1) := dk_61 (dk_at dksX7_cycle_0 10 rfl rfl)
theorem dX7_cycle_11 : decode cX7_cycle 11 = .ok (.iconst 0, 1) := dk_3 (dk_at dksX7_cycle_0 11 rfl rfl)
theorem dX7_cycle_12 : decode cX7_cycle 12 = .ok (.istore_n 3, 1) := dk_62 (dk_at dksX7_cycle_0 12 rfl rfl)
theorem dX7_cycle_13 : decode cX7_cycle 13 = .ok (.iload_n 3, 1) := dk_29 (dk_at dksX7_cycle_0 13 rfl rfl)
theorem dX7_cycle_14 : decode cX7_cycle 14 = .ok (.iconst 4, 1) := dk_7 (dk_at dksX7_cycle_0 14 rfl rfl)
theorem dX7_cycle_15 : decode cX7_cycle 15 = .ok (.if_icmp .ge 57, 3) := dk_162 0 57 (dk_at dksX7_cycle_0 15 rfl rfl)
theorem dX7_cycle_18 : decode cX7_cycle 18 = .ok (.aload_n 0, 1) := dk_42 (dk_at dksX7_cycle_0 18 rfl rfl)
theorem dX7_cycle_19 : decode cX7_cycle 19 = .ok (.getfield 54, 3) := dk_180 0 54 (dk_at dksX7_cycle_0 19 rfl rfl)
theorem dX7_cycle_22 : decode cX7_cycle 22 = .ok (.iload_n 3, 1) := dk_29 (dk_at dksX7_cycle_0 22 rfl rfl)
theorem dX7_cycle_23 : decode cX7_cycle 23 = .ok (.aload_n 0, 1) := dk_42 (dk_at dksX7_cycle_0 23 rfl rfl)
theorem dX7_cycle_24 : decode cX7_cycle 24 = .ok (.getfield 51, 3) := dk_180 0 51 (dk_at dksX7_cycle_1 0 rfl rfl)
theorem dX7_cycle_27 : decode cX7_cycle 27 = .ok (.aload_n 0, 1) := dk_42 (dk_at dksX7_cycle_1 3 rfl rfl)
theorem dX7_cycle_28 : decode cX7_cycle 28 = .ok (.getfield 42, 3) := dk_180 0 42 (dk_at dksX7_cycle_1 4 rfl rfl)
theorem dX7_cycle_31 : decode cX7_cycle 31 = .ok (.sipush 144, 3) := dk_17 0 144 (dk_at dksX7_cycle_1 7 rfl rfl)
theorem dX7_cycle_34 : decode cX7_cycle 34 = .ok (.iload_n 3, 1) := dk_29 (dk_at dksX7_cycle_1 10 rfl rfl)
theorem dX7_cycle_35 : decode cX7_cycle 35 = .ok (.iadd, 1) := dk_96 (dk_at dksX7_cycle_1 11 rfl rfl)
theorem dX7_cycle_36 : decode cX7_cycle 36 = .ok (.iaload, 1) := dk_46 (dk_at dksX7_cycle_1 12 rfl rfl)
theorem dX7_cycle_37 : decode cX7_cycle 37 = .ok (.iaload, 1) := dk_46 (dk_at dksX7_cycle_1 13 rfl rfl)
theorem dX7_cycle_38 : decode cX7_cycle 38 = .ok (.ifCond .le 7, 3) := dk_158 0 7 (dk_at dksX7_cycle_1 14 rfl rfl)
theorem dX7_cycle_41 : decode cX7_cycle 41 = .ok (.iconst 1, 1) := dk_4 (dk_at dksX7_cycle_1 17 rfl rfl)
theorem dX7_cycle_42 : decode cX7_cycle 42 = .ok (.goto 4, 3) := dk_167 0 4 (dk_at dksX7_cycle_1 18 rfl rfl)
theorem dX7_cycle_45 : decode cX7_cycle 45 = .ok (.iconst 0, 1) := dk_3 (dk_at dksX7_cycle_1 21 rfl rfl)
theorem dX7_cycle_46 : decode cX7_cycle 46 = .ok (.bastore, 1) := dk_84 (dk_at dksX7_cycle_1 22 rfl rfl)
theorem dX7_cycle_47 : decode cX7_cycle 47 = .ok (.iload_n 2, 1) := dk_28 (dk_at dksX7_cycle_1 23 rfl rfl)
theorem dX7_cycle_48 : decode cX7_cycle 48 = .ok (.ifCond .ne 12, 3) := dk_154 0 12 (dk_at dksX7_cycle_2 0 rfl rfl)
theorem dX7_cycle_51 : decode cX7_cycle 51 = .ok (.aload_n 0, 1) := dk_42 (dk_at dksX7_cycle_2 3 rfl rfl)
theorem dX7_cycle_52 : decode cX7_cycle 52 = .ok (.getfield 54, 3) := dk_180 0 54 (dk_at dksX7_cycle_2 4 rfl rfl)
theorem dX7_cycle_55 : decode cX7_cycle 55 = .ok (.iload_n 3, 1) := dk_29 (dk_at dksX7_cycle_2 7 rfl rfl)
theorem dX7_cycle_56 : decode cX7_cycle 56 = .ok (.baload, 1) := dk_51 (dk_at dksX7_cycle_2 8 rfl rfl)
theorem dX7_cycle_57 : decode cX7_cycle 57 = .ok (.ifCond .eq 7, 3) := dk_153 0 7 (dk_at dksX7_cycle_2 9 rfl rfl)
theorem dX7_cycle_60 : decode cX7_cycle 60 = .ok (.iconst 1, 1) := dk_4 (dk_at dksX7_cycle_2 12 rfl rfl)
theorem dX7_cycle_61 : decode cX7_cycle 61 = .ok (.goto 4, 3) := dk_167 0 4 (dk_at dksX7_cycle_2 13 rfl rfl)
theorem dX7_cycle_64 : decode cX7_cycle 64 = .ok (.iconst 0, 1) := dk_3 (dk_at dksX7_cycle_2 16 rfl rfl)
theorem dX7_cycle_65 : decode cX7_cycle 65 = .ok (.istore_n 2, 1) := dk_61 (dk_at dksX7_cycle_2 17 rfl rfl)
theorem dX7_cycle_66 : decode cX7_cycle 66 = .ok (.iinc 3 1, 3) := dk_132 3 1 (dk_at dksX7_cycle_2 18 rfl rfl)
theorem dX7_cycle_69 : decode cX7_cycle 69 = .ok (.goto (-56), 3) := dk_167 255 200 (dk_at dksX7_cycle_2 21 rfl rfl)
theorem dX7_cycle_72 : decode cX7_cycle 72 = .ok (.iload_n 2, 1) := dk_28 (dk_at dksX7_cycle_3 0 rfl rfl)
theorem dX7_cycle_73 : decode cX7_cycle 73 = .ok (.ifCond .eq 12, 3) := dk_153 0 12 (dk_at dksX7_cycle_3 1 rfl rfl)
theorem dX7_cycle_76 : decode cX7_cycle 76 = .ok (.aload_n 0, 1) := dk_42 (dk_at dksX7_cycle_3 4 rfl rfl)
theorem dX7_cycle_77 : decode cX7_cycle 77 = .ok (.aload_n 0, 1) := dk_42 (dk_at dksX7_cycle_3 5 rfl rfl)
theorem dX7_cycle_78 : decode cX7_cycle 78 = .ok (.getfield 45, 3) := dk_180 0 45 (dk_at dksX7_cycle_3 6 rfl rfl)
theorem dX7_cycle_81 : decode cX7_cycle 81 = .ok (.iconst 1, 1) := dk_4 (dk_at dksX7_cycle_3 9 rfl rfl)
theorem dX7_cycle_82 : decode cX7_cycle 82 = .ok (.invokevirtual 367, 3) := dk_182 1 111 (dk_at dksX7_cycle_3 10 rfl rfl)
theorem dX7_cycle_85 : decode cX7_cycle 85 = .ok (.iconst 0, 1) := dk_3 (dk_at dksX7_cycle_3 13 rfl rfl)
theorem dX7_cycle_86 : decode cX7_cycle 86 = .ok (.istore_n 3, 1) := dk_62 (dk_at dksX7_cycle_3 14 rfl rfl)
theorem dX7_cycle_87 : decode cX7_cycle 87 = .ok (.iload_n 3, 1) := dk_29 (dk_at dksX7_cycle_3 15 rfl rfl)
theorem dX7_cycle_88 : decode cX7_cycle 88 = .ok (.sipush 217, 3) := dk_17 0 217 (dk_at dksX7_cycle_3 16 rfl rfl)
theorem dX7_cycle_91 : decode cX7_cycle 91 = .ok (.if_icmp .ge 25, 3) := dk_162 0 25 (dk_at dksX7_cycle_3 19 rfl rfl)
theorem dX7_cycle_94 : decode cX7_cycle 94 = .ok (.iload_n 2, 1) := dk_28 (dk_at dksX7_cycle_3 22 rfl rfl)
theorem dX7_cycle_95 : decode cX7_cycle 95 = .ok (.ifCond .ne 21, 3) := dk_154 0 21 (dk_at dksX7_cycle_4 0 rfl rfl)
theorem dX7_cycle_98 : decode cX7_cycle 98 = .ok (.aload_n 0, 1) := dk_42 (dk_at dksX7_cycle_4 3 rfl rfl)
theorem dX7_cycle_99 : decode cX7_cycle 99 = .ok (.getfield 45, 3) := dk_180 0 45 (dk_at dksX7_cycle_4 4 rfl rfl)
theorem dX7_cycle_102 : decode cX7_cycle 102 = .ok (.iload_n 3, 1) := dk_29 (dk_at dksX7_cycle_4 7 rfl rfl)
theorem dX7_cycle_103 : decode cX7_cycle 103 = .ok (.aload_n 0, 1) := dk_42 (dk_at dksX7_cycle_4 8 rfl rfl)
theorem dX7_cycle_104 : decode cX7_cycle 104 = .ok (.getfield 42, 3) := dk_180 0 42 (dk_at dksX7_cycle_4 9 rfl rfl)
theorem dX7_cycle_107 : decode cX7_cycle 107 = .ok (.iload_n 3, 1) := dk_29 (dk_at dksX7_cycle_4 12 rfl rfl)
theorem dX7_cycle_108 : decode cX7_cycle 108 = .ok (.iaload, 1) := dk_46 (dk_at dksX7_cycle_4 13 rfl rfl)
theorem dX7_cycle_109 : decode cX7_cycle 109 = .ok (.iastore, 1) := dk_79 (dk_at dksX7_cycle_4 14 rfl rfl)
theorem dX7_cycle_110 : decode cX7_cycle 110 = .ok (.iinc 3 1, 3) := dk_132 3 1 (dk_at dksX7_cycle_4 15 rfl rfl)
theorem dX7_cycle_113 : decode cX7_cycle 113 = .ok (.goto (-26), 3) := dk_167 255 230 (dk_at dksX7_cycle_4 18 rfl rfl)
theorem dX7_cycle_116 : decode cX7_cycle 116 = .ok (.aload_n 0, 1) := dk_42 (dk_at dksX7_cycle_4 21 rfl rfl)
theorem dX7_cycle_117 : decode cX7_cycle 117 = .ok (.aload_n 0, 1) := dk_42 (dk_at dksX7_cycle_4 22 rfl rfl)
theorem dX7_cycle_118 : decode cX7_cycle 118 = .ok (.getfield 45, 3) := dk_180 0 45 (dk_at dksX7_cycle_5 0 rfl rfl)
theorem dX7_cycle_121 : decode cX7_cycle 121 = .ok (.iconst 0, 1) := dk_3 (dk_at dksX7_cycle_5 3 rfl rfl)
theorem dX7_cycle_122 : decode cX7_cycle 122 = .ok (.invokevirtual 385, 3) := dk_182 1 129 (dk_at dksX7_cycle_5 4 rfl rfl)
theorem dX7_cycle_125 : decode cX7_cycle 125 = .ok (.iconst 0, 1) := dk_3 (dk_at dksX7_cycle_5 7 rfl rfl)
theorem dX7_cycle_126 : decode cX7_cycle 126 = .ok (.istore_n 3, 1) := dk_62 (dk_at dksX7_cycle_5 8 rfl rfl)
theorem dX7_cycle_127 : decode cX7_cycle 127 = .ok (.iload_n 3, 1) := dk_29 (dk_at dksX7_cycle_5 9 rfl rfl)
theorem dX7_cycle_128 : decode cX7_cycle 128 = .ok (.iconst 4, 1) := dk_7 (dk_at dksX7_cycle_5 10 rfl rfl)
theorem dX7_cycle_129 : decode cX7_cycle 129 = .ok (.if_icmp .ge 48, 3) := dk_162 0 48 (dk_at dksX7_cycle_5 11 rfl rfl)
theorem dX7_cycle_132 : decode cX7_cycle 132 = .ok (.iload_n 1, 1) := dk_27 (dk_at dksX7_cycle_5 14 rfl rfl)
theorem dX7_cycle_133 : decode cX7_cycle 133 = .ok (.ifCond .eq 44, 3) := dk_153 0 44 (dk_at dksX7_cycle_5 15 rfl rfl)
theorem dX7_cycle_136 : decode cX7_cycle 136 = .ok (.aload_n 0, 1) := dk_42 (dk_at dksX7_cycle_5 18 rfl rfl)
theorem dX7_cycle_137 : decode cX7_cycle 137 = .ok (.getfield 39, 3) := dk_180 0 39 (dk_at dksX7_cycle_5 19 rfl rfl)
theorem dX7_cycle_140 : decode cX7_cycle 140 = .ok (.bipush 61, 2) := dk_16 61 (dk_at dksX7_cycle_5 22 rfl rfl)
theorem dX7_cycle_142 : decode cX7_cycle 142 = .ok (.iload_n 3, 1) := dk_29 (dk_at dksX7_cycle_6 0 rfl rfl)
theorem dX7_cycle_143 : decode cX7_cycle 143 = .ok (.iadd, 1) := dk_96 (dk_at dksX7_cycle_6 1 rfl rfl)
theorem dX7_cycle_144 : decode cX7_cycle 144 = .ok (.aload_n 0, 1) := dk_42 (dk_at dksX7_cycle_6 2 rfl rfl)
theorem dX7_cycle_145 : decode cX7_cycle 145 = .ok (.sipush 148, 3) := dk_17 0 148 (dk_at dksX7_cycle_6 3 rfl rfl)
theorem dX7_cycle_148 : decode cX7_cycle 148 = .ok (.iload_n 3, 1) := dk_29 (dk_at dksX7_cycle_6 6 rfl rfl)
theorem dX7_cycle_149 : decode cX7_cycle 149 = .ok (.iadd, 1) := dk_96 (dk_at dksX7_cycle_6 7 rfl rfl)
theorem dX7_cycle_150 : decode cX7_cycle 150 = .ok (.invokevirtual 379, 3) := dk_182 1 123 (dk_at dksX7_cycle_6 8 rfl rfl)
theorem dX7_cycle_153 : decode cX7_cycle 153 = .ok (.aload_n 0, 1) := dk_42 (dk_at dksX7_cycle_6 11 rfl rfl)
theorem dX7_cycle_154 : decode cX7_cycle 154 = .ok (.sipush 152, 3) := dk_17 0 152 (dk_at dksX7_cycle_6 12 rfl rfl)
theorem dX7_cycle_157 : decode cX7_cycle 157 = .ok (.iload_n 3, 1) := dk_29 (dk_at dksX7_cycle_6 15 rfl rfl)
theorem dX7_cycle_158 : decode cX7_cycle 158 = .ok (.iadd, 1) := dk_96 (dk_at dksX7_cycle_6 16 rfl rfl)
theorem dX7_cycle_159 : decode cX7_cycle 159 = .ok (.invokevirtual 379, 3) := dk_182 1 123 (dk_at dksX7_cycle_6 17 rfl rfl)
theorem dX7_cycle_162 : decode cX7_cycle 162 = .ok (.if_icmp .eq 7, 3) := dk_159 0 7 (dk_at dksX7_cycle_6 20 rfl rfl)
theorem dX7_cycle_165 : decode cX7_cycle 165 = .ok (.iconst 1, 1) := dk_4 (dk_at dksX7_cycle_6 23 rfl rfl)
theorem dX7_cycle_166 : decode cX7_cycle 166 = .ok (.goto 4, 3) := dk_167 0 4 (dk_at dksX7_cycle_7 0 rfl rfl)
theorem dX7_cycle_169 : decode cX7_cycle 169 = .ok (.iconst (-1), 1) := dk_2 (dk_at dksX7_cycle_7 3 rfl rfl)
theorem dX7_cycle_170 : decode cX7_cycle 170 = .ok (.iastore, 1) := dk_79 (dk_at dksX7_cycle_7 4 rfl rfl)
theorem dX7_cycle_171 : decode cX7_cycle 171 = .ok (.iinc 3 1, 3) := dk_132 3 1 (dk_at dksX7_cycle_7 5 rfl rfl)
theorem dX7_cycle_174 : decode cX7_cycle 174 = .ok (.goto (-47), 3) := dk_167 255 209 (dk_at dksX7_cycle_7 8 rfl rfl)
theorem dX7_cycle_177 : decode cX7_cycle 177 = .ok (.aload_n 0, 1) := dk_42 (dk_at dksX7_cycle_7 11 rfl rfl)
theorem dX7_cycle_178 : decode cX7_cycle 178 = .ok (.aload_n 0, 1) := dk_42 (dk_at dksX7_cycle_7 12 rfl rfl)
theorem dX7_cycle_179 : decode cX7_cycle 179 = .ok (.getfield 45, 3) := dk_180 0 45 (dk_at dksX7_cycle_7 13 rfl rfl)
theorem dX7_cycle_182 : decode cX7_cycle 182 = .ok (.iconst 1, 1) := dk_4 (dk_at dksX7_cycle_7 16 rfl rfl)
theorem dX7_cycle_183 : decode cX7_cycle 183 = .ok (.invokevirtual 385, 3) := dk_182 1 129 (dk_at dksX7_cycle_7 17 rfl rfl)
theorem dX7_cycle_186 : decode cX7_cycle 186 = .ok (.iconst 0, 1) := dk_3 (dk_at dksX7_cycle_7 20 rfl rfl)
theorem dX7_cycle_187 : decode cX7_cycle 187 = .ok (.istore_n 3, 1) := dk_62 (dk_at dksX7_cycle_7 21 rfl rfl)
theorem dX7_cycle_188 : decode cX7_cycle 188 = .ok (.iload_n 3, 1) := dk_29 (dk_at dksX7_cycle_7 22 rfl rfl)
theorem dX7_cycle_189 : decode cX7_cycle 189 = .ok (.bipush 96, 2) := dk_16 96 (dk_at dksX7_cycle_8 0 rfl rfl)
theorem dX7_cycle_191 : decode cX7_cycle 191 = .ok (.if_icmp .ge 39, 3) := dk_162 0 39 (dk_at dksX7_cycle_8 2 rfl rfl)
theorem dX7_cycle_194 : decode cX7_cycle 194 = .ok (.aload_n 0, 1) := dk_42 (dk_at dksX7_cycle_8 5 rfl rfl)
theorem dX7_cycle_195 : decode cX7_cycle 195 = .ok (.getfield 39, 3) := dk_180 0 39 (dk_at dksX7_cycle_8 6 rfl rfl)
theorem dX7_cycle_198 : decode cX7_cycle 198 = .ok (.iload_n 3, 1) := dk_29 (dk_at dksX7_cycle_8 9 rfl rfl)
theorem dX7_cycle_199 : decode cX7_cycle 199 = .ok (.iaload, 1) := dk_46 (dk_at dksX7_cycle_8 10 rfl rfl)
theorem dX7_cycle_200 : decode cX7_cycle 200 = .ok (.ifCond .lt 24, 3) := dk_155 0 24 (dk_at dksX7_cycle_8 11 rfl rfl)
theorem dX7_cycle_203 : decode cX7_cycle 203 = .ok (.aload_n 0, 1) := dk_42 (dk_at dksX7_cycle_8 14 rfl rfl)
theorem dX7_cycle_204 : decode cX7_cycle 204 = .ok (.getfield 51, 3) := dk_180 0 51 (dk_at dksX7_cycle_8 15 rfl rfl)
theorem dX7_cycle_207 : decode cX7_cycle 207 = .ok (.aload_n 0, 1) := dk_42 (dk_at dksX7_cycle_8 18 rfl rfl)
theorem dX7_cycle_208 : decode cX7_cycle 208 = .ok (.getfield 45, 3) := dk_180 0 45 (dk_at dksX7_cycle_8 19 rfl rfl)
theorem dX7_cycle_211 : decode cX7_cycle 211 = .ok (.iload_n 3, 1) := dk_29 (dk_at dksX7_cycle_8 22 rfl rfl)
theorem dX7_cycle_212 : decode cX7_cycle 212 = .ok (.iaload, 1) := dk_46 (dk_at dksX7_cycle_8 23 rfl rfl)
theorem dX7_cycle_213 : decode cX7_cycle 213 = .ok (.iaload, 1) := dk_46 (dk_at dksX7_cycle_9 0 rfl rfl)
theorem dX7_cycle_214 : decode cX7_cycle 214 = .ok (.iconst 1, 1) := dk_4 (dk_at dksX7_cycle_9 1 rfl rfl)
theorem dX7_cycle_215 : decode cX7_cycle 215 = .ok (.if_icmp .le 9, 3) := dk_164 0 9 (dk_at dksX7_cycle_9 2 rfl rfl)
theorem dX7_cycle_218 : decode cX7_cycle 218 = .ok (.aload_n 0, 1) := dk_42 (dk_at dksX7_cycle_9 5 rfl rfl)
theorem dX7_cycle_219 : decode cX7_cycle 219 = .ok (.iload_n 3, 1) := dk_29 (dk_at dksX7_cycle_9 6 rfl rfl)
theorem dX7_cycle_220 : decode cX7_cycle 220 = .ok (.invokevirtual 388, 3) := dk_182 1 132 (dk_at dksX7_cycle_9 7 rfl rfl)
theorem dX7_cycle_223 : decode cX7_cycle 223 = .ok (.ireturn, 1) := dk_172 (dk_at dksX7_cycle_9 10 rfl rfl)
theorem dX7_cycle_224 : decode cX7_cycle 224 = .ok (.iinc 3 1, 3) := dk_132 3 1 (dk_at dksX7_cycle_9 11 rfl rfl)
theorem dX7_cycle_227 : decode cX7_cycle 227 = .ok (.goto (-39), 3) := dk_167 255 217 (dk_at dksX7_cycle_9 14 rfl rfl)
theorem dX7_cycle_230 : decode cX7_cycle 230 = .ok (.aload_n 0, 1) := dk_42 (dk_at dksX7_cycle_9 17 rfl rfl)
theorem dX7_cycle_231 : decode cX7_cycle 231 = .ok (.invokevirtual 391, 3) := dk_182 1 135 (dk_at dksX7_cycle_9 18 rfl rfl)
theorem dX7_cycle_234 : decode cX7_cycle 234 = .ok (.ifCond .eq 82, 3) := dk_153 0 82 (dk_at dksX7_cycle_9 21 rfl rfl)
theorem dX7_cycle_237 : decode cX7_cycle 237 = .ok (.aload_n 0, 1) := dk_42 (dk_at dksX7_cycle_10 0 rfl rfl)
theorem dX7_cycle_238 : decode cX7_cycle 238 = .ok (.getfield 60, 3) := dk_180 0 60 (dk_at dksX7_cycle_10 1 rfl rfl)
theorem dX7_cycle_241 : decode cX7_cycle 241 = .ok (.iconst 0, 1) := dk_3 (dk_at dksX7_cycle_10 4 rfl rfl)
theorem dX7_cycle_242 : decode cX7_cycle 242 = .ok (.iaload, 1) := dk_46 (dk_at dksX7_cycle_10 5 rfl rfl)
theorem dX7_cycle_243 : decode cX7_cycle 243 = .ok (.bipush 60, 2) := dk_16 60 (dk_at dksX7_cycle_10 6 rfl rfl)
theorem dX7_cycle_245 : decode cX7_cycle 245 = .ok (.if_icmp .ne 5, 3) := dk_160 0 5 (dk_at dksX7_cycle_10 8 rfl rfl)
theorem dX7_cycle_248 : decode cX7_cycle 248 = .ok (.iconst 3, 1) := dk_6 (dk_at dksX7_cycle_10 11 rfl rfl)
theorem dX7_cycle_249 : decode cX7_cycle 249 = .ok (.ireturn, 1) := dk_172 (dk_at dksX7_cycle_10 12 rfl rfl)
theorem dX7_cycle_250 : decode cX7_cycle 250 = .ok (.iconst 0, 1) := dk_3 (dk_at dksX7_cycle_10 13 rfl rfl)
theorem dX7_cycle_251 : decode cX7_cycle 251 = .ok (.istore_n 3, 1) := dk_62 (dk_at dksX7_cycle_10 14 rfl rfl)
theorem dX7_cycle_252 : decode cX7_cycle 252 = .ok (.iload_n 3, 1) := dk_29 (dk_at dksX7_cycle_10 15 rfl rfl)
theorem dX7_cycle_253 : decode cX7_cycle 253 = .ok (.bipush 12, 2) := dk_16 12 (dk_at dksX7_cycle_10 16 rfl rfl)
theorem dX7_cycle_255 : decode cX7_cycle 255 = .ok (.if_icmp .ge 51, 3) := dk_162 0 51 (dk_at dksX7_cycle_10 18 rfl rfl)
theorem dX7_cycle_258 : decode cX7_cycle 258 = .ok (.aload_n 0, 1) := dk_42 (dk_at dksX7_cycle_10 21 rfl rfl)
theorem dX7_cycle_259 : decode cX7_cycle 259 = .ok (.getfield 66, 3) := dk_180 0 66 (dk_at dksX7_cycle_11 0 rfl rfl)
theorem dX7_cycle_262 : decode cX7_cycle 262 = .ok (.bipush 12, 2) := dk_16 12 (dk_at dksX7_cycle_11 3 rfl rfl)
theorem dX7_cycle_264 : decode cX7_cycle 264 = .ok (.aload_n 0, 1) := dk_42 (dk_at dksX7_cycle_11 5 rfl rfl)
theorem dX7_cycle_265 : decode cX7_cycle 265 = .ok (.getfield 60, 3) := dk_180 0 60 (dk_at dksX7_cycle_11 6 rfl rfl)
theorem dX7_cycle_268 : decode cX7_cycle 268 = .ok (.iconst 0, 1) := dk_3 (dk_at dksX7_cycle_11 9 rfl rfl)
theorem dX7_cycle_269 : decode cX7_cycle 269 = .ok (.iaload, 1) := dk_46 (dk_at dksX7_cycle_11 10 rfl rfl)
theorem dX7_cycle_270 : decode cX7_cycle 270 = .ok (.imul, 1) := dk_104 (dk_at dksX7_cycle_11 11 rfl rfl)
theorem dX7_cycle_271 : decode cX7_cycle 271 = .ok (.iload_n 3, 1) := dk_29 (dk_at dksX7_cycle_11 12 rfl rfl)
theorem dX7_cycle_272 : decode cX7_cycle 272 = .ok (.iadd, 1) := dk_96 (dk_at dksX7_cycle_11 13 rfl rfl)
theorem dX7_cycle_273 : decode cX7_cycle 273 = .ok (.aload_n 0, 1) := dk_42 (dk_at dksX7_cycle_11 14 rfl rfl)
theorem dX7_cycle_274 : decode cX7_cycle 274 = .ok (.sipush 132, 3) := dk_17 0 132 (dk_at dksX7_cycle_11 15 rfl rfl)
theorem dX7_cycle_277 : decode cX7_cycle 277 = .ok (.iload_n 3, 1) := dk_29 (dk_at dksX7_cycle_11 18 rfl rfl)
theorem dX7_cycle_278 : decode cX7_cycle 278 = .ok (.iadd, 1) := dk_96 (dk_at dksX7_cycle_11 19 rfl rfl)
theorem dX7_cycle_279 : decode cX7_cycle 279 = .ok (.invokevirtual 379, 3) := dk_182 1 123 (dk_at dksX7_cycle_11 20 rfl rfl)
theorem dX7_cycle_282 : decode cX7_cycle 282 = .ok (.ifCond .ge 8, 3) := dk_156 0 8 (dk_at dksX7_cycle_12 0 rfl rfl)
theorem dX7_cycle_285 : decode cX7_cycle 285 = .ok (.bipush 15, 2) := dk_16 15 (dk_at dksX7_cycle_12 3 rfl rfl)
theorem dX7_cycle_287 : decode cX7_cycle 287 = .ok (.goto 12, 3) := dk_167 0 12 (dk_at dksX7_cycle_12 5 rfl rfl)
theorem dX7_cycle_290 : decode cX7_cycle 290 = .ok (.aload_n 0, 1) := dk_42 (dk_at dksX7_cycle_12 8 rfl rfl)
theorem dX7_cycle_291 : decode cX7_cycle 291 = .ok (.sipush 132, 3) := dk_17 0 132 (dk_at dksX7_cycle_12 9 rfl rfl)
theorem dX7_cycle_294 : decode cX7_cycle 294 = .ok (.iload_n 3, 1) := dk_29 (dk_at dksX7_cycle_12 12 rfl rfl)
theorem dX7_cycle_295 : decode cX7_cycle 295 = .ok (.iadd, 1) := dk_96 (dk_at dksX7_cycle_12 13 rfl rfl)
theorem dX7_cycle_296 : decode cX7_cycle 296 = .ok (.invokevirtual 379, 3) := dk_182 1 123 (dk_at dksX7_cycle_12 14 rfl rfl)
theorem dX7_cycle_299 : decode cX7_cycle 299 = .ok (.iastore, 1) := dk_79 (dk_at dksX7_cycle_12 17 rfl rfl)
theorem dX7_cycle_300 : decode cX7_cycle 300 = .ok (.iinc 3 1, 3) := dk_132 3 1 (dk_at dksX7_cycle_12 18 rfl rfl)
theorem dX7_cycle_303 : decode cX7_cycle 303 = .ok (.goto (-51), 3) := dk_167 255 205 (dk_at dksX7_cycle_12 21 rfl rfl)
theorem dX7_cycle_306 : decode cX7_cycle 306 = .ok (.aload_n 0, 1) := dk_42 (dk_at dksX7_cycle_13 0 rfl rfl)
theorem dX7_cycle_307 : decode cX7_cycle 307 = .ok (.getfield 60, 3) := dk_180 0 60 (dk_at dksX7_cycle_13 1 rfl rfl)
theorem dX7_cycle_310 : decode cX7_cycle 310 = .ok (.iconst 0, 1) := dk_3 (dk_at dksX7_cycle_13 4 rfl rfl)
theorem dX7_cycle_311 : decode cX7_cycle 311 = .ok (.dup2, 1) := dk_92 (dk_at dksX7_cycle_13 5 rfl rfl)
theorem dX7_cycle_312 : decode cX7_cycle 312 = .ok (.iaload, 1) := dk_46 (dk_at dksX7_cycle_13 6 rfl rfl)
theorem dX7_cycle_313 : decode cX7_cycle 313 = .ok (.iconst 1, 1) := dk_4 (dk_at dksX7_cycle_13 7 rfl rfl)
theorem dX7_cycle_314 : decode cX7_cycle 314 = .ok (.iadd, 1) := dk_96 (dk_at dksX7_cycle_13 8 rfl rfl)
theorem dX7_cycle_315 : decode cX7_cycle 315 = .ok (.iastore, 1) := dk_79 (dk_at dksX7_cycle_13 9 rfl rfl)
theorem dX7_cycle_316 : decode cX7_cycle 316 = .ok (.iconst 0, 1) := dk_3 (dk_at dksX7_cycle_13 10 rfl rfl)
theorem dX7_cycle_317 : decode cX7_cycle 317 = .ok (.istore_n 3, 1) := dk_62 (dk_at dksX7_cycle_13 11 rfl rfl)
theorem dX7_cycle_318 : decode cX7_cycle 318 = .ok (.iload_n 3, 1) := dk_29 (dk_at dksX7_cycle_13 12 rfl rfl)
theorem dX7_cycle_319 : decode cX7_cycle 319 = .ok (.iconst 4, 1) := dk_7 (dk_at dksX7_cycle_13 13 rfl rfl)
theorem dX7_cycle_320 : decode cX7_cycle 320 = .ok (.if_icmp .ge 14, 3) := dk_162 0 14 (dk_at dksX7_cycle_13 14 rfl rfl)
theorem dX7_cycle_323 : decode cX7_cycle 323 = .ok (.aload_n 0, 1) := dk_42 (dk_at dksX7_cycle_13 17 rfl rfl)
theorem dX7_cycle_324 : decode cX7_cycle 324 = .ok (.iload_n 3, 1) := dk_29 (dk_at dksX7_cycle_13 18 rfl rfl)
theorem dX7_cycle_325 : decode cX7_cycle 325 = .ok (.invokevirtual 393, 3) := dk_182 1 137 (dk_at dksX7_cycle_13 19 rfl rfl)
theorem dX7_cycle_328 : decode cX7_cycle 328 = .ok (.iinc 3 1, 3) := dk_132 3 1 (dk_at dksX7_cycle_14 0 rfl rfl)
theorem dX7_cycle_331 : decode cX7_cycle 331 = .ok (.goto (-13), 3) := dk_167 255 243 (dk_at dksX7_cycle_14 3 rfl rfl)
theorem dX7_cycle_334 : decode cX7_cycle 334 = .ok (.iconst 0, 1) := dk_3 (dk_at dksX7_cycle_14 6 rfl rfl)
theorem dX7_cycle_335 : decode cX7_cycle 335 = .ok (.istore_n 3, 1) := dk_62 (dk_at dksX7_cycle_14 7 rfl rfl)
theorem dX7_cycle_336 : decode cX7_cycle 336 = .ok (.iload_n 3, 1) := dk_29 (dk_at dksX7_cycle_14 8 rfl rfl)
theorem dX7_cycle_337 : decode cX7_cycle 337 = .ok (.iconst 4, 1) := dk_7 (dk_at dksX7_cycle_14 9 rfl rfl)
theorem dX7_cycle_338 : decode cX7_cycle 338 = .ok (.if_icmp .ge 28, 3) := dk_162 0 28 (dk_at dksX7_cycle_14 10 rfl rfl)
theorem dX7_cycle_341 : decode cX7_cycle 341 = .ok (.aload_n 0, 1) := dk_42 (dk_at dksX7_cycle_14 13 rfl rfl)
theorem dX7_cycle_342 : decode cX7_cycle 342 = .ok (.sipush 128, 3) := dk_17 0 128 (dk_at dksX7_cycle_14 14 rfl rfl)
theorem dX7_cycle_345 : decode cX7_cycle 345 = .ok (.iload_n 3, 1) := dk_29 (dk_at dksX7_cycle_14 17 rfl rfl)
theorem dX7_cycle_346 : decode cX7_cycle 346 = .ok (.iadd, 1) := dk_96 (dk_at dksX7_cycle_14 18 rfl rfl)
theorem dX7_cycle_347 : decode cX7_cycle 347 = .ok (.invokevirtual 379, 3) := dk_182 1 123 (dk_at dksX7_cycle_14 19 rfl rfl)
theorem dX7_cycle_350 : decode cX7_cycle 350 = .ok (.ifCond .lt 10, 3) := dk_155 0 10 (dk_at dksX7_cycle_15 0 rfl rfl)
theorem dX7_cycle_353 : decode cX7_cycle 353 = .ok (.aload_n 0, 1) := dk_42 (dk_at dksX7_cycle_15 3 rfl rfl)
theorem dX7_cycle_354 : decode cX7_cycle 354 = .ok (.getfield 69, 3) := dk_180 0 69 (dk_at dksX7_cycle_15 4 rfl rfl)
theorem dX7_cycle_357 : decode cX7_cycle 357 = .ok (.iload_n 3, 1) := dk_29 (dk_at dksX7_cycle_15 7 rfl rfl)
theorem dX7_cycle_358 : decode cX7_cycle 358 = .ok (.iconst 0, 1) := dk_3 (dk_at dksX7_cycle_15 8 rfl rfl)
theorem dX7_cycle_359 : decode cX7_cycle 359 = .ok (.iastore, 1) := dk_79 (dk_at dksX7_cycle_15 9 rfl rfl)
theorem dX7_cycle_360 : decode cX7_cycle 360 = .ok (.iinc 3 1, 3) := dk_132 3 1 (dk_at dksX7_cycle_15 10 rfl rfl)
theorem dX7_cycle_363 : decode cX7_cycle 363 = .ok (.goto (-27), 3) := dk_167 255 229 (dk_at dksX7_cycle_15 13 rfl rfl)
theorem dX7_cycle_366 : decode cX7_cycle 366 = .ok (.aload_n 0, 1) := dk_42 (dk_at dksX7_cycle_15 16 rfl rfl)
theorem dX7_cycle_367 : decode cX7_cycle 367 = .ok (.sipush 179, 3) := dk_17 0 179 (dk_at dksX7_cycle_15 17 rfl rfl)
theorem dX7_cycle_370 : decode cX7_cycle 370 = .ok (.invokevirtual 379, 3) := dk_182 1 123 (dk_at dksX7_cycle_15 20 rfl rfl)
theorem dX7_cycle_373 : decode cX7_cycle 373 = .ok (.ifCond .ge 5, 3) := dk_156 0 5 (dk_at dksX7_cycle_16 0 rfl rfl)
theorem dX7_cycle_376 : decode cX7_cycle 376 = .ok (.iconst 0, 1) := dk_3 (dk_at dksX7_cycle_16 3 rfl rfl)
theorem dX7_cycle_377 : decode cX7_cycle 377 = .ok (.ireturn, 1) := dk_172 (dk_at dksX7_cycle_16 4 rfl rfl)
theorem dX7_cycle_378 : decode cX7_cycle 378 = .ok (.aload_n 0, 1) := dk_42 (dk_at dksX7_cycle_16 5 rfl rfl)
theorem dX7_cycle_379 : decode cX7_cycle 379 = .ok (.getfield 63, 3) := dk_180 0 63 (dk_at dksX7_cycle_16 6 rfl rfl)
theorem dX7_cycle_382 : decode cX7_cycle 382 = .ok (.iconst 0, 1) := dk_3 (dk_at dksX7_cycle_16 9 rfl rfl)
theorem dX7_cycle_383 : decode cX7_cycle 383 = .ok (.iaload, 1) := dk_46 (dk_at dksX7_cycle_16 10 rfl rfl)
theorem dX7_cycle_384 : decode cX7_cycle 384 = .ok (.aload_n 0, 1) := dk_42 (dk_at dksX7_cycle_16 11 rfl rfl)
theorem dX7_cycle_385 : decode cX7_cycle 385 = .ok (.getfield 364, 3) := dk_180 1 108 (dk_at dksX7_cycle_16 12 rfl rfl)
theorem dX7_cycle_388 : decode cX7_cycle 388 = .ok (.if_icmp .ne 5, 3) := dk_160 0 5 (dk_at dksX7_cycle_16 15 rfl rfl)
theorem dX7_cycle_391 : decode cX7_cycle 391 = .ok (.iconst 3, 1) := dk_6 (dk_at dksX7_cycle_16 18 rfl rfl)
theorem dX7_cycle_392 : decode cX7_cycle 392 = .ok (.ireturn, 1) := dk_172 (dk_at dksX7_cycle_16 19 rfl rfl)
theorem dX7_cycle_393 : decode cX7_cycle 393 = .ok (.iconst 0, 1) := dk_3 (dk_at dksX7_cycle_16 20 rfl rfl)
theorem dX7_cycle_394 : decode cX7_cycle 394 = .ok (.istore_n 3, 1) := dk_62 (dk_at dksX7_cycle_16 21 rfl rfl)
theorem dX7_cycle_395 : decode cX7_cycle 395 = .ok (.iload_n 3, 1) := dk_29 (dk_at dksX7_cycle_16 22 rfl rfl)
theorem dX7_cycle_396 : decode cX7_cycle 396 = .ok (.bipush 20, 2) := dk_16 20 (dk_at dksX7_cycle_17 0 rfl rfl)
theorem dX7_cycle_398 : decode cX7_cycle 398 = .ok (.if_icmp .ge 51, 3) := dk_162 0 51 (dk_at dksX7_cycle_17 2 rfl rfl)
theorem dX7_cycle_401 : decode cX7_cycle 401 = .ok (.aload_n 0, 1) := dk_42 (dk_at dksX7_cycle_17 5 rfl rfl)
theorem dX7_cycle_402 : decode cX7_cycle 402 = .ok (.getfield 72, 3) := dk_180 0 72 (dk_at dksX7_cycle_17 6 rfl rfl)
theorem dX7_cycle_405 : decode cX7_cycle 405 = .ok (.bipush 20, 2) := dk_16 20 (dk_at dksX7_cycle_17 9 rfl rfl)
theorem dX7_cycle_407 : decode cX7_cycle 407 = .ok (.aload_n 0, 1) := dk_42 (dk_at dksX7_cycle_17 11 rfl rfl)
theorem dX7_cycle_408 : decode cX7_cycle 408 = .ok (.getfield 63, 3) := dk_180 0 63 (dk_at dksX7_cycle_17 12 rfl rfl)
theorem dX7_cycle_411 : decode cX7_cycle 411 = .ok (.iconst 0, 1) := dk_3 (dk_at dksX7_cycle_17 15 rfl rfl)
theorem dX7_cycle_412 : decode cX7_cycle 412 = .ok (.iaload, 1) := dk_46 (dk_at dksX7_cycle_17 16 rfl rfl)
theorem dX7_cycle_413 : decode cX7_cycle 413 = .ok (.imul, 1) := dk_104 (dk_at dksX7_cycle_17 17 rfl rfl)
theorem dX7_cycle_414 : decode cX7_cycle 414 = .ok (.iload_n 3, 1) := dk_29 (dk_at dksX7_cycle_17 18 rfl rfl)
theorem dX7_cycle_415 : decode cX7_cycle 415 = .ok (.iadd, 1) := dk_96 (dk_at dksX7_cycle_17 19 rfl rfl)
theorem dX7_cycle_416 : decode cX7_cycle 416 = .ok (.aload_n 0, 1) := dk_42 (dk_at dksX7_cycle_17 20 rfl rfl)
theorem dX7_cycle_417 : decode cX7_cycle 417 = .ok (.sipush 159, 3) := dk_17 0 159 (dk_at dksX7_cycle_17 21 rfl rfl)
theorem dX7_cycle_420 : decode cX7_cycle 420 = .ok (.iload_n 3, 1) := dk_29 (dk_at dksX7_cycle_18 0 rfl rfl)
theorem dX7_cycle_421 : decode cX7_cycle 421 = .ok (.iadd, 1) := dk_96 (dk_at dksX7_cycle_18 1 rfl rfl)
theorem dX7_cycle_422 : decode cX7_cycle 422 = .ok (.invokevirtual 379, 3) := dk_182 1 123 (dk_at dksX7_cycle_18 2 rfl rfl)
theorem dX7_cycle_425 : decode cX7_cycle 425 = .ok (.ifCond .ge 8, 3) := dk_156 0 8 (dk_at dksX7_cycle_18 5 rfl rfl)
theorem dX7_cycle_428 : decode cX7_cycle 428 = .ok (.bipush 15, 2) := dk_16 15 (dk_at dksX7_cycle_18 8 rfl rfl)
theorem dX7_cycle_430 : decode cX7_cycle 430 = .ok (.goto 12, 3) := dk_167 0 12 (dk_at dksX7_cycle_18 10 rfl rfl)
theorem dX7_cycle_433 : decode cX7_cycle 433 = .ok (.aload_n 0, 1) := dk_42 (dk_at dksX7_cycle_18 13 rfl rfl)
theorem dX7_cycle_434 : decode cX7_cycle 434 = .ok (.sipush 159, 3) := dk_17 0 159 (dk_at dksX7_cycle_18 14 rfl rfl)
theorem dX7_cycle_437 : decode cX7_cycle 437 = .ok (.iload_n 3, 1) := dk_29 (dk_at dksX7_cycle_18 17 rfl rfl)
theorem dX7_cycle_438 : decode cX7_cycle 438 = .ok (.iadd, 1) := dk_96 (dk_at dksX7_cycle_18 18 rfl rfl)
theorem dX7_cycle_439 : decode cX7_cycle 439 = .ok (.invokevirtual 379, 3) := dk_182 1 123 (dk_at dksX7_cycle_18 19 rfl rfl)
theorem dX7_cycle_442 : decode cX7_cycle 442 = .ok (.iastore, 1) := dk_79 (dk_at dksX7_cycle_18 22 rfl rfl)
theorem dX7_cycle_443 : decode cX7_cycle 443 = .ok (.iinc 3 1, 3) := dk_132 3 1 (dk_at dksX7_cycle_19 0 rfl rfl)
theorem dX7_cycle_446 : decode cX7_cycle 446 = .ok (.goto (-51), 3) := dk_167 255 205 (dk_at dksX7_cycle_19 3 rfl rfl)
theorem dX7_cycle_449 : decode cX7_cycle 449 = .ok (.aload_n 0, 1) := dk_42 (dk_at dksX7_cycle_19 6 rfl rfl)
theorem dX7_cycle_450 : decode cX7_cycle 450 = .ok (.getfield 63, 3) := dk_180 0 63 (dk_at dksX7_cycle_19 7 rfl rfl)
theorem dX7_cycle_453 : decode cX7_cycle 453 = .ok (.iconst 0, 1) := dk_3 (dk_at dksX7_cycle_19 10 rfl rfl)
theorem dX7_cycle_454 : decode cX7_cycle 454 = .ok (.dup2, 1) := dk_92 (dk_at dksX7_cycle_19 11 rfl rfl)
theorem dX7_cycle_455 : decode cX7_cycle 455 = .ok (.iaload, 1) := dk_46 (dk_at dksX7_cycle_19 12 rfl rfl)
theorem dX7_cycle_456 : decode cX7_cycle 456 = .ok (.iconst 1, 1) := dk_4 (dk_at dksX7_cycle_19 13 rfl rfl)
theorem dX7_cycle_457 : decode cX7_cycle 457 = .ok (.iadd, 1) := dk_96 (dk_at dksX7_cycle_19 14 rfl rfl)
theorem dX7_cycle_458 : decode cX7_cycle 458 = .ok (.iastore, 1) := dk_79 (dk_at dksX7_cycle_19 15 rfl rfl)
theorem dX7_cycle_459 : decode cX7_cycle 459 = .ok (.iconst 0, 1) := dk_3 (dk_at dksX7_cycle_19 16 rfl rfl)
theorem dX7_cycle_460 : decode cX7_cycle 460 = .ok (.ireturn, 1) := dk_172 (dk_at dksX7_cycle_19 17 rfl rfl)
abbrev cX7_gather : ByteArray := prog_14_method_33_code
def yX7_gather : MethodName := ⟨RX7, "gather", "([IZ)V"⟩
def dkwX7_gather_4 : List UInt8 := [167, 255, 186, 177]
abbrev dktX7_gather_4 : List UInt8 := dkwX7_gather_4 ++ []
def dkwX7_gather_3 : List UInt8 := [42, 180, 0, 48, 21, 4, 29, 79, 42, 180, 0, 51, 21, 4, 92, 46, 4, 96, 79, 132, 3, 1]
abbrev dktX7_gather_3 : List UInt8 := dkwX7_gather_3 ++ dktX7_gather_4
def dkwX7_gather_2 : List UInt8 := [184, 0, 207, 153, 0, 6, 167, 0, 37, 43, 29, 46, 54, 4, 42, 180, 0, 51, 21, 4, 46, 154, 0, 11]
abbrev dktX7_gather_2 : List UInt8 := dkwX7_gather_2 ++ dktX7_gather_3
def dkwX7_gather_1 : List UInt8 := [29, 16, 96, 162, 0, 70, 42, 180, 0, 39, 29, 46, 155, 0, 55, 28, 154, 0, 17, 29, 16, 61, 16, 64]
abbrev dktX7_gather_1 : List UInt8 := dkwX7_gather_1 ++ dktX7_gather_2
def dkwX7_gather_0 : List UInt8 := [3, 62, 29, 17, 0, 217, 162, 0, 16, 42, 180, 0, 51, 29, 3, 79, 132, 3, 1, 167, 255, 239, 3, 62]
abbrev dktX7_gather_0 : List UInt8 := dkwX7_gather_0 ++ dktX7_gather_1
theorem dksX7_gather_0 : cX7_gather.data.toList.drop 0 = dktX7_gather_0 := by decide +kernel
theorem dksX7_gather_1 : cX7_gather.data.toList.drop 24 = dktX7_gather_1 := dk_seg dksX7_gather_0 24 rfl rfl
theorem dksX7_gather_2 : cX7_gather.data.toList.drop 48 = dktX7_gather_2 := dk_seg dksX7_gather_1 24 rfl rfl
theorem dksX7_gather_3 : cX7_gather.data.toList.drop 72 = dktX7_gather_3 := dk_seg dksX7_gather_2 24 rfl rfl
theorem dksX7_gather_4 : cX7_gather.data.toList.drop 94 = dktX7_gather_4 := dk_seg dksX7_gather_3 22 rfl rfl
theorem dX7_gather_0 : decode cX7_gather 0 = .ok (.iconst 0, 1) := dk_3 (dk_at dksX7_gather_0 0 rfl rfl)
theorem dX7_gather_1 : decode cX7_gather 1 = .ok (.istore_n 3, 1) := dk_62 (dk_at dksX7_gather_0 1 rfl rfl)
theorem dX7_gather_2 : decode cX7_gather 2 = .ok (.iload_n 3, 1) := dk_29 (dk_at dksX7_gather_0 2 rfl rfl)
theorem dX7_gather_3 : decode cX7_gather 3 = .ok (.sipush 217, 3) := dk_17 0 217 (dk_at dksX7_gather_0 3 rfl rfl)
theorem dX7_gather_6 : decode cX7_gather 6 = .ok (.if_icmp .ge 16, 3) := dk_162 0 16 (dk_at dksX7_gather_0 6 rfl rfl)
theorem dX7_gather_9 : decode cX7_gather 9 = .ok (.aload_n 0, 1) := dk_42 (dk_at dksX7_gather_0 9 rfl rfl)
theorem dX7_gather_10 : decode cX7_gather 10 = .ok (.getfield 51, 3) := dk_180 0 51 (dk_at dksX7_gather_0 10 rfl rfl)
theorem dX7_gather_13 : decode cX7_gather 13 = .ok (.iload_n 3, 1) := dk_29 (dk_at dksX7_gather_0 13 rfl rfl)
theorem dX7_gather_14 : decode cX7_gather 14 = .ok (.iconst 0, 1) := dk_3 (dk_at dksX7_gather_0 14 rfl rfl)
theorem dX7_gather_15 : decode cX7_gather 15 = .ok (.iastore, 1) := dk_79 (dk_at dksX7_gather_0 15 rfl rfl)
theorem dX7_gather_16 : decode cX7_gather 16 = .ok (.iinc 3 1, 3) := dk_132 3 1 (dk_at dksX7_gather_0 16 rfl rfl)
theorem dX7_gather_19 : decode cX7_gather 19 = .ok (.goto (-17), 3) := dk_167 255 239 (dk_at dksX7_gather_0 19 rfl rfl)
theorem dX7_gather_22 : decode cX7_gather 22 = .ok (.iconst 0, 1) := dk_3 (dk_at dksX7_gather_0 22 rfl rfl)
theorem dX7_gather_23 : decode cX7_gather 23 = .ok (.istore_n 3, 1) := dk_62 (dk_at dksX7_gather_0 23 rfl rfl)
theorem dX7_gather_24 : decode cX7_gather 24 = .ok (.iload_n 3, 1) := dk_29 (dk_at dksX7_gather_1 0 rfl rfl)
theorem dX7_gather_25 : decode cX7_gather 25 = .ok (.bipush 96, 2) := dk_16 96 (dk_at dksX7_gather_1 1 rfl rfl)
theorem dX7_gather_27 : decode cX7_gather 27 = .ok (.if_icmp .ge 70, 3) := dk_162 0 70 (dk_at dksX7_gather_1 3 rfl rfl)
theorem dX7_gather_30 : decode cX7_gather 30 = .ok (.aload_n 0, 1) := dk_42 (dk_at dksX7_gather_1 6 rfl rfl)
theorem dX7_gather_31 : decode cX7_gather 31 = .ok (.getfield 39, 3) := dk_180 0 39 (dk_at dksX7_gather_1 7 rfl rfl)
theorem dX7_gather_34 : decode cX7_gather 34 = .ok (.iload_n 3, 1) := dk_29 (dk_at dksX7_gather_1 10 rfl rfl)
theorem dX7_gather_35 : decode cX7_gather 35 = .ok (.iaload, 1) := dk_46 (dk_at dksX7_gather_1 11 rfl rfl)
theorem dX7_gather_36 : decode cX7_gather 36 = .ok (.ifCond .lt 55, 3) := dk_155 0 55 (dk_at dksX7_gather_1 12 rfl rfl)
theorem dX7_gather_39 : decode cX7_gather 39 = .ok (.iload_n 2, 1) := dk_28 (dk_at dksX7_gather_1 15 rfl rfl)
theorem dX7_gather_40 : decode cX7_gather 40 = .ok (.ifCond .ne 17, 3) := dk_154 0 17 (dk_at dksX7_gather_1 16 rfl rfl)
theorem dX7_gather_43 : decode cX7_gather 43 = .ok (.iload_n 3, 1) := dk_29 (dk_at dksX7_gather_1 19 rfl rfl)
theorem dX7_gather_44 : decode cX7_gather 44 = .ok (.bipush 61, 2) := dk_16 61 (dk_at dksX7_gather_1 20 rfl rfl)
theorem dX7_gather_46 : decode cX7_gather 46 = .ok (.bipush 64, 2) := dk_16 64 (dk_at dksX7_gather_1 22 rfl rfl)
theorem dX7_gather_48 : decode cX7_gather 48 = .ok (.invokestatic 207, 3) := dk_184 0 207 (dk_at dksX7_gather_2 0 rfl rfl)
theorem dX7_gather_51 : decode cX7_gather 51 = .ok (.ifCond .eq 6, 3) := dk_153 0 6 (dk_at dksX7_gather_2 3 rfl rfl)
theorem dX7_gather_54 : decode cX7_gather 54 = .ok (.goto 37, 3) := dk_167 0 37 (dk_at dksX7_gather_2 6 rfl rfl)
theorem dX7_gather_57 : decode cX7_gather 57 = .ok (.aload_n 1, 1) := dk_43 (dk_at dksX7_gather_2 9 rfl rfl)
theorem dX7_gather_58 : decode cX7_gather 58 = .ok (.iload_n 3, 1) := dk_29 (dk_at dksX7_gather_2 10 rfl rfl)
theorem dX7_gather_59 : decode cX7_gather 59 = .ok (.iaload, 1) := dk_46 (dk_at dksX7_gather_2 11 rfl rfl)
theorem dX7_gather_60 : decode cX7_gather 60 = .ok (.istore 4, 2) := dk_54 4 (dk_at dksX7_gather_2 12 rfl rfl)
theorem dX7_gather_62 : decode cX7_gather 62 = .ok (.aload_n 0, 1) := dk_42 (dk_at dksX7_gather_2 14 rfl rfl)
theorem dX7_gather_63 : decode cX7_gather 63 = .ok (.getfield 51, 3) := dk_180 0 51 (dk_at dksX7_gather_2 15 rfl rfl)
theorem dX7_gather_66 : decode cX7_gather 66 = .ok (.iload 4, 2) := dk_21 4 (dk_at dksX7_gather_2 18 rfl rfl)
theorem dX7_gather_68 : decode cX7_gather 68 = .ok (.iaload, 1) := dk_46 (dk_at dksX7_gather_2 20 rfl rfl)
theorem dX7_gather_69 : decode cX7_gather 69 = .ok (.ifCond .ne 11, 3) := dk_154 0 11 (dk_at dksX7_gather_2 21 rfl rfl)
theorem dX7_gather_72 : decode cX7_gather 72 = .ok (.aload_n 0, 1) := dk_42 (dk_at dksX7_gather_3 0 rfl rfl)
theorem dX7_gather_73 : decode cX7_gather 73 = .ok (.getfield 48, 3) := dk_180 0 48 (dk_at dksX7_gather_3 1 rfl rfl)
theorem dX7_gather_76 : decode cX7_gather 76 = .ok (.iload 4, 2) := dk_21 4 (dk_at dksX7_gather_3 4 rfl rfl)
theorem dX7_gather_78 : decode cX7_gather 78 = .ok (.iload_n 3, 1) := dk_29 (dk_at dksX7_gather_3 6 rfl rfl)
theorem dX7_gather_79 : decode cX7_gather 79 = .ok (.iastore, 1) := dk_79 (dk_at dksX7_gather_3 7 rfl rfl)
theorem dX7_gather_80 : decode cX7_gather 80 = .ok (.aload_n 0, 1) := dk_42 (dk_at dksX7_gather_3 8 rfl rfl)
theorem dX7_gather_81 : decode cX7_gather 81 = .ok (.getfield 51, 3) := dk_180 0 51 (dk_at dksX7_gather_3 9 rfl rfl)
theorem dX7_gather_84 : decode cX7_gather 84 = .ok (.iload 4, 2) := dk_21 4 (dk_at dksX7_gather_3 12 rfl rfl)
theorem dX7_gather_86 : decode cX7_gather 86 = .ok (.dup2, 1) := dk_92 (dk_at dksX7_gather_3 14 rfl rfl)
theorem dX7_gather_87 : decode cX7_gather 87 = .ok (.iaload, 1) := dk_46 (dk_at dksX7_gather_3 15 rfl rfl)
theorem dX7_gather_88 : decode cX7_gather 88 = .ok (.iconst 1, 1) := dk_4 (dk_at dksX7_gather_3 16 rfl rfl)
theorem dX7_gather_89 : decode cX7_gather 89 = .ok (.iadd, 1) := dk_96 (dk_at dksX7_gather_3 17 rfl rfl)
theorem dX7_gather_90 : decode cX7_gather 90 = .ok (.iastore, 1) := dk_79 (dk_at dksX7_gather_3 18 rfl rfl)
theorem dX7_gather_91 : decode cX7_gather 91 = .ok (.iinc 3 1, 3) := dk_132 3 1 (dk_at dksX7_gather_3 19 rfl rfl)
theorem dX7_gather_94 : decode cX7_gather 94 = .ok (.goto (-70), 3) := dk_167 255 186 (dk_at dksX7_gather_4 0 rfl rfl)
theorem dX7_gather_97 : decode cX7_gather 97 = .ok (.return_, 1) := dk_177 (dk_at dksX7_gather_4 3 rfl rfl)
abbrev cX7_have : ByteArray := prog_14_method_35_code
def yX7_have : MethodName := ⟨RX7, "have", "(I)I"⟩
def dkwX7_have_0 : List UInt8 := [42, 42, 180, 0, 45, 27, 182, 1, 104, 172]
abbrev dktX7_have_0 : List UInt8 := dkwX7_have_0 ++ []
theorem dksX7_have_0 : cX7_have.data.toList.drop 0 = dktX7_have_0 := by decide +kernel
theorem dX7_have_0 : decode cX7_have 0 = .ok (.aload_n 0, 1) := dk_42 (dk_at dksX7_have_0 0 rfl rfl)
theorem dX7_have_1 : decode cX7_have 1 = .ok (.aload_n 0, 1) := dk_42 (dk_at dksX7_have_0 1 rfl rfl)
theorem dX7_have_2 : decode cX7_have 2 = .ok (.getfield 45, 3) := dk_180 0 45 (dk_at dksX7_have_0 2 rfl rfl)
theorem dX7_have_5 : decode cX7_have 5 = .ok (.iload_n 1, 1) := dk_27 (dk_at dksX7_have_0 5 rfl rfl)
theorem dX7_have_6 : decode cX7_have 6 = .ok (.invokevirtual 360, 3) := dk_182 1 104 (dk_at dksX7_have_0 6 rfl rfl)
theorem dX7_have_9 : decode cX7_have 9 = .ok (.ireturn, 1) := dk_172 (dk_at dksX7_have_0 9 rfl rfl)
abbrev cX7_take : ByteArray := prog_14_method_34_code
def yX7_take : MethodName := ⟨RX7, "take", "([II)I"⟩
def dkwX7_take_1 : List UInt8 := [28, 46, 46, 46, 172]
abbrev dktX7_take_1 : List UInt8 := dkwX7_take_1 ++ []
def dkwX7_take_0 : List UInt8 := [42, 180, 0, 51, 43, 28, 46, 46, 154, 0, 7, 2, 167, 0, 16, 42, 180, 0, 39, 42, 180, 0, 48, 43]
abbrev dktX7_take_0 : List UInt8 := dkwX7_take_0 ++ dktX7_take_1
theorem dksX7_take_0 : cX7_take.data.toList.drop 0 = dktX7_take_0 := by decide +kernel
theorem dksX7_take_1 : cX7_take.data.toList.drop 24 = dktX7_take_1 := dk_seg dksX7_take_0 24 rfl rfl
theorem dX7_take_0 : decode cX7_take 0 = .ok (.aload_n 0, 1) := dk_42 (dk_at dksX7_take_0 0 rfl rfl)
theorem dX7_take_1 : decode cX7_take 1 = .ok (.getfield 51, 3) := dk_180 0 51 (dk_at dksX7_take_0 1 rfl rfl)
theorem dX7_take_4 : decode cX7_take 4 = .ok (.aload_n 1, 1) := dk_43 (dk_at dksX7_take_0 4 rfl rfl)
theorem dX7_take_5 : decode cX7_take 5 = .ok (.iload_n 2, 1) := dk_28 (dk_at dksX7_take_0 5 rfl rfl)
theorem dX7_take_6 : decode cX7_take 6 = .ok (.iaload, 1) := dk_46 (dk_at dksX7_take_0 6 rfl rfl)
theorem dX7_take_7 : decode cX7_take 7 = .ok (.iaload, 1) := dk_46 (dk_at dksX7_take_0 7 rfl rfl)
theorem dX7_take_8 : decode cX7_take 8 = .ok (.ifCond .ne 7, 3) := dk_154 0 7 (dk_at dksX7_take_0 8 rfl rfl)
theorem dX7_take_11 : decode cX7_take 11 = .ok (.iconst (-1), 1) := dk_2 (dk_at dksX7_take_0 11 rfl rfl)
theorem dX7_take_12 : decode cX7_take 12 = .ok (.goto 16, 3) := dk_167 0 16 (dk_at dksX7_take_0 12 rfl rfl)
theorem dX7_take_15 : decode cX7_take 15 = .ok (.aload_n 0, 1) := dk_42 (dk_at dksX7_take_0 15 rfl rfl)
theorem dX7_take_16 : decode cX7_take 16 = .ok (.getfield 39, 3) := dk_180 0 39 (dk_at dksX7_take_0 16 rfl rfl)
theorem dX7_take_19 : decode cX7_take 19 = .ok (.aload_n 0, 1) := dk_42 (dk_at dksX7_take_0 19 rfl rfl)
theorem dX7_take_20 : decode cX7_take 20 = .ok (.getfield 48, 3) := dk_180 0 48 (dk_at dksX7_take_0 20 rfl rfl)
theorem dX7_take_23 : decode cX7_take 23 = .ok (.aload_n 1, 1) := dk_43 (dk_at dksX7_take_0 23 rfl rfl)
theorem dX7_take_24 : decode cX7_take 24 = .ok (.iload_n 2, 1) := dk_28 (dk_at dksX7_take_1 0 rfl rfl)
theorem dX7_take_25 : decode cX7_take 25 = .ok (.iaload, 1) := dk_46 (dk_at dksX7_take_1 1 rfl rfl)
theorem dX7_take_26 : decode cX7_take 26 = .ok (.iaload, 1) := dk_46 (dk_at dksX7_take_1 2 rfl rfl)
theorem dX7_take_27 : decode cX7_take 27 = .ok (.iaload, 1) := dk_46 (dk_at dksX7_take_1 3 rfl rfl)
theorem dX7_take_28 : decode cX7_take 28 = .ok (.ireturn, 1) := dk_172 (dk_at dksX7_take_1 4 rfl rfl)
abbrev cX7_jam : ByteArray := prog_14_method_40_code
def yX7_jam : MethodName := ⟨RX7, "jam", "(I)I"⟩
def dkwX7_jam_2 : List UInt8 := [5, 172]
abbrev dktX7_jam_2 : List UInt8 := dkwX7_jam_2 ++ []
def dkwX7_jam_1 : List UInt8 := [28, 46, 42, 180, 0, 45, 27, 46, 159, 0, 9, 132, 2, 1, 167, 255, 229, 42, 180, 0, 87, 3, 28, 79]
abbrev dktX7_jam_1 : List UInt8 := dkwX7_jam_1 ++ dktX7_jam_2
def dkwX7_jam_0 : List UInt8 := [42, 180, 0, 84, 3, 27, 79, 27, 4, 96, 61, 42, 180, 0, 39, 28, 46, 155, 0, 18, 42, 180, 0, 45]
abbrev dktX7_jam_0 : List UInt8 := dkwX7_jam_0 ++ dktX7_jam_1
theorem dksX7_jam_0 : cX7_jam.data.toList.drop 0 = dktX7_jam_0 := by decide +kernel
theorem dksX7_jam_1 : cX7_jam.data.toList.drop 24 = dktX7_jam_1 := dk_seg dksX7_jam_0 24 rfl rfl
theorem dksX7_jam_2 : cX7_jam.data.toList.drop 48 = dktX7_jam_2 := dk_seg dksX7_jam_1 24 rfl rfl
theorem dX7_jam_0 : decode cX7_jam 0 = .ok (.aload_n 0, 1) := dk_42 (dk_at dksX7_jam_0 0 rfl rfl)
theorem dX7_jam_1 : decode cX7_jam 1 = .ok (.getfield 84, 3) := dk_180 0 84 (dk_at dksX7_jam_0 1 rfl rfl)
theorem dX7_jam_4 : decode cX7_jam 4 = .ok (.iconst 0, 1) := dk_3 (dk_at dksX7_jam_0 4 rfl rfl)
theorem dX7_jam_5 : decode cX7_jam 5 = .ok (.iload_n 1, 1) := dk_27 (dk_at dksX7_jam_0 5 rfl rfl)
theorem dX7_jam_6 : decode cX7_jam 6 = .ok (.iastore, 1) := dk_79 (dk_at dksX7_jam_0 6 rfl rfl)
theorem dX7_jam_7 : decode cX7_jam 7 = .ok (.iload_n 1, 1) := dk_27 (dk_at dksX7_jam_0 7 rfl rfl)
theorem dX7_jam_8 : decode cX7_jam 8 = .ok (.iconst 1, 1) := dk_4 (dk_at dksX7_jam_0 8 rfl rfl)
theorem dX7_jam_9 : decode cX7_jam 9 = .ok (.iadd, 1) := dk_96 (dk_at dksX7_jam_0 9 rfl rfl)
theorem dX7_jam_10 : decode cX7_jam 10 = .ok (.istore_n 2, 1) := dk_61 (dk_at dksX7_jam_0 10 rfl rfl)
theorem dX7_jam_11 : decode cX7_jam 11 = .ok (.aload_n 0, 1) := dk_42 (dk_at dksX7_jam_0 11 rfl rfl)
theorem dX7_jam_12 : decode cX7_jam 12 = .ok (.getfield 39, 3) := dk_180 0 39 (dk_at dksX7_jam_0 12 rfl rfl)
theorem dX7_jam_15 : decode cX7_jam 15 = .ok (.iload_n 2, 1) := dk_28 (dk_at dksX7_jam_0 15 rfl rfl)
theorem dX7_jam_16 : decode cX7_jam 16 = .ok (.iaload, 1) := dk_46 (dk_at dksX7_jam_0 16 rfl rfl)
theorem dX7_jam_17 : decode cX7_jam 17 = .ok (.ifCond .lt 18, 3) := dk_155 0 18 (dk_at dksX7_jam_0 17 rfl rfl)
theorem dX7_jam_20 : decode cX7_jam 20 = .ok (.aload_n 0, 1) := dk_42 (dk_at dksX7_jam_0 20 rfl rfl)
theorem dX7_jam_21 : decode cX7_jam 21 = .ok (.getfield 45, 3) := dk_180 0 45 (dk_at dksX7_jam_0 21 rfl rfl)
theorem dX7_jam_24 : decode cX7_jam 24 = .ok (.iload_n 2, 1) := dk_28 (dk_at dksX7_jam_1 0 rfl rfl)
theorem dX7_jam_25 : decode cX7_jam 25 = .ok (.iaload, 1) := dk_46 (dk_at dksX7_jam_1 1 rfl rfl)
theorem dX7_jam_26 : decode cX7_jam 26 = .ok (.aload_n 0, 1) := dk_42 (dk_at dksX7_jam_1 2 rfl rfl)
theorem dX7_jam_27 : decode cX7_jam 27 = .ok (.getfield 45, 3) := dk_180 0 45 (dk_at dksX7_jam_1 3 rfl rfl)
theorem dX7_jam_30 : decode cX7_jam 30 = .ok (.iload_n 1, 1) := dk_27 (dk_at dksX7_jam_1 6 rfl rfl)
theorem dX7_jam_31 : decode cX7_jam 31 = .ok (.iaload, 1) := dk_46 (dk_at dksX7_jam_1 7 rfl rfl)
theorem dX7_jam_32 : decode cX7_jam 32 = .ok (.if_icmp .eq 9, 3) := dk_159 0 9 (dk_at dksX7_jam_1 8 rfl rfl)
theorem dX7_jam_35 : decode cX7_jam 35 = .ok (.iinc 2 1, 3) := dk_132 2 1 (dk_at dksX7_jam_1 11 rfl rfl)
theorem dX7_jam_38 : decode cX7_jam 38 = .ok (.goto (-27), 3) := dk_167 255 229 (dk_at dksX7_jam_1 14 rfl rfl)
theorem dX7_jam_41 : decode cX7_jam 41 = .ok (.aload_n 0, 1) := dk_42 (dk_at dksX7_jam_1 17 rfl rfl)
theorem dX7_jam_42 : decode cX7_jam 42 = .ok (.getfield 87, 3) := dk_180 0 87 (dk_at dksX7_jam_1 18 rfl rfl)
theorem dX7_jam_45 : decode cX7_jam 45 = .ok (.iconst 0, 1) := dk_3 (dk_at dksX7_jam_1 21 rfl rfl)
theorem dX7_jam_46 : decode cX7_jam 46 = .ok (.iload_n 2, 1) := dk_28 (dk_at dksX7_jam_1 22 rfl rfl)
theorem dX7_jam_47 : decode cX7_jam 47 = .ok (.iastore, 1) := dk_79 (dk_at dksX7_jam_1 23 rfl rfl)
theorem dX7_jam_48 : decode cX7_jam 48 = .ok (.iconst 2, 1) := dk_5 (dk_at dksX7_jam_2 0 rfl rfl)
theorem dX7_jam_49 : decode cX7_jam 49 = .ok (.ireturn, 1) := dk_172 (dk_at dksX7_jam_2 1 rfl rfl)
abbrev cX7_prints : ByteArray := prog_14_method_41_code
def yX7_prints : MethodName := ⟨RX7, "prints", "()Z"⟩
def dkwX7_prints_1 : List UInt8 := [132, 1, 1, 167, 255, 233, 3, 172]
abbrev dktX7_prints_1 : List UInt8 := dkwX7_prints_1 ++ []
def dkwX7_prints_0 : List UInt8 := [3, 60, 27, 16, 12, 162, 0, 23, 42, 17, 0, 132, 27, 96, 182, 1, 123, 155, 0, 5, 4, 172]
abbrev dktX7_prints_0 : List UInt8 := dkwX7_prints_0 ++ dktX7_prints_1
theorem dksX7_prints_0 : cX7_prints.data.toList.drop 0 = dktX7_prints_0 := by decide +kernel
theorem dksX7_prints_1 : cX7_prints.data.toList.drop 22 = dktX7_prints_1 := dk_seg dksX7_prints_0 22 rfl rfl
theorem dX7_prints_0 : decode cX7_prints 0 = .ok (.iconst 0, 1) := dk_3 (dk_at dksX7_prints_0 0 rfl rfl)
theorem dX7_prints_1 : decode cX7_prints 1 = .ok (.istore_n 1, 1) := dk_60 (dk_at dksX7_prints_0 1 rfl rfl)
theorem dX7_prints_2 : decode cX7_prints 2 = .ok (.iload_n 1, 1) := dk_27 (dk_at dksX7_prints_0 2 rfl rfl)
theorem dX7_prints_3 : decode cX7_prints 3 = .ok (.bipush 12, 2) := dk_16 12 (dk_at dksX7_prints_0 3 rfl rfl)
theorem dX7_prints_5 : decode cX7_prints 5 = .ok (.if_icmp .ge 23, 3) := dk_162 0 23 (dk_at dksX7_prints_0 5 rfl rfl)
theorem dX7_prints_8 : decode cX7_prints 8 = .ok (.aload_n 0, 1) := dk_42 (dk_at dksX7_prints_0 8 rfl rfl)
theorem dX7_prints_9 : decode cX7_prints 9 = .ok (.sipush 132, 3) := dk_17 0 132 (dk_at dksX7_prints_0 9 rfl rfl)
theorem dX7_prints_12 : decode cX7_prints 12 = .ok (.iload_n 1, 1) := dk_27 (dk_at dksX7_prints_0 12 rfl rfl)
theorem dX7_prints_13 : decode cX7_prints 13 = .ok (.iadd, 1) := dk_96 (dk_at dksX7_prints_0 13 rfl rfl)
theorem dX7_prints_14 : decode cX7_prints 14 = .ok (.invokevirtual 379, 3) := dk_182 1 123 (dk_at dksX7_prints_0 14 rfl rfl)
theorem dX7_prints_17 : decode cX7_prints 17 = .ok (.ifCond .lt 5, 3) := dk_155 0 5 (dk_at dksX7_prints_0 17 rfl rfl)
theorem dX7_prints_20 : decode cX7_prints 20 = .ok (.iconst 1, 1) := dk_4 (dk_at dksX7_prints_0 20 rfl rfl)
theorem dX7_prints_21 : decode cX7_prints 21 = .ok (.ireturn, 1) := dk_172 (dk_at dksX7_prints_0 21 rfl rfl)
theorem dX7_prints_22 : decode cX7_prints 22 = .ok (.iinc 1 1, 3) := dk_132 1 1 (dk_at dksX7_prints_1 0 rfl rfl)
theorem dX7_prints_25 : decode cX7_prints 25 = .ok (.goto (-23), 3) := dk_167 255 233 (dk_at dksX7_prints_1 3 rfl rfl)
theorem dX7_prints_28 : decode cX7_prints 28 = .ok (.iconst 0, 1) := dk_3 (dk_at dksX7_prints_1 6 rfl rfl)
theorem dX7_prints_29 : decode cX7_prints 29 = .ok (.ireturn, 1) := dk_172 (dk_at dksX7_prints_1 7 rfl rfl)
abbrev cX7_turn : ByteArray := prog_14_method_42_code
def yX7_turn : MethodName := ⟨RX7, "turn", "(I)V"⟩
def dkwX7_turn_6 : List UInt8 := [46, 4, 96, 79, 42, 180, 0, 69, 27, 42, 180, 0, 69, 27, 46, 19, 1, 142, 112, 79, 177]
abbrev dktX7_turn_6 : List UInt8 := dkwX7_turn_6 ++ []
def dkwX7_turn_5 : List UInt8 := [180, 0, 69, 27, 46, 19, 1, 140, 19, 1, 141, 184, 0, 207, 153, 0, 4, 177, 42, 180, 0, 81, 3, 92]
abbrev dktX7_turn_5 : List UInt8 := dkwX7_turn_5 ++ dktX7_turn_6
def dkwX7_turn_4 : List UInt8 := [167, 255, 207, 42, 180, 0, 69, 27, 92, 46, 28, 153, 0, 7, 29, 167, 0, 5, 29, 116, 96, 79, 42]
abbrev dktX7_turn_4 : List UInt8 := dkwX7_turn_4 ++ dktX7_turn_5
def dkwX7_turn_3 : List UInt8 := [3, 167, 0, 17, 42, 16, 96, 16, 6, 27, 104, 96, 21, 4, 96, 182, 1, 123, 96, 62, 132, 4, 255]
abbrev dktX7_turn_3 : List UInt8 := dkwX7_turn_3 ++ dktX7_turn_4
def dkwX7_turn_2 : List UInt8 := [155, 0, 50, 16, 10, 29, 104, 42, 16, 96, 16, 6, 27, 104, 96, 21, 4, 96, 182, 1, 123, 156, 0, 7]
abbrev dktX7_turn_2 : List UInt8 := dkwX7_turn_2 ++ dktX7_turn_3
def dkwX7_turn_1 : List UInt8 := [182, 1, 123, 155, 0, 7, 4, 167, 0, 4, 3, 160, 0, 4, 177, 3, 62, 8, 54, 4, 21, 4]
abbrev dktX7_turn_1 : List UInt8 := dkwX7_turn_1 ++ dktX7_turn_2
def dkwX7_turn_0 : List UInt8 := [42, 16, 120, 27, 96, 182, 1, 123, 155, 0, 7, 4, 167, 0, 4, 3, 61, 28, 42, 16, 124, 27, 96]
abbrev dktX7_turn_0 : List UInt8 := dkwX7_turn_0 ++ dktX7_turn_1
theorem dksX7_turn_0 : cX7_turn.data.toList.drop 0 = dktX7_turn_0 := by decide +kernel
theorem dksX7_turn_1 : cX7_turn.data.toList.drop 23 = dktX7_turn_1 := dk_seg dksX7_turn_0 23 rfl rfl
theorem dksX7_turn_2 : cX7_turn.data.toList.drop 45 = dktX7_turn_2 := dk_seg dksX7_turn_1 22 rfl rfl
theorem dksX7_turn_3 : cX7_turn.data.toList.drop 69 = dktX7_turn_3 := dk_seg dksX7_turn_2 24 rfl rfl
theorem dksX7_turn_4 : cX7_turn.data.toList.drop 92 = dktX7_turn_4 := dk_seg dksX7_turn_3 23 rfl rfl
theorem dksX7_turn_5 : cX7_turn.data.toList.drop 115 = dktX7_turn_5 := dk_seg dksX7_turn_4 23 rfl rfl
theorem dksX7_turn_6 : cX7_turn.data.toList.drop 139 = dktX7_turn_6 := dk_seg dksX7_turn_5 24 rfl rfl
theorem dX7_turn_0 : decode cX7_turn 0 = .ok (.aload_n 0, 1) := dk_42 (dk_at dksX7_turn_0 0 rfl rfl)
theorem dX7_turn_1 : decode cX7_turn 1 = .ok (.bipush 120, 2) := dk_16 120 (dk_at dksX7_turn_0 1 rfl rfl)
theorem dX7_turn_3 : decode cX7_turn 3 = .ok (.iload_n 1, 1) := dk_27 (dk_at dksX7_turn_0 3 rfl rfl)
theorem dX7_turn_4 : decode cX7_turn 4 = .ok (.iadd, 1) := dk_96 (dk_at dksX7_turn_0 4 rfl rfl)
theorem dX7_turn_5 : decode cX7_turn 5 = .ok (.invokevirtual 379, 3) := dk_182 1 123 (dk_at dksX7_turn_0 5 rfl rfl)
theorem dX7_turn_8 : decode cX7_turn 8 = .ok (.ifCond .lt 7, 3) := dk_155 0 7 (dk_at dksX7_turn_0 8 rfl rfl)
theorem dX7_turn_11 : decode cX7_turn 11 = .ok (.iconst 1, 1) := dk_4 (dk_at dksX7_turn_0 11 rfl rfl)
theorem dX7_turn_12 : decode cX7_turn 12 = .ok (.goto 4, 3) := dk_167 0 4 (dk_at dksX7_turn_0 12 rfl rfl)
theorem dX7_turn_15 : decode cX7_turn 15 = .ok (.iconst 0, 1) := dk_3 (dk_at dksX7_turn_0 15 rfl rfl)
theorem dX7_turn_16 : decode cX7_turn 16 = .ok (.istore_n 2, 1) := dk_61 (dk_at dksX7_turn_0 16 rfl rfl)
theorem dX7_turn_17 : decode cX7_turn 17 = .ok (.iload_n 2, 1) := dk_28 (dk_at dksX7_turn_0 17 rfl rfl)
theorem dX7_turn_18 : decode cX7_turn 18 = .ok (.aload_n 0, 1) := dk_42 (dk_at dksX7_turn_0 18 rfl rfl)
theorem dX7_turn_19 : decode cX7_turn 19 = .ok (.bipush 124, 2) := dk_16 124 (dk_at dksX7_turn_0 19 rfl rfl)
theorem dX7_turn_21 : decode cX7_turn 21 = .ok (.iload_n 1, 1) := dk_27 (dk_at dksX7_turn_0 21 rfl rfl)
theorem dX7_turn_22 : decode cX7_turn 22 = .ok (.iadd, 1) := dk_96 (dk_at dksX7_turn_0 22 rfl rfl)
theorem dX7_turn_23 : decode cX7_turn 23 = .ok (.invokevirtual 379, 3) := dk_182 1 123 (dk_at dksX7_turn_1 0 rfl rfl)
theorem dX7_turn_26 : decode cX7_turn 26 = .ok (.ifCond .lt 7, 3) := dk_155 0 7 (dk_at dksX7_turn_1 3 rfl rfl)
theorem dX7_turn_29 : decode cX7_turn 29 = .ok (.iconst 1, 1) := dk_4 (dk_at dksX7_turn_1 6 rfl rfl)
theorem dX7_turn_30 : decode cX7_turn 30 = .ok (.goto 4, 3) := dk_167 0 4 (dk_at dksX7_turn_1 7 rfl rfl)
theorem dX7_turn_33 : decode cX7_turn 33 = .ok (.iconst 0, 1) := dk_3 (dk_at dksX7_turn_1 10 rfl rfl)
theorem dX7_turn_34 : decode cX7_turn 34 = .ok (.if_icmp .ne 4, 3) := dk_160 0 4 (dk_at dksX7_turn_1 11 rfl rfl)
theorem dX7_turn_37 : decode cX7_turn 37 = .ok (.return_, 1) := dk_177 (dk_at dksX7_turn_1 14 rfl rfl)
theorem dX7_turn_38 : decode cX7_turn 38 = .ok (.iconst 0, 1) := dk_3 (dk_at dksX7_turn_1 15 rfl rfl)
theorem dX7_turn_39 : decode cX7_turn 39 = .ok (.istore_n 3, 1) := dk_62 (dk_at dksX7_turn_1 16 rfl rfl)
theorem dX7_turn_40 : decode cX7_turn 40 = .ok (.iconst 5, 1) := dk_8 (dk_at dksX7_turn_1 17 rfl rfl)
theorem dX7_turn_41 : decode cX7_turn 41 = .ok (.istore 4, 2) := dk_54 4 (dk_at dksX7_turn_1 18 rfl rfl)
theorem dX7_turn_43 : decode cX7_turn 43 = .ok (.iload 4, 2) := dk_21 4 (dk_at dksX7_turn_1 20 rfl rfl)
theorem dX7_turn_45 : decode cX7_turn 45 = .ok (.ifCond .lt 50, 3) := dk_155 0 50 (dk_at dksX7_turn_2 0 rfl rfl)
theorem dX7_turn_48 : decode cX7_turn 48 = .ok (.bipush 10, 2) := dk_16 10 (dk_at dksX7_turn_2 3 rfl rfl)
theorem dX7_turn_50 : decode cX7_turn 50 = .ok (.iload_n 3, 1) := dk_29 (dk_at dksX7_turn_2 5 rfl rfl)
theorem dX7_turn_51 : decode cX7_turn 51 = .ok (.imul, 1) := dk_104 (dk_at dksX7_turn_2 6 rfl rfl)
theorem dX7_turn_52 : decode cX7_turn 52 = .ok (.aload_n 0, 1) := dk_42 (dk_at dksX7_turn_2 7 rfl rfl)
theorem dX7_turn_53 : decode cX7_turn 53 = .ok (.bipush 96, 2) := dk_16 96 (dk_at dksX7_turn_2 8 rfl rfl)
theorem dX7_turn_55 : decode cX7_turn 55 = .ok (.bipush 6, 2) := dk_16 6 (dk_at dksX7_turn_2 10 rfl rfl)
theorem dX7_turn_57 : decode cX7_turn 57 = .ok (.iload_n 1, 1) := dk_27 (dk_at dksX7_turn_2 12 rfl rfl)
theorem dX7_turn_58 : decode cX7_turn 58 = .ok (.imul, 1) := dk_104 (dk_at dksX7_turn_2 13 rfl rfl)
theorem dX7_turn_59 : decode cX7_turn 59 = .ok (.iadd, 1) := dk_96 (dk_at dksX7_turn_2 14 rfl rfl)
theorem dX7_turn_60 : decode cX7_turn 60 = .ok (.iload 4, 2) := dk_21 4 (dk_at dksX7_turn_2 15 rfl rfl)
theorem dX7_turn_62 : decode cX7_turn 62 = .ok (.iadd, 1) := dk_96 (dk_at dksX7_turn_2 17 rfl rfl)
theorem dX7_turn_63 : decode cX7_turn 63 = .ok (.invokevirtual 379, 3) := dk_182 1 123 (dk_at dksX7_turn_2 18 rfl rfl)
theorem dX7_turn_66 : decode cX7_turn 66 = .ok (.ifCond .ge 7, 3) := dk_156 0 7 (dk_at dksX7_turn_2 21 rfl rfl)
theorem dX7_turn_69 : decode cX7_turn 69 = .ok (.iconst 0, 1) := dk_3 (dk_at dksX7_turn_3 0 rfl rfl)
theorem dX7_turn_70 : decode cX7_turn 70 = .ok (.goto 17, 3) := dk_167 0 17 (dk_at dksX7_turn_3 1 rfl rfl)
theorem dX7_turn_73 : decode cX7_turn 73 = .ok (.aload_n 0, 1) := dk_42 (dk_at dksX7_turn_3 4 rfl rfl)
theorem dX7_turn_74 : decode cX7_turn 74 = .ok (.bipush 96, 2) := dk_16 96 (dk_at dksX7_turn_3 5 rfl rfl)
theorem dX7_turn_76 : decode cX7_turn 76 = .ok (.bipush 6, 2) := dk_16 6 (dk_at dksX7_turn_3 7 rfl rfl)
theorem dX7_turn_78 : decode cX7_turn 78 = .ok (.iload_n 1, 1) := dk_27 (dk_at dksX7_turn_3 9 rfl rfl)
theorem dX7_turn_79 : decode cX7_turn 79 = .ok (.imul, 1) := dk_104 (dk_at dksX7_turn_3 10 rfl rfl)
theorem dX7_turn_80 : decode cX7_turn 80 = .ok (.iadd, 1) := dk_96 (dk_at dksX7_turn_3 11 rfl rfl)
theorem dX7_turn_81 : decode cX7_turn 81 = .ok (.iload 4, 2) := dk_21 4 (dk_at dksX7_turn_3 12 rfl rfl)
theorem dX7_turn_83 : decode cX7_turn 83 = .ok (.iadd, 1) := dk_96 (dk_at dksX7_turn_3 14 rfl rfl)
theorem dX7_turn_84 : decode cX7_turn 84 = .ok (.invokevirtual 379, 3) := dk_182 1 123 (dk_at dksX7_turn_3 15 rfl rfl)
theorem dX7_turn_87 : decode cX7_turn 87 = .ok (.iadd, 1) := dk_96 (dk_at dksX7_turn_3 18 rfl rfl)
theorem dX7_turn_88 : decode cX7_turn 88 = .ok (.istore_n 3, 1) := dk_62 (dk_at dksX7_turn_3 19 rfl rfl)
theorem dX7_turn_89 : decode cX7_turn 89 = .ok (.iinc 4 (-1), 3) := dk_132 4 255 (dk_at dksX7_turn_3 20 rfl rfl)
theorem dX7_turn_92 : decode cX7_turn 92 = .ok (.goto (-49), 3) := dk_167 255 207 (dk_at dksX7_turn_4 0 rfl rfl)
theorem dX7_turn_95 : decode cX7_turn 95 = .ok (.aload_n 0, 1) := dk_42 (dk_at dksX7_turn_4 3 rfl rfl)
theorem dX7_turn_96 : decode cX7_turn 96 = .ok (.getfield 69, 3) := dk_180 0 69 (dk_at dksX7_turn_4 4 rfl rfl)
theorem dX7_turn_99 : decode cX7_turn 99 = .ok (.iload_n 1, 1) := dk_27 (dk_at dksX7_turn_4 7 rfl rfl)
theorem dX7_turn_100 : decode cX7_turn 100 = .ok (.dup2, 1) := dk_92 (dk_at dksX7_turn_4 8 rfl rfl)
theorem dX7_turn_101 : decode cX7_turn 101 = .ok (.iaload, 1) := dk_46 (dk_at dksX7_turn_4 9 rfl rfl)
theorem dX7_turn_102 : decode cX7_turn 102 = .ok (.iload_n 2, 1) := dk_28 (dk_at dksX7_turn_4 10 rfl rfl)
theorem dX7_turn_103 : decode cX7_turn 103 = .ok (.ifCond .eq 7, 3) := dk_153 0 7 (dk_at dksX7_turn_4 11 rfl rfl)
theorem dX7_turn_106 : decode cX7_turn 106 = .ok (.iload_n 3, 1) := dk_29 (dk_at dksX7_turn_4 14 rfl rfl)
theorem dX7_turn_107 : decode cX7_turn 107 = .ok (.goto 5, 3) := dk_167 0 5 (dk_at dksX7_turn_4 15 rfl rfl)
theorem dX7_turn_110 : decode cX7_turn 110 = .ok (.iload_n 3, 1) := dk_29 (dk_at dksX7_turn_4 18 rfl rfl)
theorem dX7_turn_111 : decode cX7_turn 111 = .ok (.ineg, 1) := dk_116 (dk_at dksX7_turn_4 19 rfl rfl)
theorem dX7_turn_112 : decode cX7_turn 112 = .ok (.iadd, 1) := dk_96 (dk_at dksX7_turn_4 20 rfl rfl)
theorem dX7_turn_113 : decode cX7_turn 113 = .ok (.iastore, 1) := dk_79 (dk_at dksX7_turn_4 21 rfl rfl)
theorem dX7_turn_114 : decode cX7_turn 114 = .ok (.aload_n 0, 1) := dk_42 (dk_at dksX7_turn_4 22 rfl rfl)
theorem dX7_turn_115 : decode cX7_turn 115 = .ok (.getfield 69, 3) := dk_180 0 69 (dk_at dksX7_turn_5 0 rfl rfl)
theorem dX7_turn_118 : decode cX7_turn 118 = .ok (.iload_n 1, 1) := dk_27 (dk_at dksX7_turn_5 3 rfl rfl)
theorem dX7_turn_119 : decode cX7_turn 119 = .ok (.iaload, 1) := dk_46 (dk_at dksX7_turn_5 4 rfl rfl)
theorem dX7_turn_120 : decode cX7_turn 120 = .ok (.ldc_w 396, 3) := dk_19 1 140 (dk_at dksX7_turn_5 5 rfl rfl)
theorem dX7_turn_123 : decode cX7_turn 123 = .ok (.ldc_w 397, 3) := dk_19 1 141 (dk_at dksX7_turn_5 8 rfl rfl)
theorem dX7_turn_126 : decode cX7_turn 126 = .ok (.invokestatic 207, 3) := dk_184 0 207 (dk_at dksX7_turn_5 11 rfl rfl)
theorem dX7_turn_129 : decode cX7_turn 129 = .ok (.ifCond .eq 4, 3) := dk_153 0 4 (dk_at dksX7_turn_5 14 rfl rfl)
theorem dX7_turn_132 : decode cX7_turn 132 = .ok (.return_, 1) := dk_177 (dk_at dksX7_turn_5 17 rfl rfl)
theorem dX7_turn_133 : decode cX7_turn 133 = .ok (.aload_n 0, 1) := dk_42 (dk_at dksX7_turn_5 18 rfl rfl)
theorem dX7_turn_134 : decode cX7_turn 134 = .ok (.getfield 81, 3) := dk_180 0 81 (dk_at dksX7_turn_5 19 rfl rfl)
theorem dX7_turn_137 : decode cX7_turn 137 = .ok (.iconst 0, 1) := dk_3 (dk_at dksX7_turn_5 22 rfl rfl)
theorem dX7_turn_138 : decode cX7_turn 138 = .ok (.dup2, 1) := dk_92 (dk_at dksX7_turn_5 23 rfl rfl)
theorem dX7_turn_139 : decode cX7_turn 139 = .ok (.iaload, 1) := dk_46 (dk_at dksX7_turn_6 0 rfl rfl)
theorem dX7_turn_140 : decode cX7_turn 140 = .ok (.iconst 1, 1) := dk_4 (dk_at dksX7_turn_6 1 rfl rfl)
theorem dX7_turn_141 : decode cX7_turn 141 = .ok (.iadd, 1) := dk_96 (dk_at dksX7_turn_6 2 rfl rfl)
theorem dX7_turn_142 : decode cX7_turn 142 = .ok (.iastore, 1) := dk_79 (dk_at dksX7_turn_6 3 rfl rfl)
theorem dX7_turn_143 : decode cX7_turn 143 = .ok (.aload_n 0, 1) := dk_42 (dk_at dksX7_turn_6 4 rfl rfl)
theorem dX7_turn_144 : decode cX7_turn 144 = .ok (.getfield 69, 3) := dk_180 0 69 (dk_at dksX7_turn_6 5 rfl rfl)
theorem dX7_turn_147 : decode cX7_turn 147 = .ok (.iload_n 1, 1) := dk_27 (dk_at dksX7_turn_6 8 rfl rfl)
theorem dX7_turn_148 : decode cX7_turn 148 = .ok (.aload_n 0, 1) := dk_42 (dk_at dksX7_turn_6 9 rfl rfl)
theorem dX7_turn_149 : decode cX7_turn 149 = .ok (.getfield 69, 3) := dk_180 0 69 (dk_at dksX7_turn_6 10 rfl rfl)
theorem dX7_turn_152 : decode cX7_turn 152 = .ok (.iload_n 1, 1) := dk_27 (dk_at dksX7_turn_6 13 rfl rfl)
theorem dX7_turn_153 : decode cX7_turn 153 = .ok (.iaload, 1) := dk_46 (dk_at dksX7_turn_6 14 rfl rfl)
theorem dX7_turn_154 : decode cX7_turn 154 = .ok (.ldc_w 398, 3) := dk_19 1 142 (dk_at dksX7_turn_6 15 rfl rfl)
theorem dX7_turn_157 : decode cX7_turn 157 = .ok (.irem, 1) := dk_112 (dk_at dksX7_turn_6 18 rfl rfl)
theorem dX7_turn_158 : decode cX7_turn 158 = .ok (.iastore, 1) := dk_79 (dk_at dksX7_turn_6 19 rfl rfl)
theorem dX7_turn_159 : decode cX7_turn 159 = .ok (.return_, 1) := dk_177 (dk_at dksX7_turn_6 20 rfl rfl)
abbrev cX7_total : ByteArray := prog_14_method_38_code
def yX7_total : MethodName := ⟨RX7, "total", "(I)V"⟩
def dkwX7_total_5 : List UInt8 := [180, 0, 69, 28, 46, 156, 0, 7, 4, 167, 0, 4, 2, 79, 132, 2, 1, 167, 255, 159, 177]
abbrev dktX7_total_5 : List UInt8 := dkwX7_total_5 ++ []
def dkwX7_total_4 : List UInt8 := [112, 79, 29, 16, 10, 108, 62, 132, 4, 1, 167, 255, 222, 42, 180, 0, 39, 16, 92, 28, 96, 42]
abbrev dktX7_total_4 : List UInt8 := dkwX7_total_4 ++ dktX7_total_5
def dkwX7_total_3 : List UInt8 := [21, 4, 16, 6, 162, 0, 33, 42, 180, 0, 39, 16, 68, 16, 6, 28, 104, 96, 21, 4, 96, 29, 16, 10]
abbrev dktX7_total_3 : List UInt8 := dkwX7_total_3 ++ dktX7_total_4
def dkwX7_total_2 : List UInt8 := [156, 0, 13, 42, 180, 0, 69, 28, 46, 116, 167, 0, 9, 42, 180, 0, 69, 28, 46, 62, 3, 54, 4]
abbrev dktX7_total_2 : List UInt8 := dkwX7_total_2 ++ dktX7_total_3
def dkwX7_total_1 : List UInt8 := [180, 0, 39, 16, 65, 27, 96, 4, 100, 4, 79, 3, 61, 28, 7, 162, 0, 98, 42, 180, 0, 69, 28, 46]
abbrev dktX7_total_1 : List UInt8 := dkwX7_total_1 ++ dktX7_total_2
def dkwX7_total_0 : List UInt8 := [3, 61, 28, 16, 96, 162, 0, 16, 42, 180, 0, 39, 28, 2, 79, 132, 2, 1, 167, 255, 240, 42]
abbrev dktX7_total_0 : List UInt8 := dkwX7_total_0 ++ dktX7_total_1
theorem dksX7_total_0 : cX7_total.data.toList.drop 0 = dktX7_total_0 := by decide +kernel
theorem dksX7_total_1 : cX7_total.data.toList.drop 22 = dktX7_total_1 := dk_seg dksX7_total_0 22 rfl rfl
theorem dksX7_total_2 : cX7_total.data.toList.drop 46 = dktX7_total_2 := dk_seg dksX7_total_1 24 rfl rfl
theorem dksX7_total_3 : cX7_total.data.toList.drop 69 = dktX7_total_3 := dk_seg dksX7_total_2 23 rfl rfl
theorem dksX7_total_4 : cX7_total.data.toList.drop 93 = dktX7_total_4 := dk_seg dksX7_total_3 24 rfl rfl
theorem dksX7_total_5 : cX7_total.data.toList.drop 115 = dktX7_total_5 := dk_seg dksX7_total_4 22 rfl rfl
theorem dX7_total_0 : decode cX7_total 0 = .ok (.iconst 0, 1) := dk_3 (dk_at dksX7_total_0 0 rfl rfl)
theorem dX7_total_1 : decode cX7_total 1 = .ok (.istore_n 2, 1) := dk_61 (dk_at dksX7_total_0 1 rfl rfl)
theorem dX7_total_2 : decode cX7_total 2 = .ok (.iload_n 2, 1) := dk_28 (dk_at dksX7_total_0 2 rfl rfl)
theorem dX7_total_3 : decode cX7_total 3 = .ok (.bipush 96, 2) := dk_16 96 (dk_at dksX7_total_0 3 rfl rfl)
theorem dX7_total_5 : decode cX7_total 5 = .ok (.if_icmp .ge 16, 3) := dk_162 0 16 (dk_at dksX7_total_0 5 rfl rfl)
theorem dX7_total_8 : decode cX7_total 8 = .ok (.aload_n 0, 1) := dk_42 (dk_at dksX7_total_0 8 rfl rfl)
theorem dX7_total_9 : decode cX7_total 9 = .ok (.getfield 39, 3) := dk_180 0 39 (dk_at dksX7_total_0 9 rfl rfl)
theorem dX7_total_12 : decode cX7_total 12 = .ok (.iload_n 2, 1) := dk_28 (dk_at dksX7_total_0 12 rfl rfl)
theorem dX7_total_13 : decode cX7_total 13 = .ok (.iconst (-1), 1) := dk_2 (dk_at dksX7_total_0 13 rfl rfl)
theorem dX7_total_14 : decode cX7_total 14 = .ok (.iastore, 1) := dk_79 (dk_at dksX7_total_0 14 rfl rfl)
theorem dX7_total_15 : decode cX7_total 15 = .ok (.iinc 2 1, 3) := dk_132 2 1 (dk_at dksX7_total_0 15 rfl rfl)
theorem dX7_total_18 : decode cX7_total 18 = .ok (.goto (-16), 3) := dk_167 255 240 (dk_at dksX7_total_0 18 rfl rfl)
theorem dX7_total_21 : decode cX7_total 21 = .ok (.aload_n 0, 1) := dk_42 (dk_at dksX7_total_0 21 rfl rfl)
theorem dX7_total_22 : decode cX7_total 22 = .ok (.getfield 39, 3) := dk_180 0 39 (dk_at dksX7_total_1 0 rfl rfl)
theorem dX7_total_25 : decode cX7_total 25 = .ok (.bipush 65, 2) := dk_16 65 (dk_at dksX7_total_1 3 rfl rfl)
theorem dX7_total_27 : decode cX7_total 27 = .ok (.iload_n 1, 1) := dk_27 (dk_at dksX7_total_1 5 rfl rfl)
theorem dX7_total_28 : decode cX7_total 28 = .ok (.iadd, 1) := dk_96 (dk_at dksX7_total_1 6 rfl rfl)
theorem dX7_total_29 : decode cX7_total 29 = .ok (.iconst 1, 1) := dk_4 (dk_at dksX7_total_1 7 rfl rfl)
theorem dX7_total_30 : decode cX7_total 30 = .ok (.isub, 1) := dk_100 (dk_at dksX7_total_1 8 rfl rfl)
theorem dX7_total_31 : decode cX7_total 31 = .ok (.iconst 1, 1) := dk_4 (dk_at dksX7_total_1 9 rfl rfl)
theorem dX7_total_32 : decode cX7_total 32 = .ok (.iastore, 1) := dk_79 (dk_at dksX7_total_1 10 rfl rfl)
theorem dX7_total_33 : decode cX7_total 33 = .ok (.iconst 0, 1) := dk_3 (dk_at dksX7_total_1 11 rfl rfl)
theorem dX7_total_34 : decode cX7_total 34 = .ok (.istore_n 2, 1) := dk_61 (dk_at dksX7_total_1 12 rfl rfl)
theorem dX7_total_35 : decode cX7_total 35 = .ok (.iload_n 2, 1) := dk_28 (dk_at dksX7_total_1 13 rfl rfl)
theorem dX7_total_36 : decode cX7_total 36 = .ok (.iconst 4, 1) := dk_7 (dk_at dksX7_total_1 14 rfl rfl)
theorem dX7_total_37 : decode cX7_total 37 = .ok (.if_icmp .ge 98, 3) := dk_162 0 98 (dk_at dksX7_total_1 15 rfl rfl)
theorem dX7_total_40 : decode cX7_total 40 = .ok (.aload_n 0, 1) := dk_42 (dk_at dksX7_total_1 18 rfl rfl)
theorem dX7_total_41 : decode cX7_total 41 = .ok (.getfield 69, 3) := dk_180 0 69 (dk_at dksX7_total_1 19 rfl rfl)
theorem dX7_total_44 : decode cX7_total 44 = .ok (.iload_n 2, 1) := dk_28 (dk_at dksX7_total_1 22 rfl rfl)
theorem dX7_total_45 : decode cX7_total 45 = .ok (.iaload, 1) := dk_46 (dk_at dksX7_total_1 23 rfl rfl)
theorem dX7_total_46 : decode cX7_total 46 = .ok (.ifCond .ge 13, 3) := dk_156 0 13 (dk_at dksX7_total_2 0 rfl rfl)
theorem dX7_total_49 : decode cX7_total 49 = .ok (.aload_n 0, 1) := dk_42 (dk_at dksX7_total_2 3 rfl rfl)
theorem dX7_total_50 : decode cX7_total 50 = .ok (.getfield 69, 3) := dk_180 0 69 (dk_at dksX7_total_2 4 rfl rfl)
theorem dX7_total_53 : decode cX7_total 53 = .ok (.iload_n 2, 1) := dk_28 (dk_at dksX7_total_2 7 rfl rfl)
theorem dX7_total_54 : decode cX7_total 54 = .ok (.iaload, 1) := dk_46 (dk_at dksX7_total_2 8 rfl rfl)
theorem dX7_total_55 : decode cX7_total 55 = .ok (.ineg, 1) := dk_116 (dk_at dksX7_total_2 9 rfl rfl)
theorem dX7_total_56 : decode cX7_total 56 = .ok (.goto 9, 3) := dk_167 0 9 (dk_at dksX7_total_2 10 rfl rfl)
theorem dX7_total_59 : decode cX7_total 59 = .ok (.aload_n 0, 1) := dk_42 (dk_at dksX7_total_2 13 rfl rfl)
theorem dX7_total_60 : decode cX7_total 60 = .ok (.getfield 69, 3) := dk_180 0 69 (dk_at dksX7_total_2 14 rfl rfl)
theorem dX7_total_63 : decode cX7_total 63 = .ok (.iload_n 2, 1) := dk_28 (dk_at dksX7_total_2 17 rfl rfl)
theorem dX7_total_64 : decode cX7_total 64 = .ok (.iaload, 1) := dk_46 (dk_at dksX7_total_2 18 rfl rfl)
theorem dX7_total_65 : decode cX7_total 65 = .ok (.istore_n 3, 1) := dk_62 (dk_at dksX7_total_2 19 rfl rfl)
theorem dX7_total_66 : decode cX7_total 66 = .ok (.iconst 0, 1) := dk_3 (dk_at dksX7_total_2 20 rfl rfl)
theorem dX7_total_67 : decode cX7_total 67 = .ok (.istore 4, 2) := dk_54 4 (dk_at dksX7_total_2 21 rfl rfl)
theorem dX7_total_69 : decode cX7_total 69 = .ok (.iload 4, 2) := dk_21 4 (dk_at dksX7_total_3 0 rfl rfl)
theorem dX7_total_71 : decode cX7_total 71 = .ok (.bipush 6, 2) := dk_16 6 (dk_at dksX7_total_3 2 rfl rfl)
theorem dX7_total_73 : decode cX7_total 73 = .ok (.if_icmp .ge 33, 3) := dk_162 0 33 (dk_at dksX7_total_3 4 rfl rfl)
theorem dX7_total_76 : decode cX7_total 76 = .ok (.aload_n 0, 1) := dk_42 (dk_at dksX7_total_3 7 rfl rfl)
theorem dX7_total_77 : decode cX7_total 77 = .ok (.getfield 39, 3) := dk_180 0 39 (dk_at dksX7_total_3 8 rfl rfl)
theorem dX7_total_80 : decode cX7_total 80 = .ok (.bipush 68, 2) := dk_16 68 (dk_at dksX7_total_3 11 rfl rfl)
theorem dX7_total_82 : decode cX7_total 82 = .ok (.bipush 6, 2) := dk_16 6 (dk_at dksX7_total_3 13 rfl rfl)
theorem dX7_total_84 : decode cX7_total 84 = .ok (.iload_n 2, 1) := dk_28 (dk_at dksX7_total_3 15 rfl rfl)
theorem dX7_total_85 : decode cX7_total 85 = .ok (.imul, 1) := dk_104 (dk_at dksX7_total_3 16 rfl rfl)
theorem dX7_total_86 : decode cX7_total 86 = .ok (.iadd, 1) := dk_96 (dk_at dksX7_total_3 17 rfl rfl)
theorem dX7_total_87 : decode cX7_total 87 = .ok (.iload 4, 2) := dk_21 4 (dk_at dksX7_total_3 18 rfl rfl)
theorem dX7_total_89 : decode cX7_total 89 = .ok (.iadd, 1) := dk_96 (dk_at dksX7_total_3 20 rfl rfl)
theorem dX7_total_90 : decode cX7_total 90 = .ok (.iload_n 3, 1) := dk_29 (dk_at dksX7_total_3 21 rfl rfl)
theorem dX7_total_91 : decode cX7_total 91 = .ok (.bipush 10, 2) := dk_16 10 (dk_at dksX7_total_3 22 rfl rfl)
theorem dX7_total_93 : decode cX7_total 93 = .ok (.irem, 1) := dk_112 (dk_at dksX7_total_4 0 rfl rfl)
theorem dX7_total_94 : decode cX7_total 94 = .ok (.iastore, 1) := dk_79 (dk_at dksX7_total_4 1 rfl rfl)
theorem dX7_total_95 : decode cX7_total 95 = .ok (.iload_n 3, 1) := dk_29 (dk_at dksX7_total_4 2 rfl rfl)
theorem dX7_total_96 : decode cX7_total 96 = .ok (.bipush 10, 2) := dk_16 10 (dk_at dksX7_total_4 3 rfl rfl)
theorem dX7_total_98 : decode cX7_total 98 = .ok (.idiv, 1) := dk_108 (dk_at dksX7_total_4 5 rfl rfl)
theorem dX7_total_99 : decode cX7_total 99 = .ok (.istore_n 3, 1) := dk_62 (dk_at dksX7_total_4 6 rfl rfl)
theorem dX7_total_100 : decode cX7_total 100 = .ok (.iinc 4 1, 3) := dk_132 4 1 (dk_at dksX7_total_4 7 rfl rfl)
theorem dX7_total_103 : decode cX7_total 103 = .ok (.goto (-34), 3) := dk_167 255 222 (dk_at dksX7_total_4 10 rfl rfl)
theorem dX7_total_106 : decode cX7_total 106 = .ok (.aload_n 0, 1) := dk_42 (dk_at dksX7_total_4 13 rfl rfl)
theorem dX7_total_107 : decode cX7_total 107 = .ok (.getfield 39, 3) := dk_180 0 39 (dk_at dksX7_total_4 14 rfl rfl)
theorem dX7_total_110 : decode cX7_total 110 = .ok (.bipush 92, 2) := dk_16 92 (dk_at dksX7_total_4 17 rfl rfl)
theorem dX7_total_112 : decode cX7_total 112 = .ok (.iload_n 2, 1) := dk_28 (dk_at dksX7_total_4 19 rfl rfl)
theorem dX7_total_113 : decode cX7_total 113 = .ok (.iadd, 1) := dk_96 (dk_at dksX7_total_4 20 rfl rfl)
theorem dX7_total_114 : decode cX7_total 114 = .ok (.aload_n 0, 1) := dk_42 (dk_at dksX7_total_4 21 rfl rfl)
theorem dX7_total_115 : decode cX7_total 115 = .ok (.getfield 69, 3) := dk_180 0 69 (dk_at dksX7_total_5 0 rfl rfl)
theorem dX7_total_118 : decode cX7_total 118 = .ok (.iload_n 2, 1) := dk_28 (dk_at dksX7_total_5 3 rfl rfl)
theorem dX7_total_119 : decode cX7_total 119 = .ok (.iaload, 1) := dk_46 (dk_at dksX7_total_5 4 rfl rfl)
theorem dX7_total_120 : decode cX7_total 120 = .ok (.ifCond .ge 7, 3) := dk_156 0 7 (dk_at dksX7_total_5 5 rfl rfl)
theorem dX7_total_123 : decode cX7_total 123 = .ok (.iconst 1, 1) := dk_4 (dk_at dksX7_total_5 8 rfl rfl)
theorem dX7_total_124 : decode cX7_total 124 = .ok (.goto 4, 3) := dk_167 0 4 (dk_at dksX7_total_5 9 rfl rfl)
theorem dX7_total_127 : decode cX7_total 127 = .ok (.iconst (-1), 1) := dk_2 (dk_at dksX7_total_5 12 rfl rfl)
theorem dX7_total_128 : decode cX7_total 128 = .ok (.iastore, 1) := dk_79 (dk_at dksX7_total_5 13 rfl rfl)
theorem dX7_total_129 : decode cX7_total 129 = .ok (.iinc 2 1, 3) := dk_132 2 1 (dk_at dksX7_total_5 14 rfl rfl)
theorem dX7_total_132 : decode cX7_total 132 = .ok (.goto (-97), 3) := dk_167 255 159 (dk_at dksX7_total_5 17 rfl rfl)
theorem dX7_total_135 : decode cX7_total 135 = .ok (.return_, 1) := dk_177 (dk_at dksX7_total_5 20 rfl rfl)
abbrev cX7_keepRun : ByteArray := prog_14_method_43_code
def yX7_keepRun : MethodName := ⟨RX7, "keepRun", "(I)V"⟩
def dkwX7_keepRun_7 : List UInt8 := [180, 0, 72, 17, 3, 32, 27, 104, 28, 96, 42, 180, 0, 72, 28, 46, 79, 132, 2, 1, 167, 255, 228, 177]
abbrev dktX7_keepRun_7 : List UInt8 := dkwX7_keepRun_7 ++ []
def dkwX7_keepRun_6 : List UInt8 := [96, 42, 180, 0, 69, 28, 46, 79, 132, 2, 1, 167, 255, 232, 3, 61, 28, 17, 3, 32, 162, 0, 27, 42]
abbrev dktX7_keepRun_6 : List UInt8 := dkwX7_keepRun_6 ++ dktX7_keepRun_7
def dkwX7_keepRun_5 : List UInt8 := [28, 46, 79, 132, 2, 1, 167, 255, 228, 3, 61, 28, 7, 162, 0, 25, 42, 180, 0, 69, 7, 27, 104, 28]
abbrev dktX7_keepRun_5 : List UInt8 := dkwX7_keepRun_5 ++ dktX7_keepRun_6
def dkwX7_keepRun_4 : List UInt8 := [3, 61, 28, 17, 2, 208, 162, 0, 27, 42, 180, 0, 66, 17, 2, 208, 27, 104, 28, 96, 42, 180, 0, 66]
abbrev dktX7_keepRun_4 : List UInt8 := dkwX7_keepRun_4 ++ dktX7_keepRun_5
def dkwX7_keepRun_3 : List UInt8 := [42, 180, 0, 84, 27, 42, 180, 0, 84, 3, 46, 79, 42, 180, 0, 87, 27, 42, 180, 0, 87, 3, 46, 79]
abbrev dktX7_keepRun_3 : List UInt8 := dkwX7_keepRun_3 ++ dktX7_keepRun_4
def dkwX7_keepRun_2 : List UInt8 := [42, 180, 0, 78, 27, 42, 180, 0, 78, 3, 46, 79, 42, 180, 0, 81, 27, 42, 180, 0, 81, 3, 46, 79]
abbrev dktX7_keepRun_2 : List UInt8 := dkwX7_keepRun_2 ++ dktX7_keepRun_3
def dkwX7_keepRun_1 : List UInt8 := [42, 180, 0, 63, 27, 42, 180, 0, 63, 3, 46, 79, 42, 180, 0, 75, 27, 42, 180, 0, 75, 3, 46, 79]
abbrev dktX7_keepRun_1 : List UInt8 := dkwX7_keepRun_1 ++ dktX7_keepRun_2
def dkwX7_keepRun_0 : List UInt8 := [42, 180, 0, 57, 27, 42, 180, 0, 57, 3, 46, 79, 42, 180, 0, 60, 27, 42, 180, 0, 60, 3, 46, 79]
abbrev dktX7_keepRun_0 : List UInt8 := dkwX7_keepRun_0 ++ dktX7_keepRun_1
theorem dksX7_keepRun_0 : cX7_keepRun.data.toList.drop 0 = dktX7_keepRun_0 := by decide +kernel
theorem dksX7_keepRun_1 : cX7_keepRun.data.toList.drop 24 = dktX7_keepRun_1 := dk_seg dksX7_keepRun_0 24 rfl rfl
theorem dksX7_keepRun_2 : cX7_keepRun.data.toList.drop 48 = dktX7_keepRun_2 := dk_seg dksX7_keepRun_1 24 rfl rfl
theorem dksX7_keepRun_3 : cX7_keepRun.data.toList.drop 72 = dktX7_keepRun_3 := dk_seg dksX7_keepRun_2 24 rfl rfl
theorem dksX7_keepRun_4 : cX7_keepRun.data.toList.drop 96 = dktX7_keepRun_4 := dk_seg dksX7_keepRun_3 24 rfl rfl
theorem dksX7_keepRun_5 : cX7_keepRun.data.toList.drop 120 = dktX7_keepRun_5 := dk_seg dksX7_keepRun_4 24 rfl rfl
theorem dksX7_keepRun_6 : cX7_keepRun.data.toList.drop 144 = dktX7_keepRun_6 := dk_seg dksX7_keepRun_5 24 rfl rfl
theorem dksX7_keepRun_7 : cX7_keepRun.data.toList.drop 168 = dktX7_keepRun_7 := dk_seg dksX7_keepRun_6 24 rfl rfl
theorem dX7_keepRun_0 : decode cX7_keepRun 0 = .ok (.aload_n 0, 1) := dk_42 (dk_at dksX7_keepRun_0 0 rfl rfl)
theorem dX7_keepRun_1 : decode cX7_keepRun 1 = .ok (.getfield 57, 3) := dk_180 0 57 (dk_at dksX7_keepRun_0 1 rfl rfl)
theorem dX7_keepRun_4 : decode cX7_keepRun 4 = .ok (.iload_n 1, 1) := dk_27 (dk_at dksX7_keepRun_0 4 rfl rfl)
theorem dX7_keepRun_5 : decode cX7_keepRun 5 = .ok (.aload_n 0, 1) := dk_42 (dk_at dksX7_keepRun_0 5 rfl rfl)
theorem dX7_keepRun_6 : decode cX7_keepRun 6 = .ok (.getfield 57, 3) := dk_180 0 57 (dk_at dksX7_keepRun_0 6 rfl rfl)
theorem dX7_keepRun_9 : decode cX7_keepRun 9 = .ok (.iconst 0, 1) := dk_3 (dk_at dksX7_keepRun_0 9 rfl rfl)
theorem dX7_keepRun_10 : decode cX7_keepRun 10 = .ok (.iaload, 1) := dk_46 (dk_at dksX7_keepRun_0 10 rfl rfl)
theorem dX7_keepRun_11 : decode cX7_keepRun 11 = .ok (.iastore, 1) := dk_79 (dk_at dksX7_keepRun_0 11 rfl rfl)
theorem dX7_keepRun_12 : decode cX7_keepRun 12 = .ok (.aload_n 0, 1) := dk_42 (dk_at dksX7_keepRun_0 12 rfl rfl)
theorem dX7_keepRun_13 : decode cX7_keepRun 13 = .ok (.getfield 60, 3) := dk_180 0 60 (dk_at dksX7_keepRun_0 13 rfl rfl)
theorem dX7_keepRun_16 : decode cX7_keepRun 16 = .ok (.iload_n 1, 1) := dk_27 (dk_at dksX7_keepRun_0 16 rfl rfl)
theorem dX7_keepRun_17 : decode cX7_keepRun 17 = .ok (.aload_n 0, 1) := dk_42 (dk_at dksX7_keepRun_0 17 rfl rfl)
theorem dX7_keepRun_18 : decode cX7_keepRun 18 = .ok (.getfield 60, 3) := dk_180 0 60 (dk_at dksX7_keepRun_0 18 rfl rfl)
theorem dX7_keepRun_21 : decode cX7_keepRun 21 = .ok (.iconst 0, 1) := dk_3 (dk_at dksX7_keepRun_0 21 rfl rfl)
theorem dX7_keepRun_22 : decode cX7_keepRun 22 = .ok (.iaload, 1) := dk_46 (dk_at dksX7_keepRun_0 22 rfl rfl)
theorem dX7_keepRun_23 : decode cX7_keepRun 23 = .ok (.iastore, 1) := dk_79 (dk_at dksX7_keepRun_0 23 rfl rfl)
theorem dX7_keepRun_24 : decode cX7_keepRun 24 = .ok (.aload_n 0, 1) := dk_42 (dk_at dksX7_keepRun_1 0 rfl rfl)
theorem dX7_keepRun_25 : decode cX7_keepRun 25 = .ok (.getfield 63, 3) := dk_180 0 63 (dk_at dksX7_keepRun_1 1 rfl rfl)
theorem dX7_keepRun_28 : decode cX7_keepRun 28 = .ok (.iload_n 1, 1) := dk_27 (dk_at dksX7_keepRun_1 4 rfl rfl)
theorem dX7_keepRun_29 : decode cX7_keepRun 29 = .ok (.aload_n 0, 1) := dk_42 (dk_at dksX7_keepRun_1 5 rfl rfl)
theorem dX7_keepRun_30 : decode cX7_keepRun 30 = .ok (.getfield 63, 3) := dk_180 0 63 (dk_at dksX7_keepRun_1 6 rfl rfl)
theorem dX7_keepRun_33 : decode cX7_keepRun 33 = .ok (.iconst 0, 1) := dk_3 (dk_at dksX7_keepRun_1 9 rfl rfl)
theorem dX7_keepRun_34 : decode cX7_keepRun 34 = .ok (.iaload, 1) := dk_46 (dk_at dksX7_keepRun_1 10 rfl rfl)
theorem dX7_keepRun_35 : decode cX7_keepRun 35 = .ok (.iastore, 1) := dk_79 (dk_at dksX7_keepRun_1 11 rfl rfl)
theorem dX7_keepRun_36 : decode cX7_keepRun 36 = .ok (.aload_n 0, 1) := dk_42 (dk_at dksX7_keepRun_1 12 rfl rfl)
theorem dX7_keepRun_37 : decode cX7_keepRun 37 = .ok (.getfield 75, 3) := dk_180 0 75 (dk_at dksX7_keepRun_1 13 rfl rfl)
theorem dX7_keepRun_40 : decode cX7_keepRun 40 = .ok (.iload_n 1, 1) := dk_27 (dk_at dksX7_keepRun_1 16 rfl rfl)
theorem dX7_keepRun_41 : decode cX7_keepRun 41 = .ok (.aload_n 0, 1) := dk_42 (dk_at dksX7_keepRun_1 17 rfl rfl)
theorem dX7_keepRun_42 : decode cX7_keepRun 42 = .ok (.getfield 75, 3) := dk_180 0 75 (dk_at dksX7_keepRun_1 18 rfl rfl)
theorem dX7_keepRun_45 : decode cX7_keepRun 45 = .ok (.iconst 0, 1) := dk_3 (dk_at dksX7_keepRun_1 21 rfl rfl)
theorem dX7_keepRun_46 : decode cX7_keepRun 46 = .ok (.iaload, 1) := dk_46 (dk_at dksX7_keepRun_1 22 rfl rfl)
theorem dX7_keepRun_47 : decode cX7_keepRun 47 = .ok (.iastore, 1) := dk_79 (dk_at dksX7_keepRun_1 23 rfl rfl)
theorem dX7_keepRun_48 : decode cX7_keepRun 48 = .ok (.aload_n 0, 1) := dk_42 (dk_at dksX7_keepRun_2 0 rfl rfl)
theorem dX7_keepRun_49 : decode cX7_keepRun 49 = .ok (.getfield 78, 3) := dk_180 0 78 (dk_at dksX7_keepRun_2 1 rfl rfl)
theorem dX7_keepRun_52 : decode cX7_keepRun 52 = .ok (.iload_n 1, 1) := dk_27 (dk_at dksX7_keepRun_2 4 rfl rfl)
theorem dX7_keepRun_53 : decode cX7_keepRun 53 = .ok (.aload_n 0, 1) := dk_42 (dk_at dksX7_keepRun_2 5 rfl rfl)
theorem dX7_keepRun_54 : decode cX7_keepRun 54 = .ok (.getfield 78, 3) := dk_180 0 78 (dk_at dksX7_keepRun_2 6 rfl rfl)
theorem dX7_keepRun_57 : decode cX7_keepRun 57 = .ok (.iconst 0, 1) := dk_3 (dk_at dksX7_keepRun_2 9 rfl rfl)
theorem dX7_keepRun_58 : decode cX7_keepRun 58 = .ok (.iaload, 1) := dk_46 (dk_at dksX7_keepRun_2 10 rfl rfl)
theorem dX7_keepRun_59 : decode cX7_keepRun 59 = .ok (.iastore, 1) := dk_79 (dk_at dksX7_keepRun_2 11 rfl rfl)
theorem dX7_keepRun_60 : decode cX7_keepRun 60 = .ok (.aload_n 0, 1) := dk_42 (dk_at dksX7_keepRun_2 12 rfl rfl)
theorem dX7_keepRun_61 : decode cX7_keepRun 61 = .ok (.getfield 81, 3) := dk_180 0 81 (dk_at dksX7_keepRun_2 13 rfl rfl)
theorem dX7_keepRun_64 : decode cX7_keepRun 64 = .ok (.iload_n 1, 1) := dk_27 (dk_at dksX7_keepRun_2 16 rfl rfl)
theorem dX7_keepRun_65 : decode cX7_keepRun 65 = .ok (.aload_n 0, 1) := dk_42 (dk_at dksX7_keepRun_2 17 rfl rfl)
theorem dX7_keepRun_66 : decode cX7_keepRun 66 = .ok (.getfield 81, 3) := dk_180 0 81 (dk_at dksX7_keepRun_2 18 rfl rfl)
theorem dX7_keepRun_69 : decode cX7_keepRun 69 = .ok (.iconst 0, 1) := dk_3 (dk_at dksX7_keepRun_2 21 rfl rfl)
theorem dX7_keepRun_70 : decode cX7_keepRun 70 = .ok (.iaload, 1) := dk_46 (dk_at dksX7_keepRun_2 22 rfl rfl)
theorem dX7_keepRun_71 : decode cX7_keepRun 71 = .ok (.iastore, 1) := dk_79 (dk_at dksX7_keepRun_2 23 rfl rfl)
theorem dX7_keepRun_72 : decode cX7_keepRun 72 = .ok (.aload_n 0, 1) := dk_42 (dk_at dksX7_keepRun_3 0 rfl rfl)
theorem dX7_keepRun_73 : decode cX7_keepRun 73 = .ok (.getfield 84, 3) := dk_180 0 84 (dk_at dksX7_keepRun_3 1 rfl rfl)
theorem dX7_keepRun_76 : decode cX7_keepRun 76 = .ok (.iload_n 1, 1) := dk_27 (dk_at dksX7_keepRun_3 4 rfl rfl)
theorem dX7_keepRun_77 : decode cX7_keepRun 77 = .ok (.aload_n 0, 1) := dk_42 (dk_at dksX7_keepRun_3 5 rfl rfl)
theorem dX7_keepRun_78 : decode cX7_keepRun 78 = .ok (.getfield 84, 3) := dk_180 0 84 (dk_at dksX7_keepRun_3 6 rfl rfl)
theorem dX7_keepRun_81 : decode cX7_keepRun 81 = .ok (.iconst 0, 1) := dk_3 (dk_at dksX7_keepRun_3 9 rfl rfl)
theorem dX7_keepRun_82 : decode cX7_keepRun 82 = .ok (.iaload, 1) := dk_46 (dk_at dksX7_keepRun_3 10 rfl rfl)
theorem dX7_keepRun_83 : decode cX7_keepRun 83 = .ok (.iastore, 1) := dk_79 (dk_at dksX7_keepRun_3 11 rfl rfl)
theorem dX7_keepRun_84 : decode cX7_keepRun 84 = .ok (.aload_n 0, 1) := dk_42 (dk_at dksX7_keepRun_3 12 rfl rfl)
theorem dX7_keepRun_85 : decode cX7_keepRun 85 = .ok (.getfield 87, 3) := dk_180 0 87 (dk_at dksX7_keepRun_3 13 rfl rfl)
theorem dX7_keepRun_88 : decode cX7_keepRun 88 = .ok (.iload_n 1, 1) := dk_27 (dk_at dksX7_keepRun_3 16 rfl rfl)
theorem dX7_keepRun_89 : decode cX7_keepRun 89 = .ok (.aload_n 0, 1) := dk_42 (dk_at dksX7_keepRun_3 17 rfl rfl)
theorem dX7_keepRun_90 : decode cX7_keepRun 90 = .ok (.getfield 87, 3) := dk_180 0 87 (dk_at dksX7_keepRun_3 18 rfl rfl)
theorem dX7_keepRun_93 : decode cX7_keepRun 93 = .ok (.iconst 0, 1) := dk_3 (dk_at dksX7_keepRun_3 21 rfl rfl)
theorem dX7_keepRun_94 : decode cX7_keepRun 94 = .ok (.iaload, 1) := dk_46 (dk_at dksX7_keepRun_3 22 rfl rfl)
theorem dX7_keepRun_95 : decode cX7_keepRun 95 = .ok (.iastore, 1) := dk_79 (dk_at dksX7_keepRun_3 23 rfl rfl)
theorem dX7_keepRun_96 : decode cX7_keepRun 96 = .ok (.iconst 0, 1) := dk_3 (dk_at dksX7_keepRun_4 0 rfl rfl)
theorem dX7_keepRun_97 : decode cX7_keepRun 97 = .ok (.istore_n 2, 1) := dk_61 (dk_at dksX7_keepRun_4 1 rfl rfl)
theorem dX7_keepRun_98 : decode cX7_keepRun 98 = .ok (.iload_n 2, 1) := dk_28 (dk_at dksX7_keepRun_4 2 rfl rfl)
theorem dX7_keepRun_99 : decode cX7_keepRun 99 = .ok (.sipush 720, 3) := dk_17 2 208 (dk_at dksX7_keepRun_4 3 rfl rfl)
theorem dX7_keepRun_102 : decode cX7_keepRun 102 = .ok (.if_icmp .ge 27, 3) := dk_162 0 27 (dk_at dksX7_keepRun_4 6 rfl rfl)
theorem dX7_keepRun_105 : decode cX7_keepRun 105 = .ok (.aload_n 0, 1) := dk_42 (dk_at dksX7_keepRun_4 9 rfl rfl)
theorem dX7_keepRun_106 : decode cX7_keepRun 106 = .ok (.getfield 66, 3) := dk_180 0 66 (dk_at dksX7_keepRun_4 10 rfl rfl)
theorem dX7_keepRun_109 : decode cX7_keepRun 109 = .ok (.sipush 720, 3) := dk_17 2 208 (dk_at dksX7_keepRun_4 13 rfl rfl)
theorem dX7_keepRun_112 : decode cX7_keepRun 112 = .ok (.iload_n 1, 1) := dk_27 (dk_at dksX7_keepRun_4 16 rfl rfl)
theorem dX7_keepRun_113 : decode cX7_keepRun 113 = .ok (.imul, 1) := dk_104 (dk_at dksX7_keepRun_4 17 rfl rfl)
theorem dX7_keepRun_114 : decode cX7_keepRun 114 = .ok (.iload_n 2, 1) := dk_28 (dk_at dksX7_keepRun_4 18 rfl rfl)
theorem dX7_keepRun_115 : decode cX7_keepRun 115 = .ok (.iadd, 1) := dk_96 (dk_at dksX7_keepRun_4 19 rfl rfl)
theorem dX7_keepRun_116 : decode cX7_keepRun 116 = .ok (.aload_n 0, 1) := dk_42 (dk_at dksX7_keepRun_4 20 rfl rfl)
theorem dX7_keepRun_117 : decode cX7_keepRun 117 = .ok (.getfield 66, 3) := dk_180 0 66 (dk_at dksX7_keepRun_4 21 rfl rfl)
theorem dX7_keepRun_120 : decode cX7_keepRun 120 = .ok (.iload_n 2, 1) := dk_28 (dk_at dksX7_keepRun_5 0 rfl rfl)
theorem dX7_keepRun_121 : decode cX7_keepRun 121 = .ok (.iaload, 1) := dk_46 (dk_at dksX7_keepRun_5 1 rfl rfl)
theorem dX7_keepRun_122 : decode cX7_keepRun 122 = .ok (.iastore, 1) := dk_79 (dk_at dksX7_keepRun_5 2 rfl rfl)
theorem dX7_keepRun_123 : decode cX7_keepRun 123 = .ok (.iinc 2 1, 3) := dk_132 2 1 (dk_at dksX7_keepRun_5 3 rfl rfl)
theorem dX7_keepRun_126 : decode cX7_keepRun 126 = .ok (.goto (-28), 3) := dk_167 255 228 (dk_at dksX7_keepRun_5 6 rfl rfl)
theorem dX7_keepRun_129 : decode cX7_keepRun 129 = .ok (.iconst 0, 1) := dk_3 (dk_at dksX7_keepRun_5 9 rfl rfl)
theorem dX7_keepRun_130 : decode cX7_keepRun 130 = .ok (.istore_n 2, 1) := dk_61 (dk_at dksX7_keepRun_5 10 rfl rfl)
theorem dX7_keepRun_131 : decode cX7_keepRun 131 = .ok (.iload_n 2, 1) := dk_28 (dk_at dksX7_keepRun_5 11 rfl rfl)
theorem dX7_keepRun_132 : decode cX7_keepRun 132 = .ok (.iconst 4, 1) := dk_7 (dk_at dksX7_keepRun_5 12 rfl rfl)
theorem dX7_keepRun_133 : decode cX7_keepRun 133 = .ok (.if_icmp .ge 25, 3) := dk_162 0 25 (dk_at dksX7_keepRun_5 13 rfl rfl)
theorem dX7_keepRun_136 : decode cX7_keepRun 136 = .ok (.aload_n 0, 1) := dk_42 (dk_at dksX7_keepRun_5 16 rfl rfl)
theorem dX7_keepRun_137 : decode cX7_keepRun 137 = .ok (.getfield 69, 3) := dk_180 0 69 (dk_at dksX7_keepRun_5 17 rfl rfl)
theorem dX7_keepRun_140 : decode cX7_keepRun 140 = .ok (.iconst 4, 1) := dk_7 (dk_at dksX7_keepRun_5 20 rfl rfl)
theorem dX7_keepRun_141 : decode cX7_keepRun 141 = .ok (.iload_n 1, 1) := dk_27 (dk_at dksX7_keepRun_5 21 rfl rfl)
theorem dX7_keepRun_142 : decode cX7_keepRun 142 = .ok (.imul, 1) := dk_104 (dk_at dksX7_keepRun_5 22 rfl rfl)
theorem dX7_keepRun_143 : decode cX7_keepRun 143 = .ok (.iload_n 2, 1) := dk_28 (dk_at dksX7_keepRun_5 23 rfl rfl)
theorem dX7_keepRun_144 : decode cX7_keepRun 144 = .ok (.iadd, 1) := dk_96 (dk_at dksX7_keepRun_6 0 rfl rfl)
theorem dX7_keepRun_145 : decode cX7_keepRun 145 = .ok (.aload_n 0, 1) := dk_42 (dk_at dksX7_keepRun_6 1 rfl rfl)
theorem dX7_keepRun_146 : decode cX7_keepRun 146 = .ok (.getfield 69, 3) := dk_180 0 69 (dk_at dksX7_keepRun_6 2 rfl rfl)
theorem dX7_keepRun_149 : decode cX7_keepRun 149 = .ok (.iload_n 2, 1) := dk_28 (dk_at dksX7_keepRun_6 5 rfl rfl)
theorem dX7_keepRun_150 : decode cX7_keepRun 150 = .ok (.iaload, 1) := dk_46 (dk_at dksX7_keepRun_6 6 rfl rfl)
theorem dX7_keepRun_151 : decode cX7_keepRun 151 = .ok (.iastore, 1) := dk_79 (dk_at dksX7_keepRun_6 7 rfl rfl)
theorem dX7_keepRun_152 : decode cX7_keepRun 152 = .ok (.iinc 2 1, 3) := dk_132 2 1 (dk_at dksX7_keepRun_6 8 rfl rfl)
theorem dX7_keepRun_155 : decode cX7_keepRun 155 = .ok (.goto (-24), 3) := dk_167 255 232 (dk_at dksX7_keepRun_6 11 rfl rfl)
theorem dX7_keepRun_158 : decode cX7_keepRun 158 = .ok (.iconst 0, 1) := dk_3 (dk_at dksX7_keepRun_6 14 rfl rfl)
theorem dX7_keepRun_159 : decode cX7_keepRun 159 = .ok (.istore_n 2, 1) := dk_61 (dk_at dksX7_keepRun_6 15 rfl rfl)
theorem dX7_keepRun_160 : decode cX7_keepRun 160 = .ok (.iload_n 2, 1) := dk_28 (dk_at dksX7_keepRun_6 16 rfl rfl)
theorem dX7_keepRun_161 : decode cX7_keepRun 161 = .ok (.sipush 800, 3) := dk_17 3 32 (dk_at dksX7_keepRun_6 17 rfl rfl)
theorem dX7_keepRun_164 : decode cX7_keepRun 164 = .ok (.if_icmp .ge 27, 3) := dk_162 0 27 (dk_at dksX7_keepRun_6 20 rfl rfl)
theorem dX7_keepRun_167 : decode cX7_keepRun 167 = .ok (.aload_n 0, 1) := dk_42 (dk_at dksX7_keepRun_6 23 rfl rfl)
theorem dX7_keepRun_168 : decode cX7_keepRun 168 = .ok (.getfield 72, 3) := dk_180 0 72 (dk_at dksX7_keepRun_7 0 rfl rfl)
theorem dX7_keepRun_171 : decode cX7_keepRun 171 = .ok (.sipush 800, 3) := dk_17 3 32 (dk_at dksX7_keepRun_7 3 rfl rfl)
theorem dX7_keepRun_174 : decode cX7_keepRun 174 = .ok (.iload_n 1, 1) := dk_27 (dk_at dksX7_keepRun_7 6 rfl rfl)
theorem dX7_keepRun_175 : decode cX7_keepRun 175 = .ok (.imul, 1) := dk_104 (dk_at dksX7_keepRun_7 7 rfl rfl)
theorem dX7_keepRun_176 : decode cX7_keepRun 176 = .ok (.iload_n 2, 1) := dk_28 (dk_at dksX7_keepRun_7 8 rfl rfl)
theorem dX7_keepRun_177 : decode cX7_keepRun 177 = .ok (.iadd, 1) := dk_96 (dk_at dksX7_keepRun_7 9 rfl rfl)
theorem dX7_keepRun_178 : decode cX7_keepRun 178 = .ok (.aload_n 0, 1) := dk_42 (dk_at dksX7_keepRun_7 10 rfl rfl)
theorem dX7_keepRun_179 : decode cX7_keepRun 179 = .ok (.getfield 72, 3) := dk_180 0 72 (dk_at dksX7_keepRun_7 11 rfl rfl)
theorem dX7_keepRun_182 : decode cX7_keepRun 182 = .ok (.iload_n 2, 1) := dk_28 (dk_at dksX7_keepRun_7 14 rfl rfl)
theorem dX7_keepRun_183 : decode cX7_keepRun 183 = .ok (.iaload, 1) := dk_46 (dk_at dksX7_keepRun_7 15 rfl rfl)
theorem dX7_keepRun_184 : decode cX7_keepRun 184 = .ok (.iastore, 1) := dk_79 (dk_at dksX7_keepRun_7 16 rfl rfl)
theorem dX7_keepRun_185 : decode cX7_keepRun 185 = .ok (.iinc 2 1, 3) := dk_132 2 1 (dk_at dksX7_keepRun_7 17 rfl rfl)
theorem dX7_keepRun_188 : decode cX7_keepRun 188 = .ok (.goto (-28), 3) := dk_167 255 228 (dk_at dksX7_keepRun_7 20 rfl rfl)
theorem dX7_keepRun_191 : decode cX7_keepRun 191 = .ok (.return_, 1) := dk_177 (dk_at dksX7_keepRun_7 23 rfl rfl)
abbrev cX7_ran : ByteArray := prog_14_method_46_code
def yX7_ran : MethodName := ⟨RX7, "ran", "(I)I"⟩
def dkwX7_ran_4 : List UInt8 := [4, 46, 172, 2, 172]
abbrev dktX7_ran_4 : List UInt8 := dkwX7_ran_4 ++ []
def dkwX7_ran_3 : List UInt8 := [180, 0, 63, 4, 46, 172, 42, 180, 0, 81, 4, 46, 172, 42, 180, 0, 84, 4, 46, 172, 42, 180, 0, 87]
abbrev dktX7_ran_3 : List UInt8 := dkwX7_ran_3 ++ dktX7_ran_4
def dkwX7_ran_2 : List UInt8 := [42, 180, 0, 75, 4, 46, 172, 42, 180, 0, 78, 4, 46, 172, 42, 180, 0, 60, 4, 46, 172, 42]
abbrev dktX7_ran_2 : List UInt8 := dkwX7_ran_2 ++ dktX7_ran_3
def dkwX7_ran_1 : List UInt8 := [170, 0, 0, 0, 90, 0, 0, 0, 0, 0, 0, 0, 6, 0, 0, 0, 41, 0, 0, 0, 48, 0, 0, 0, 55, 0, 0, 0, 62, 0, 0, 0, 69, 0, 0, 0, 76, 0, 0, 0, 83]
abbrev dktX7_ran_1 : List UInt8 := dkwX7_ran_1 ++ dktX7_ran_2
def dkwX7_ran_0 : List UInt8 := [42, 3, 181, 0, 190, 42, 180, 1, 153, 154, 0, 5, 2, 172, 27]
abbrev dktX7_ran_0 : List UInt8 := dkwX7_ran_0 ++ dktX7_ran_1
theorem dksX7_ran_0 : cX7_ran.data.toList.drop 0 = dktX7_ran_0 := by decide +kernel
theorem dksX7_ran_1 : cX7_ran.data.toList.drop 15 = dktX7_ran_1 := dk_seg dksX7_ran_0 15 rfl rfl
theorem dksX7_ran_2 : cX7_ran.data.toList.drop 56 = dktX7_ran_2 := dk_seg dksX7_ran_1 41 rfl rfl
theorem dksX7_ran_3 : cX7_ran.data.toList.drop 78 = dktX7_ran_3 := dk_seg dksX7_ran_2 22 rfl rfl
theorem dksX7_ran_4 : cX7_ran.data.toList.drop 102 = dktX7_ran_4 := dk_seg dksX7_ran_3 24 rfl rfl
theorem dX7_ran_0 : decode cX7_ran 0 = .ok (.aload_n 0, 1) := dk_42 (dk_at dksX7_ran_0 0 rfl rfl)
theorem dX7_ran_1 : decode cX7_ran 1 = .ok (.iconst 0, 1) := dk_3 (dk_at dksX7_ran_0 1 rfl rfl)
theorem dX7_ran_2 : decode cX7_ran 2 = .ok (.putfield 190, 3) := dk_181 0 190 (dk_at dksX7_ran_0 2 rfl rfl)
theorem dX7_ran_5 : decode cX7_ran 5 = .ok (.aload_n 0, 1) := dk_42 (dk_at dksX7_ran_0 5 rfl rfl)
theorem dX7_ran_6 : decode cX7_ran 6 = .ok (.getfield 409, 3) := dk_180 1 153 (dk_at dksX7_ran_0 6 rfl rfl)
theorem dX7_ran_9 : decode cX7_ran 9 = .ok (.ifCond .ne 5, 3) := dk_154 0 5 (dk_at dksX7_ran_0 9 rfl rfl)
theorem dX7_ran_12 : decode cX7_ran 12 = .ok (.iconst (-1), 1) := dk_2 (dk_at dksX7_ran_0 12 rfl rfl)
theorem dX7_ran_13 : decode cX7_ran 13 = .ok (.ireturn, 1) := dk_172 (dk_at dksX7_ran_0 13 rfl rfl)
theorem dX7_ran_14 : decode cX7_ran 14 = .ok (.iload_n 1, 1) := dk_27 (dk_at dksX7_ran_0 14 rfl rfl)
theorem dX7_ran_15 : decode cX7_ran 15 = .ok (.tableswitch 90 0 6 #[41, 48, 55, 62, 69, 76, 83], 41) := by decide +kernel
theorem dX7_ran_56 : decode cX7_ran 56 = .ok (.aload_n 0, 1) := dk_42 (dk_at dksX7_ran_2 0 rfl rfl)
theorem dX7_ran_57 : decode cX7_ran 57 = .ok (.getfield 75, 3) := dk_180 0 75 (dk_at dksX7_ran_2 1 rfl rfl)
theorem dX7_ran_60 : decode cX7_ran 60 = .ok (.iconst 1, 1) := dk_4 (dk_at dksX7_ran_2 4 rfl rfl)
theorem dX7_ran_61 : decode cX7_ran 61 = .ok (.iaload, 1) := dk_46 (dk_at dksX7_ran_2 5 rfl rfl)
theorem dX7_ran_62 : decode cX7_ran 62 = .ok (.ireturn, 1) := dk_172 (dk_at dksX7_ran_2 6 rfl rfl)
theorem dX7_ran_63 : decode cX7_ran 63 = .ok (.aload_n 0, 1) := dk_42 (dk_at dksX7_ran_2 7 rfl rfl)
theorem dX7_ran_64 : decode cX7_ran 64 = .ok (.getfield 78, 3) := dk_180 0 78 (dk_at dksX7_ran_2 8 rfl rfl)
theorem dX7_ran_67 : decode cX7_ran 67 = .ok (.iconst 1, 1) := dk_4 (dk_at dksX7_ran_2 11 rfl rfl)
theorem dX7_ran_68 : decode cX7_ran 68 = .ok (.iaload, 1) := dk_46 (dk_at dksX7_ran_2 12 rfl rfl)
theorem dX7_ran_69 : decode cX7_ran 69 = .ok (.ireturn, 1) := dk_172 (dk_at dksX7_ran_2 13 rfl rfl)
theorem dX7_ran_70 : decode cX7_ran 70 = .ok (.aload_n 0, 1) := dk_42 (dk_at dksX7_ran_2 14 rfl rfl)
theorem dX7_ran_71 : decode cX7_ran 71 = .ok (.getfield 60, 3) := dk_180 0 60 (dk_at dksX7_ran_2 15 rfl rfl)
theorem dX7_ran_74 : decode cX7_ran 74 = .ok (.iconst 1, 1) := dk_4 (dk_at dksX7_ran_2 18 rfl rfl)
theorem dX7_ran_75 : decode cX7_ran 75 = .ok (.iaload, 1) := dk_46 (dk_at dksX7_ran_2 19 rfl rfl)
theorem dX7_ran_76 : decode cX7_ran 76 = .ok (.ireturn, 1) := dk_172 (dk_at dksX7_ran_2 20 rfl rfl)
theorem dX7_ran_77 : decode cX7_ran 77 = .ok (.aload_n 0, 1) := dk_42 (dk_at dksX7_ran_2 21 rfl rfl)
theorem dX7_ran_78 : decode cX7_ran 78 = .ok (.getfield 63, 3) := dk_180 0 63 (dk_at dksX7_ran_3 0 rfl rfl)
theorem dX7_ran_81 : decode cX7_ran 81 = .ok (.iconst 1, 1) := dk_4 (dk_at dksX7_ran_3 3 rfl rfl)
theorem dX7_ran_82 : decode cX7_ran 82 = .ok (.iaload, 1) := dk_46 (dk_at dksX7_ran_3 4 rfl rfl)
theorem dX7_ran_83 : decode cX7_ran 83 = .ok (.ireturn, 1) := dk_172 (dk_at dksX7_ran_3 5 rfl rfl)
theorem dX7_ran_84 : decode cX7_ran 84 = .ok (.aload_n 0, 1) := dk_42 (dk_at dksX7_ran_3 6 rfl rfl)
theorem dX7_ran_85 : decode cX7_ran 85 = .ok (.getfield 81, 3) := dk_180 0 81 (dk_at dksX7_ran_3 7 rfl rfl)
theorem dX7_ran_88 : decode cX7_ran 88 = .ok (.iconst 1, 1) := dk_4 (dk_at dksX7_ran_3 10 rfl rfl)
theorem dX7_ran_89 : decode cX7_ran 89 = .ok (.iaload, 1) := dk_46 (dk_at dksX7_ran_3 11 rfl rfl)
theorem dX7_ran_90 : decode cX7_ran 90 = .ok (.ireturn, 1) := dk_172 (dk_at dksX7_ran_3 12 rfl rfl)
theorem dX7_ran_91 : decode cX7_ran 91 = .ok (.aload_n 0, 1) := dk_42 (dk_at dksX7_ran_3 13 rfl rfl)
theorem dX7_ran_92 : decode cX7_ran 92 = .ok (.getfield 84, 3) := dk_180 0 84 (dk_at dksX7_ran_3 14 rfl rfl)
theorem dX7_ran_95 : decode cX7_ran 95 = .ok (.iconst 1, 1) := dk_4 (dk_at dksX7_ran_3 17 rfl rfl)
theorem dX7_ran_96 : decode cX7_ran 96 = .ok (.iaload, 1) := dk_46 (dk_at dksX7_ran_3 18 rfl rfl)
theorem dX7_ran_97 : decode cX7_ran 97 = .ok (.ireturn, 1) := dk_172 (dk_at dksX7_ran_3 19 rfl rfl)
theorem dX7_ran_98 : decode cX7_ran 98 = .ok (.aload_n 0, 1) := dk_42 (dk_at dksX7_ran_3 20 rfl rfl)
theorem dX7_ran_99 : decode cX7_ran 99 = .ok (.getfield 87, 3) := dk_180 0 87 (dk_at dksX7_ran_3 21 rfl rfl)
theorem dX7_ran_102 : decode cX7_ran 102 = .ok (.iconst 1, 1) := dk_4 (dk_at dksX7_ran_4 0 rfl rfl)
theorem dX7_ran_103 : decode cX7_ran 103 = .ok (.iaload, 1) := dk_46 (dk_at dksX7_ran_4 1 rfl rfl)
theorem dX7_ran_104 : decode cX7_ran 104 = .ok (.ireturn, 1) := dk_172 (dk_at dksX7_ran_4 2 rfl rfl)
theorem dX7_ran_105 : decode cX7_ran 105 = .ok (.iconst (-1), 1) := dk_2 (dk_at dksX7_ran_4 3 rfl rfl)
theorem dX7_ran_106 : decode cX7_ran 106 = .ok (.ireturn, 1) := dk_172 (dk_at dksX7_ran_4 4 rfl rfl)
abbrev cX7_bar : ByteArray := prog_14_method_47_code
def yX7_bar : MethodName := ⟨RX7, "bar", "(II)I"⟩
def dkwX7_bar_2 : List UInt8 := [180, 0, 66, 17, 2, 208, 16, 12, 27, 104, 96, 28, 96, 4, 100, 46, 172]
abbrev dktX7_bar_2 : List UInt8 := dkwX7_bar_2 ++ []
def dkwX7_bar_1 : List UInt8 := [28, 4, 16, 12, 184, 0, 207, 154, 0, 7, 4, 167, 0, 4, 3, 182, 0, 222, 153, 0, 5, 3, 172, 42]
abbrev dktX7_bar_1 : List UInt8 := dkwX7_bar_1 ++ dktX7_bar_2
def dkwX7_bar_0 : List UInt8 := [42, 42, 180, 1, 153, 153, 0, 29, 27, 3, 42, 180, 0, 60, 4, 46, 4, 100, 184, 0, 207, 153, 0, 13]
abbrev dktX7_bar_0 : List UInt8 := dkwX7_bar_0 ++ dktX7_bar_1
theorem dksX7_bar_0 : cX7_bar.data.toList.drop 0 = dktX7_bar_0 := by decide +kernel
theorem dksX7_bar_1 : cX7_bar.data.toList.drop 24 = dktX7_bar_1 := dk_seg dksX7_bar_0 24 rfl rfl
theorem dksX7_bar_2 : cX7_bar.data.toList.drop 48 = dktX7_bar_2 := dk_seg dksX7_bar_1 24 rfl rfl
theorem dX7_bar_0 : decode cX7_bar 0 = .ok (.aload_n 0, 1) := dk_42 (dk_at dksX7_bar_0 0 rfl rfl)
theorem dX7_bar_1 : decode cX7_bar 1 = .ok (.aload_n 0, 1) := dk_42 (dk_at dksX7_bar_0 1 rfl rfl)
theorem dX7_bar_2 : decode cX7_bar 2 = .ok (.getfield 409, 3) := dk_180 1 153 (dk_at dksX7_bar_0 2 rfl rfl)
theorem dX7_bar_5 : decode cX7_bar 5 = .ok (.ifCond .eq 29, 3) := dk_153 0 29 (dk_at dksX7_bar_0 5 rfl rfl)
theorem dX7_bar_8 : decode cX7_bar 8 = .ok (.iload_n 1, 1) := dk_27 (dk_at dksX7_bar_0 8 rfl rfl)
theorem dX7_bar_9 : decode cX7_bar 9 = .ok (.iconst 0, 1) := dk_3 (dk_at dksX7_bar_0 9 rfl rfl)
theorem dX7_bar_10 : decode cX7_bar 10 = .ok (.aload_n 0, 1) := dk_42 (dk_at dksX7_bar_0 10 rfl rfl)
theorem dX7_bar_11 : decode cX7_bar 11 = .ok (.getfield 60, 3) := dk_180 0 60 (dk_at dksX7_bar_0 11 rfl rfl)
theorem dX7_bar_14 : decode cX7_bar 14 = .ok (.iconst 1, 1) := dk_4 (dk_at dksX7_bar_0 14 rfl rfl)
theorem dX7_bar_15 : decode cX7_bar 15 = .ok (.iaload, 1) := dk_46 (dk_at dksX7_bar_0 15 rfl rfl)
theorem dX7_bar_16 : decode cX7_bar 16 = .ok (.iconst 1, 1) := dk_4 (dk_at dksX7_bar_0 16 rfl rfl)
theorem dX7_bar_17 : decode cX7_bar 17 = .ok (.isub, 1) := dk_100 (dk_at dksX7_bar_0 17 rfl rfl)
theorem dX7_bar_18 : decode cX7_bar 18 = .ok (.invokestatic 207, 3) := dk_184 0 207 (dk_at dksX7_bar_0 18 rfl rfl)
theorem dX7_bar_21 : decode cX7_bar 21 = .ok (.ifCond .eq 13, 3) := dk_153 0 13 (dk_at dksX7_bar_0 21 rfl rfl)
theorem dX7_bar_24 : decode cX7_bar 24 = .ok (.iload_n 2, 1) := dk_28 (dk_at dksX7_bar_1 0 rfl rfl)
theorem dX7_bar_25 : decode cX7_bar 25 = .ok (.iconst 1, 1) := dk_4 (dk_at dksX7_bar_1 1 rfl rfl)
theorem dX7_bar_26 : decode cX7_bar 26 = .ok (.bipush 12, 2) := dk_16 12 (dk_at dksX7_bar_1 2 rfl rfl)
theorem dX7_bar_28 : decode cX7_bar 28 = .ok (.invokestatic 207, 3) := dk_184 0 207 (dk_at dksX7_bar_1 4 rfl rfl)
theorem dX7_bar_31 : decode cX7_bar 31 = .ok (.ifCond .ne 7, 3) := dk_154 0 7 (dk_at dksX7_bar_1 7 rfl rfl)
theorem dX7_bar_34 : decode cX7_bar 34 = .ok (.iconst 1, 1) := dk_4 (dk_at dksX7_bar_1 10 rfl rfl)
theorem dX7_bar_35 : decode cX7_bar 35 = .ok (.goto 4, 3) := dk_167 0 4 (dk_at dksX7_bar_1 11 rfl rfl)
theorem dX7_bar_38 : decode cX7_bar 38 = .ok (.iconst 0, 1) := dk_3 (dk_at dksX7_bar_1 14 rfl rfl)
theorem dX7_bar_39 : decode cX7_bar 39 = .ok (.invokevirtual 222, 3) := dk_182 0 222 (dk_at dksX7_bar_1 15 rfl rfl)
theorem dX7_bar_42 : decode cX7_bar 42 = .ok (.ifCond .eq 5, 3) := dk_153 0 5 (dk_at dksX7_bar_1 18 rfl rfl)
theorem dX7_bar_45 : decode cX7_bar 45 = .ok (.iconst 0, 1) := dk_3 (dk_at dksX7_bar_1 21 rfl rfl)
theorem dX7_bar_46 : decode cX7_bar 46 = .ok (.ireturn, 1) := dk_172 (dk_at dksX7_bar_1 22 rfl rfl)
theorem dX7_bar_47 : decode cX7_bar 47 = .ok (.aload_n 0, 1) := dk_42 (dk_at dksX7_bar_1 23 rfl rfl)
theorem dX7_bar_48 : decode cX7_bar 48 = .ok (.getfield 66, 3) := dk_180 0 66 (dk_at dksX7_bar_2 0 rfl rfl)
theorem dX7_bar_51 : decode cX7_bar 51 = .ok (.sipush 720, 3) := dk_17 2 208 (dk_at dksX7_bar_2 3 rfl rfl)
theorem dX7_bar_54 : decode cX7_bar 54 = .ok (.bipush 12, 2) := dk_16 12 (dk_at dksX7_bar_2 6 rfl rfl)
theorem dX7_bar_56 : decode cX7_bar 56 = .ok (.iload_n 1, 1) := dk_27 (dk_at dksX7_bar_2 8 rfl rfl)
theorem dX7_bar_57 : decode cX7_bar 57 = .ok (.imul, 1) := dk_104 (dk_at dksX7_bar_2 9 rfl rfl)
theorem dX7_bar_58 : decode cX7_bar 58 = .ok (.iadd, 1) := dk_96 (dk_at dksX7_bar_2 10 rfl rfl)
theorem dX7_bar_59 : decode cX7_bar 59 = .ok (.iload_n 2, 1) := dk_28 (dk_at dksX7_bar_2 11 rfl rfl)
theorem dX7_bar_60 : decode cX7_bar 60 = .ok (.iadd, 1) := dk_96 (dk_at dksX7_bar_2 12 rfl rfl)
theorem dX7_bar_61 : decode cX7_bar 61 = .ok (.iconst 1, 1) := dk_4 (dk_at dksX7_bar_2 13 rfl rfl)
theorem dX7_bar_62 : decode cX7_bar 62 = .ok (.isub, 1) := dk_100 (dk_at dksX7_bar_2 14 rfl rfl)
theorem dX7_bar_63 : decode cX7_bar 63 = .ok (.iaload, 1) := dk_46 (dk_at dksX7_bar_2 15 rfl rfl)
theorem dX7_bar_64 : decode cX7_bar 64 = .ok (.ireturn, 1) := dk_172 (dk_at dksX7_bar_2 16 rfl rfl)
abbrev cX7_wheel : ByteArray := prog_14_method_48_code
def yX7_wheel : MethodName := ⟨RX7, "wheel", "(I)I"⟩
def dkwX7_wheel_1 : List UInt8 := [182, 0, 222, 153, 0, 5, 3, 172, 42, 180, 0, 69, 7, 27, 96, 4, 100, 46, 172]
abbrev dktX7_wheel_1 : List UInt8 := dkwX7_wheel_1 ++ []
def dkwX7_wheel_0 : List UInt8 := [42, 42, 180, 1, 153, 153, 0, 12, 27, 4, 7, 184, 0, 207, 154, 0, 7, 4, 167, 0, 4, 3]
abbrev dktX7_wheel_0 : List UInt8 := dkwX7_wheel_0 ++ dktX7_wheel_1
theorem dksX7_wheel_0 : cX7_wheel.data.toList.drop 0 = dktX7_wheel_0 := by decide +kernel
theorem dksX7_wheel_1 : cX7_wheel.data.toList.drop 22 = dktX7_wheel_1 := dk_seg dksX7_wheel_0 22 rfl rfl
theorem dX7_wheel_0 : decode cX7_wheel 0 = .ok (.aload_n 0, 1) := dk_42 (dk_at dksX7_wheel_0 0 rfl rfl)
theorem dX7_wheel_1 : decode cX7_wheel 1 = .ok (.aload_n 0, 1) := dk_42 (dk_at dksX7_wheel_0 1 rfl rfl)
theorem dX7_wheel_2 : decode cX7_wheel 2 = .ok (.getfield 409, 3) := dk_180 1 153 (dk_at dksX7_wheel_0 2 rfl rfl)
theorem dX7_wheel_5 : decode cX7_wheel 5 = .ok (.ifCond .eq 12, 3) := dk_153 0 12 (dk_at dksX7_wheel_0 5 rfl rfl)
theorem dX7_wheel_8 : decode cX7_wheel 8 = .ok (.iload_n 1, 1) := dk_27 (dk_at dksX7_wheel_0 8 rfl rfl)
theorem dX7_wheel_9 : decode cX7_wheel 9 = .ok (.iconst 1, 1) := dk_4 (dk_at dksX7_wheel_0 9 rfl rfl)
theorem dX7_wheel_10 : decode cX7_wheel 10 = .ok (.iconst 4, 1) := dk_7 (dk_at dksX7_wheel_0 10 rfl rfl)
theorem dX7_wheel_11 : decode cX7_wheel 11 = .ok (.invokestatic 207, 3) := dk_184 0 207 (dk_at dksX7_wheel_0 11 rfl rfl)
theorem dX7_wheel_14 : decode cX7_wheel 14 = .ok (.ifCond .ne 7, 3) := dk_154 0 7 (dk_at dksX7_wheel_0 14 rfl rfl)
theorem dX7_wheel_17 : decode cX7_wheel 17 = .ok (.iconst 1, 1) := dk_4 (dk_at dksX7_wheel_0 17 rfl rfl)
theorem dX7_wheel_18 : decode cX7_wheel 18 = .ok (.goto 4, 3) := dk_167 0 4 (dk_at dksX7_wheel_0 18 rfl rfl)
theorem dX7_wheel_21 : decode cX7_wheel 21 = .ok (.iconst 0, 1) := dk_3 (dk_at dksX7_wheel_0 21 rfl rfl)
theorem dX7_wheel_22 : decode cX7_wheel 22 = .ok (.invokevirtual 222, 3) := dk_182 0 222 (dk_at dksX7_wheel_1 0 rfl rfl)
theorem dX7_wheel_25 : decode cX7_wheel 25 = .ok (.ifCond .eq 5, 3) := dk_153 0 5 (dk_at dksX7_wheel_1 3 rfl rfl)
theorem dX7_wheel_28 : decode cX7_wheel 28 = .ok (.iconst 0, 1) := dk_3 (dk_at dksX7_wheel_1 6 rfl rfl)
theorem dX7_wheel_29 : decode cX7_wheel 29 = .ok (.ireturn, 1) := dk_172 (dk_at dksX7_wheel_1 7 rfl rfl)
theorem dX7_wheel_30 : decode cX7_wheel 30 = .ok (.aload_n 0, 1) := dk_42 (dk_at dksX7_wheel_1 8 rfl rfl)
theorem dX7_wheel_31 : decode cX7_wheel 31 = .ok (.getfield 69, 3) := dk_180 0 69 (dk_at dksX7_wheel_1 9 rfl rfl)
theorem dX7_wheel_34 : decode cX7_wheel 34 = .ok (.iconst 4, 1) := dk_7 (dk_at dksX7_wheel_1 12 rfl rfl)
theorem dX7_wheel_35 : decode cX7_wheel 35 = .ok (.iload_n 1, 1) := dk_27 (dk_at dksX7_wheel_1 13 rfl rfl)
theorem dX7_wheel_36 : decode cX7_wheel 36 = .ok (.iadd, 1) := dk_96 (dk_at dksX7_wheel_1 14 rfl rfl)
theorem dX7_wheel_37 : decode cX7_wheel 37 = .ok (.iconst 1, 1) := dk_4 (dk_at dksX7_wheel_1 15 rfl rfl)
theorem dX7_wheel_38 : decode cX7_wheel 38 = .ok (.isub, 1) := dk_100 (dk_at dksX7_wheel_1 16 rfl rfl)
theorem dX7_wheel_39 : decode cX7_wheel 39 = .ok (.iaload, 1) := dk_46 (dk_at dksX7_wheel_1 17 rfl rfl)
theorem dX7_wheel_40 : decode cX7_wheel 40 = .ok (.ireturn, 1) := dk_172 (dk_at dksX7_wheel_1 18 rfl rfl)
abbrev cX7_pass : ByteArray := prog_14_method_50_code
def yX7_pass : MethodName := ⟨RX7, "pass", "(II)Z"⟩
def dkwX7_pass_7 : List UInt8 := [4, 172]
abbrev dktX7_pass_7 : List UInt8 := dkwX7_pass_7 ++ []
def dkwX7_pass_6 : List UInt8 := [42, 180, 0, 13, 17, 3, 32, 27, 104, 29, 96, 42, 180, 0, 93, 29, 46, 79, 132, 3, 1, 167, 255, 222]
abbrev dktX7_pass_6 : List UInt8 := dkwX7_pass_6 ++ dktX7_pass_7
def dkwX7_pass_5 : List UInt8 := [167, 255, 212, 132, 3, 1, 167, 255, 193, 3, 62, 29, 16, 20, 42, 180, 0, 17, 27, 46, 104, 162, 0, 27]
abbrev dktX7_pass_5 : List UInt8 := dkwX7_pass_5 ++ dktX7_pass_6
def dkwX7_pass_4 : List UInt8 := [16, 20, 16, 40, 27, 104, 42, 180, 0, 90, 29, 46, 96, 104, 21, 4, 96, 46, 79, 132, 4, 1]
abbrev dktX7_pass_4 : List UInt8 := dkwX7_pass_4 ++ dktX7_pass_5
def dkwX7_pass_3 : List UInt8 := [54, 4, 21, 4, 16, 20, 162, 0, 43, 42, 180, 0, 93, 16, 20, 29, 104, 21, 4, 96, 42, 180, 0, 13]
abbrev dktX7_pass_3 : List UInt8 := dkwX7_pass_3 ++ dktX7_pass_4
def dkwX7_pass_2 : List UInt8 := [167, 255, 236, 42, 27, 28, 4, 100, 182, 1, 157, 3, 62, 29, 42, 180, 0, 17, 27, 46, 162, 0, 59, 3]
abbrev dktX7_pass_2 : List UInt8 := dkwX7_pass_2 ++ dktX7_pass_3
def dkwX7_pass_1 : List UInt8 := [3, 62, 29, 42, 180, 0, 17, 27, 46, 162, 0, 16, 42, 180, 0, 90, 29, 29, 79, 132, 3, 1]
abbrev dktX7_pass_1 : List UInt8 := dkwX7_pass_1 ++ dktX7_pass_2
def dkwX7_pass_0 : List UInt8 := [42, 3, 181, 0, 190, 27, 184, 0, 214, 153, 0, 13, 28, 4, 16, 20, 184, 0, 207, 154, 0, 5, 3, 172]
abbrev dktX7_pass_0 : List UInt8 := dkwX7_pass_0 ++ dktX7_pass_1
theorem dksX7_pass_0 : cX7_pass.data.toList.drop 0 = dktX7_pass_0 := by decide +kernel
theorem dksX7_pass_1 : cX7_pass.data.toList.drop 24 = dktX7_pass_1 := dk_seg dksX7_pass_0 24 rfl rfl
theorem dksX7_pass_2 : cX7_pass.data.toList.drop 46 = dktX7_pass_2 := dk_seg dksX7_pass_1 22 rfl rfl
theorem dksX7_pass_3 : cX7_pass.data.toList.drop 70 = dktX7_pass_3 := dk_seg dksX7_pass_2 24 rfl rfl
theorem dksX7_pass_4 : cX7_pass.data.toList.drop 94 = dktX7_pass_4 := dk_seg dksX7_pass_3 24 rfl rfl
theorem dksX7_pass_5 : cX7_pass.data.toList.drop 116 = dktX7_pass_5 := dk_seg dksX7_pass_4 22 rfl rfl
theorem dksX7_pass_6 : cX7_pass.data.toList.drop 140 = dktX7_pass_6 := dk_seg dksX7_pass_5 24 rfl rfl
theorem dksX7_pass_7 : cX7_pass.data.toList.drop 164 = dktX7_pass_7 := dk_seg dksX7_pass_6 24 rfl rfl
theorem dX7_pass_0 : decode cX7_pass 0 = .ok (.aload_n 0, 1) := dk_42 (dk_at dksX7_pass_0 0 rfl rfl)
theorem dX7_pass_1 : decode cX7_pass 1 = .ok (.iconst 0, 1) := dk_3 (dk_at dksX7_pass_0 1 rfl rfl)
theorem dX7_pass_2 : decode cX7_pass 2 = .ok (.putfield 190, 3) := dk_181 0 190 (dk_at dksX7_pass_0 2 rfl rfl)
theorem dX7_pass_5 : decode cX7_pass 5 = .ok (.iload_n 1, 1) := dk_27 (dk_at dksX7_pass_0 5 rfl rfl)
theorem dX7_pass_6 : decode cX7_pass 6 = .ok (.invokestatic 214, 3) := dk_184 0 214 (dk_at dksX7_pass_0 6 rfl rfl)
theorem dX7_pass_9 : decode cX7_pass 9 = .ok (.ifCond .eq 13, 3) := dk_153 0 13 (dk_at dksX7_pass_0 9 rfl rfl)
theorem dX7_pass_12 : decode cX7_pass 12 = .ok (.iload_n 2, 1) := dk_28 (dk_at dksX7_pass_0 12 rfl rfl)
theorem dX7_pass_13 : decode cX7_pass 13 = .ok (.iconst 1, 1) := dk_4 (dk_at dksX7_pass_0 13 rfl rfl)
theorem dX7_pass_14 : decode cX7_pass 14 = .ok (.bipush 20, 2) := dk_16 20 (dk_at dksX7_pass_0 14 rfl rfl)
theorem dX7_pass_16 : decode cX7_pass 16 = .ok (.invokestatic 207, 3) := dk_184 0 207 (dk_at dksX7_pass_0 16 rfl rfl)
theorem dX7_pass_19 : decode cX7_pass 19 = .ok (.ifCond .ne 5, 3) := dk_154 0 5 (dk_at dksX7_pass_0 19 rfl rfl)
theorem dX7_pass_22 : decode cX7_pass 22 = .ok (.iconst 0, 1) := dk_3 (dk_at dksX7_pass_0 22 rfl rfl)
theorem dX7_pass_23 : decode cX7_pass 23 = .ok (.ireturn, 1) := dk_172 (dk_at dksX7_pass_0 23 rfl rfl)
theorem dX7_pass_24 : decode cX7_pass 24 = .ok (.iconst 0, 1) := dk_3 (dk_at dksX7_pass_1 0 rfl rfl)
theorem dX7_pass_25 : decode cX7_pass 25 = .ok (.istore_n 3, 1) := dk_62 (dk_at dksX7_pass_1 1 rfl rfl)
theorem dX7_pass_26 : decode cX7_pass 26 = .ok (.iload_n 3, 1) := dk_29 (dk_at dksX7_pass_1 2 rfl rfl)
theorem dX7_pass_27 : decode cX7_pass 27 = .ok (.aload_n 0, 1) := dk_42 (dk_at dksX7_pass_1 3 rfl rfl)
theorem dX7_pass_28 : decode cX7_pass 28 = .ok (.getfield 17, 3) := dk_180 0 17 (dk_at dksX7_pass_1 4 rfl rfl)
theorem dX7_pass_31 : decode cX7_pass 31 = .ok (.iload_n 1, 1) := dk_27 (dk_at dksX7_pass_1 7 rfl rfl)
theorem dX7_pass_32 : decode cX7_pass 32 = .ok (.iaload, 1) := dk_46 (dk_at dksX7_pass_1 8 rfl rfl)
theorem dX7_pass_33 : decode cX7_pass 33 = .ok (.if_icmp .ge 16, 3) := dk_162 0 16 (dk_at dksX7_pass_1 9 rfl rfl)
theorem dX7_pass_36 : decode cX7_pass 36 = .ok (.aload_n 0, 1) := dk_42 (dk_at dksX7_pass_1 12 rfl rfl)
theorem dX7_pass_37 : decode cX7_pass 37 = .ok (.getfield 90, 3) := dk_180 0 90 (dk_at dksX7_pass_1 13 rfl rfl)
theorem dX7_pass_40 : decode cX7_pass 40 = .ok (.iload_n 3, 1) := dk_29 (dk_at dksX7_pass_1 16 rfl rfl)
theorem dX7_pass_41 : decode cX7_pass 41 = .ok (.iload_n 3, 1) := dk_29 (dk_at dksX7_pass_1 17 rfl rfl)
theorem dX7_pass_42 : decode cX7_pass 42 = .ok (.iastore, 1) := dk_79 (dk_at dksX7_pass_1 18 rfl rfl)
theorem dX7_pass_43 : decode cX7_pass 43 = .ok (.iinc 3 1, 3) := dk_132 3 1 (dk_at dksX7_pass_1 19 rfl rfl)
theorem dX7_pass_46 : decode cX7_pass 46 = .ok (.goto (-20), 3) := dk_167 255 236 (dk_at dksX7_pass_2 0 rfl rfl)
theorem dX7_pass_49 : decode cX7_pass 49 = .ok (.aload_n 0, 1) := dk_42 (dk_at dksX7_pass_2 3 rfl rfl)
theorem dX7_pass_50 : decode cX7_pass 50 = .ok (.iload_n 1, 1) := dk_27 (dk_at dksX7_pass_2 4 rfl rfl)
theorem dX7_pass_51 : decode cX7_pass 51 = .ok (.iload_n 2, 1) := dk_28 (dk_at dksX7_pass_2 5 rfl rfl)
theorem dX7_pass_52 : decode cX7_pass 52 = .ok (.iconst 1, 1) := dk_4 (dk_at dksX7_pass_2 6 rfl rfl)
theorem dX7_pass_53 : decode cX7_pass 53 = .ok (.isub, 1) := dk_100 (dk_at dksX7_pass_2 7 rfl rfl)
theorem dX7_pass_54 : decode cX7_pass 54 = .ok (.invokevirtual 413, 3) := dk_182 1 157 (dk_at dksX7_pass_2 8 rfl rfl)
theorem dX7_pass_57 : decode cX7_pass 57 = .ok (.iconst 0, 1) := dk_3 (dk_at dksX7_pass_2 11 rfl rfl)
theorem dX7_pass_58 : decode cX7_pass 58 = .ok (.istore_n 3, 1) := dk_62 (dk_at dksX7_pass_2 12 rfl rfl)
theorem dX7_pass_59 : decode cX7_pass 59 = .ok (.iload_n 3, 1) := dk_29 (dk_at dksX7_pass_2 13 rfl rfl)
theorem dX7_pass_60 : decode cX7_pass 60 = .ok (.aload_n 0, 1) := dk_42 (dk_at dksX7_pass_2 14 rfl rfl)
theorem dX7_pass_61 : decode cX7_pass 61 = .ok (.getfield 17, 3) := dk_180 0 17 (dk_at dksX7_pass_2 15 rfl rfl)
theorem dX7_pass_64 : decode cX7_pass 64 = .ok (.iload_n 1, 1) := dk_27 (dk_at dksX7_pass_2 18 rfl rfl)
theorem dX7_pass_65 : decode cX7_pass 65 = .ok (.iaload, 1) := dk_46 (dk_at dksX7_pass_2 19 rfl rfl)
theorem dX7_pass_66 : decode cX7_pass 66 = .ok (.if_icmp .ge 59, 3) := dk_162 0 59 (dk_at dksX7_pass_2 20 rfl rfl)
theorem dX7_pass_69 : decode cX7_pass 69 = .ok (.iconst 0, 1) := dk_3 (dk_at dksX7_pass_2 23 rfl rfl)
theorem dX7_pass_70 : decode cX7_pass 70 = .ok (.istore 4, 2) := dk_54 4 (dk_at dksX7_pass_3 0 rfl rfl)
theorem dX7_pass_72 : decode cX7_pass 72 = .ok (.iload 4, 2) := dk_21 4 (dk_at dksX7_pass_3 2 rfl rfl)
theorem dX7_pass_74 : decode cX7_pass 74 = .ok (.bipush 20, 2) := dk_16 20 (dk_at dksX7_pass_3 4 rfl rfl)
theorem dX7_pass_76 : decode cX7_pass 76 = .ok (.if_icmp .ge 43, 3) := dk_162 0 43 (dk_at dksX7_pass_3 6 rfl rfl)
theorem dX7_pass_79 : decode cX7_pass 79 = .ok (.aload_n 0, 1) := dk_42 (dk_at dksX7_pass_3 9 rfl rfl)
theorem dX7_pass_80 : decode cX7_pass 80 = .ok (.getfield 93, 3) := dk_180 0 93 (dk_at dksX7_pass_3 10 rfl rfl)
theorem dX7_pass_83 : decode cX7_pass 83 = .ok (.bipush 20, 2) := dk_16 20 (dk_at dksX7_pass_3 13 rfl rfl)
theorem dX7_pass_85 : decode cX7_pass 85 = .ok (.iload_n 3, 1) := dk_29 (dk_at dksX7_pass_3 15 rfl rfl)
theorem dX7_pass_86 : decode cX7_pass 86 = .ok (.imul, 1) := dk_104 (dk_at dksX7_pass_3 16 rfl rfl)
theorem dX7_pass_87 : decode cX7_pass 87 = .ok (.iload 4, 2) := dk_21 4 (dk_at dksX7_pass_3 17 rfl rfl)
theorem dX7_pass_89 : decode cX7_pass 89 = .ok (.iadd, 1) := dk_96 (dk_at dksX7_pass_3 19 rfl rfl)
theorem dX7_pass_90 : decode cX7_pass 90 = .ok (.aload_n 0, 1) := dk_42 (dk_at dksX7_pass_3 20 rfl rfl)
theorem dX7_pass_91 : decode cX7_pass 91 = .ok (.getfield 13, 3) := dk_180 0 13 (dk_at dksX7_pass_3 21 rfl rfl)
theorem dX7_pass_94 : decode cX7_pass 94 = .ok (.bipush 20, 2) := dk_16 20 (dk_at dksX7_pass_4 0 rfl rfl)
theorem dX7_pass_96 : decode cX7_pass 96 = .ok (.bipush 40, 2) := dk_16 40 (dk_at dksX7_pass_4 2 rfl rfl)
theorem dX7_pass_98 : decode cX7_pass 98 = .ok (.iload_n 1, 1) := dk_27 (dk_at dksX7_pass_4 4 rfl rfl)
theorem dX7_pass_99 : decode cX7_pass 99 = .ok (.imul, 1) := dk_104 (dk_at dksX7_pass_4 5 rfl rfl)
theorem dX7_pass_100 : decode cX7_pass 100 = .ok (.aload_n 0, 1) := dk_42 (dk_at dksX7_pass_4 6 rfl rfl)
theorem dX7_pass_101 : decode cX7_pass 101 = .ok (.getfield 90, 3) := dk_180 0 90 (dk_at dksX7_pass_4 7 rfl rfl)
theorem dX7_pass_104 : decode cX7_pass 104 = .ok (.iload_n 3, 1) := dk_29 (dk_at dksX7_pass_4 10 rfl rfl)
theorem dX7_pass_105 : decode cX7_pass 105 = .ok (.iaload, 1) := dk_46 (dk_at dksX7_pass_4 11 rfl rfl)
theorem dX7_pass_106 : decode cX7_pass 106 = .ok (.iadd, 1) := dk_96 (dk_at dksX7_pass_4 12 rfl rfl)
theorem dX7_pass_107 : decode cX7_pass 107 = .ok (.imul, 1) := dk_104 (dk_at dksX7_pass_4 13 rfl rfl)
theorem dX7_pass_108 : decode cX7_pass 108 = .ok (.iload 4, 2) := dk_21 4 (dk_at dksX7_pass_4 14 rfl rfl)
theorem dX7_pass_110 : decode cX7_pass 110 = .ok (.iadd, 1) := dk_96 (dk_at dksX7_pass_4 16 rfl rfl)
theorem dX7_pass_111 : decode cX7_pass 111 = .ok (.iaload, 1) := dk_46 (dk_at dksX7_pass_4 17 rfl rfl)
theorem dX7_pass_112 : decode cX7_pass 112 = .ok (.iastore, 1) := dk_79 (dk_at dksX7_pass_4 18 rfl rfl)
theorem dX7_pass_113 : decode cX7_pass 113 = .ok (.iinc 4 1, 3) := dk_132 4 1 (dk_at dksX7_pass_4 19 rfl rfl)
theorem dX7_pass_116 : decode cX7_pass 116 = .ok (.goto (-44), 3) := dk_167 255 212 (dk_at dksX7_pass_5 0 rfl rfl)
theorem dX7_pass_119 : decode cX7_pass 119 = .ok (.iinc 3 1, 3) := dk_132 3 1 (dk_at dksX7_pass_5 3 rfl rfl)
theorem dX7_pass_122 : decode cX7_pass 122 = .ok (.goto (-63), 3) := dk_167 255 193 (dk_at dksX7_pass_5 6 rfl rfl)
theorem dX7_pass_125 : decode cX7_pass 125 = .ok (.iconst 0, 1) := dk_3 (dk_at dksX7_pass_5 9 rfl rfl)
theorem dX7_pass_126 : decode cX7_pass 126 = .ok (.istore_n 3, 1) := dk_62 (dk_at dksX7_pass_5 10 rfl rfl)
theorem dX7_pass_127 : decode cX7_pass 127 = .ok (.iload_n 3, 1) := dk_29 (dk_at dksX7_pass_5 11 rfl rfl)
theorem dX7_pass_128 : decode cX7_pass 128 = .ok (.bipush 20, 2) := dk_16 20 (dk_at dksX7_pass_5 12 rfl rfl)
theorem dX7_pass_130 : decode cX7_pass 130 = .ok (.aload_n 0, 1) := dk_42 (dk_at dksX7_pass_5 14 rfl rfl)
theorem dX7_pass_131 : decode cX7_pass 131 = .ok (.getfield 17, 3) := dk_180 0 17 (dk_at dksX7_pass_5 15 rfl rfl)
theorem dX7_pass_134 : decode cX7_pass 134 = .ok (.iload_n 1, 1) := dk_27 (dk_at dksX7_pass_5 18 rfl rfl)
theorem dX7_pass_135 : decode cX7_pass 135 = .ok (.iaload, 1) := dk_46 (dk_at dksX7_pass_5 19 rfl rfl)
theorem dX7_pass_136 : decode cX7_pass 136 = .ok (.imul, 1) := dk_104 (dk_at dksX7_pass_5 20 rfl rfl)
theorem dX7_pass_137 : decode cX7_pass 137 = .ok (.if_icmp .ge 27, 3) := dk_162 0 27 (dk_at dksX7_pass_5 21 rfl rfl)
theorem dX7_pass_140 : decode cX7_pass 140 = .ok (.aload_n 0, 1) := dk_42 (dk_at dksX7_pass_6 0 rfl rfl)
theorem dX7_pass_141 : decode cX7_pass 141 = .ok (.getfield 13, 3) := dk_180 0 13 (dk_at dksX7_pass_6 1 rfl rfl)
theorem dX7_pass_144 : decode cX7_pass 144 = .ok (.sipush 800, 3) := dk_17 3 32 (dk_at dksX7_pass_6 4 rfl rfl)
theorem dX7_pass_147 : decode cX7_pass 147 = .ok (.iload_n 1, 1) := dk_27 (dk_at dksX7_pass_6 7 rfl rfl)
theorem dX7_pass_148 : decode cX7_pass 148 = .ok (.imul, 1) := dk_104 (dk_at dksX7_pass_6 8 rfl rfl)
theorem dX7_pass_149 : decode cX7_pass 149 = .ok (.iload_n 3, 1) := dk_29 (dk_at dksX7_pass_6 9 rfl rfl)
theorem dX7_pass_150 : decode cX7_pass 150 = .ok (.iadd, 1) := dk_96 (dk_at dksX7_pass_6 10 rfl rfl)
theorem dX7_pass_151 : decode cX7_pass 151 = .ok (.aload_n 0, 1) := dk_42 (dk_at dksX7_pass_6 11 rfl rfl)
theorem dX7_pass_152 : decode cX7_pass 152 = .ok (.getfield 93, 3) := dk_180 0 93 (dk_at dksX7_pass_6 12 rfl rfl)
theorem dX7_pass_155 : decode cX7_pass 155 = .ok (.iload_n 3, 1) := dk_29 (dk_at dksX7_pass_6 15 rfl rfl)
theorem dX7_pass_156 : decode cX7_pass 156 = .ok (.iaload, 1) := dk_46 (dk_at dksX7_pass_6 16 rfl rfl)
theorem dX7_pass_157 : decode cX7_pass 157 = .ok (.iastore, 1) := dk_79 (dk_at dksX7_pass_6 17 rfl rfl)
theorem dX7_pass_158 : decode cX7_pass 158 = .ok (.iinc 3 1, 3) := dk_132 3 1 (dk_at dksX7_pass_6 18 rfl rfl)
theorem dX7_pass_161 : decode cX7_pass 161 = .ok (.goto (-34), 3) := dk_167 255 222 (dk_at dksX7_pass_6 21 rfl rfl)
theorem dX7_pass_164 : decode cX7_pass 164 = .ok (.iconst 1, 1) := dk_4 (dk_at dksX7_pass_7 0 rfl rfl)
theorem dX7_pass_165 : decode cX7_pass 165 = .ok (.ireturn, 1) := dk_172 (dk_at dksX7_pass_7 1 rfl rfl)
abbrev cX7_sort : ByteArray := prog_14_method_49_code
def yX7_sort : MethodName := ⟨RX7, "sort", "(II)V"⟩
def dkwX7_sort_5 : List UInt8 := [180, 0, 90, 21, 5, 42, 180, 0, 93, 21, 5, 46, 79, 132, 5, 1, 167, 255, 233, 177]
abbrev dktX7_sort_5 : List UInt8 := dkwX7_sort_5 ++ []
def dkwX7_sort_4 : List UInt8 := [132, 6, 1, 167, 255, 182, 132, 5, 1, 167, 255, 166, 3, 54, 5, 21, 5, 29, 162, 0, 23, 42]
abbrev dktX7_sort_4 : List UInt8 := dkwX7_sort_4 ++ dktX7_sort_5
def dkwX7_sort_3 : List UInt8 := [159, 0, 6, 167, 0, 20, 42, 180, 0, 93, 21, 4, 42, 180, 0, 90, 21, 6, 46, 79, 132, 4, 1]
abbrev dktX7_sort_3 : List UInt8 := dkwX7_sort_3 ++ dktX7_sort_4
def dkwX7_sort_2 : List UInt8 := [104, 28, 96, 46, 16, 16, 112, 54, 7, 21, 7, 16, 15, 160, 0, 7, 2, 167, 0, 5, 21, 7, 21, 5]
abbrev dktX7_sort_2 : List UInt8 := dkwX7_sort_2 ++ dktX7_sort_3
def dkwX7_sort_1 : List UInt8 := [21, 6, 29, 162, 0, 74, 42, 180, 0, 13, 16, 20, 16, 40, 27, 104, 42, 180, 0, 90, 21, 6, 46, 96]
abbrev dktX7_sort_1 : List UInt8 := dkwX7_sort_1 ++ dktX7_sort_2
def dkwX7_sort_0 : List UInt8 := [42, 180, 0, 17, 27, 46, 62, 3, 54, 4, 2, 54, 5, 21, 5, 16, 10, 162, 0, 89, 3, 54, 6]
abbrev dktX7_sort_0 : List UInt8 := dkwX7_sort_0 ++ dktX7_sort_1
theorem dksX7_sort_0 : cX7_sort.data.toList.drop 0 = dktX7_sort_0 := by decide +kernel
theorem dksX7_sort_1 : cX7_sort.data.toList.drop 23 = dktX7_sort_1 := dk_seg dksX7_sort_0 23 rfl rfl
theorem dksX7_sort_2 : cX7_sort.data.toList.drop 47 = dktX7_sort_2 := dk_seg dksX7_sort_1 24 rfl rfl
theorem dksX7_sort_3 : cX7_sort.data.toList.drop 71 = dktX7_sort_3 := dk_seg dksX7_sort_2 24 rfl rfl
theorem dksX7_sort_4 : cX7_sort.data.toList.drop 94 = dktX7_sort_4 := dk_seg dksX7_sort_3 23 rfl rfl
theorem dksX7_sort_5 : cX7_sort.data.toList.drop 116 = dktX7_sort_5 := dk_seg dksX7_sort_4 22 rfl rfl
theorem dX7_sort_0 : decode cX7_sort 0 = .ok (.aload_n 0, 1) := dk_42 (dk_at dksX7_sort_0 0 rfl rfl)
theorem dX7_sort_1 : decode cX7_sort 1 = .ok (.getfield 17, 3) := dk_180 0 17 (dk_at dksX7_sort_0 1 rfl rfl)
theorem dX7_sort_4 : decode cX7_sort 4 = .ok (.iload_n 1, 1) := dk_27 (dk_at dksX7_sort_0 4 rfl rfl)
theorem dX7_sort_5 : decode cX7_sort 5 = .ok (.iaload, 1) := dk_46 (dk_at dksX7_sort_0 5 rfl rfl)
theorem dX7_sort_6 : decode cX7_sort 6 = .ok (.istore_n 3, 1) := dk_62 (dk_at dksX7_sort_0 6 rfl rfl)
theorem dX7_sort_7 : decode cX7_sort 7 = .ok (.iconst 0, 1) := dk_3 (dk_at dksX7_sort_0 7 rfl rfl)
theorem dX7_sort_8 : decode cX7_sort 8 = .ok (.istore 4, 2) := dk_54 4 (dk_at dksX7_sort_0 8 rfl rfl)
theorem dX7_sort_10 : decode cX7_sort 10 = .ok (.iconst (-1), 1) := dk_2 (dk_at dksX7_sort_0 10 rfl rfl)
theorem dX7_sort_11 : decode cX7_sort 11 = .ok (.istore 5, 2) := dk_54 5 (dk_at dksX7_sort_0 11 rfl rfl)
theorem dX7_sort_13 : decode cX7_sort 13 = .ok (.iload 5, 2) := dk_21 5 (dk_at dksX7_sort_0 13 rfl rfl)
theorem dX7_sort_15 : decode cX7_sort 15 = .ok (.bipush 10, 2) := dk_16 10 (dk_at dksX7_sort_0 15 rfl rfl)
theorem dX7_sort_17 : decode cX7_sort 17 = .ok (.if_icmp .ge 89, 3) := dk_162 0 89 (dk_at dksX7_sort_0 17 rfl rfl)
theorem dX7_sort_20 : decode cX7_sort 20 = .ok (.iconst 0, 1) := dk_3 (dk_at dksX7_sort_0 20 rfl rfl)
theorem dX7_sort_21 : decode cX7_sort 21 = .ok (.istore 6, 2) := dk_54 6 (dk_at dksX7_sort_0 21 rfl rfl)
theorem dX7_sort_23 : decode cX7_sort 23 = .ok (.iload 6, 2) := dk_21 6 (dk_at dksX7_sort_1 0 rfl rfl)
theorem dX7_sort_25 : decode cX7_sort 25 = .ok (.iload_n 3, 1) := dk_29 (dk_at dksX7_sort_1 2 rfl rfl)
theorem dX7_sort_26 : decode cX7_sort 26 = .ok (.if_icmp .ge 74, 3) := dk_162 0 74 (dk_at dksX7_sort_1 3 rfl rfl)
theorem dX7_sort_29 : decode cX7_sort 29 = .ok (.aload_n 0, 1) := dk_42 (dk_at dksX7_sort_1 6 rfl rfl)
theorem dX7_sort_30 : decode cX7_sort 30 = .ok (.getfield 13, 3) := dk_180 0 13 (dk_at dksX7_sort_1 7 rfl rfl)
theorem dX7_sort_33 : decode cX7_sort 33 = .ok (.bipush 20, 2) := dk_16 20 (dk_at dksX7_sort_1 10 rfl rfl)
theorem dX7_sort_35 : decode cX7_sort 35 = .ok (.bipush 40, 2) := dk_16 40 (dk_at dksX7_sort_1 12 rfl rfl)
theorem dX7_sort_37 : decode cX7_sort 37 = .ok (.iload_n 1, 1) := dk_27 (dk_at dksX7_sort_1 14 rfl rfl)
theorem dX7_sort_38 : decode cX7_sort 38 = .ok (.imul, 1) := dk_104 (dk_at dksX7_sort_1 15 rfl rfl)
theorem dX7_sort_39 : decode cX7_sort 39 = .ok (.aload_n 0, 1) := dk_42 (dk_at dksX7_sort_1 16 rfl rfl)
theorem dX7_sort_40 : decode cX7_sort 40 = .ok (.getfield 90, 3) := dk_180 0 90 (dk_at dksX7_sort_1 17 rfl rfl)
theorem dX7_sort_43 : decode cX7_sort 43 = .ok (.iload 6, 2) := dk_21 6 (dk_at dksX7_sort_1 20 rfl rfl)
theorem dX7_sort_45 : decode cX7_sort 45 = .ok (.iaload, 1) := dk_46 (dk_at dksX7_sort_1 22 rfl rfl)
theorem dX7_sort_46 : decode cX7_sort 46 = .ok (.iadd, 1) := dk_96 (dk_at dksX7_sort_1 23 rfl rfl)
theorem dX7_sort_47 : decode cX7_sort 47 = .ok (.imul, 1) := dk_104 (dk_at dksX7_sort_2 0 rfl rfl)
theorem dX7_sort_48 : decode cX7_sort 48 = .ok (.iload_n 2, 1) := dk_28 (dk_at dksX7_sort_2 1 rfl rfl)
theorem dX7_sort_49 : decode cX7_sort 49 = .ok (.iadd, 1) := dk_96 (dk_at dksX7_sort_2 2 rfl rfl)
theorem dX7_sort_50 : decode cX7_sort 50 = .ok (.iaload, 1) := dk_46 (dk_at dksX7_sort_2 3 rfl rfl)
theorem dX7_sort_51 : decode cX7_sort 51 = .ok (.bipush 16, 2) := dk_16 16 (dk_at dksX7_sort_2 4 rfl rfl)
theorem dX7_sort_53 : decode cX7_sort 53 = .ok (.irem, 1) := dk_112 (dk_at dksX7_sort_2 6 rfl rfl)
theorem dX7_sort_54 : decode cX7_sort 54 = .ok (.istore 7, 2) := dk_54 7 (dk_at dksX7_sort_2 7 rfl rfl)
theorem dX7_sort_56 : decode cX7_sort 56 = .ok (.iload 7, 2) := dk_21 7 (dk_at dksX7_sort_2 9 rfl rfl)
theorem dX7_sort_58 : decode cX7_sort 58 = .ok (.bipush 15, 2) := dk_16 15 (dk_at dksX7_sort_2 11 rfl rfl)
theorem dX7_sort_60 : decode cX7_sort 60 = .ok (.if_icmp .ne 7, 3) := dk_160 0 7 (dk_at dksX7_sort_2 13 rfl rfl)
theorem dX7_sort_63 : decode cX7_sort 63 = .ok (.iconst (-1), 1) := dk_2 (dk_at dksX7_sort_2 16 rfl rfl)
theorem dX7_sort_64 : decode cX7_sort 64 = .ok (.goto 5, 3) := dk_167 0 5 (dk_at dksX7_sort_2 17 rfl rfl)
theorem dX7_sort_67 : decode cX7_sort 67 = .ok (.iload 7, 2) := dk_21 7 (dk_at dksX7_sort_2 20 rfl rfl)
theorem dX7_sort_69 : decode cX7_sort 69 = .ok (.iload 5, 2) := dk_21 5 (dk_at dksX7_sort_2 22 rfl rfl)
theorem dX7_sort_71 : decode cX7_sort 71 = .ok (.if_icmp .eq 6, 3) := dk_159 0 6 (dk_at dksX7_sort_3 0 rfl rfl)
theorem dX7_sort_74 : decode cX7_sort 74 = .ok (.goto 20, 3) := dk_167 0 20 (dk_at dksX7_sort_3 3 rfl rfl)
theorem dX7_sort_77 : decode cX7_sort 77 = .ok (.aload_n 0, 1) := dk_42 (dk_at dksX7_sort_3 6 rfl rfl)
theorem dX7_sort_78 : decode cX7_sort 78 = .ok (.getfield 93, 3) := dk_180 0 93 (dk_at dksX7_sort_3 7 rfl rfl)
theorem dX7_sort_81 : decode cX7_sort 81 = .ok (.iload 4, 2) := dk_21 4 (dk_at dksX7_sort_3 10 rfl rfl)
theorem dX7_sort_83 : decode cX7_sort 83 = .ok (.aload_n 0, 1) := dk_42 (dk_at dksX7_sort_3 12 rfl rfl)
theorem dX7_sort_84 : decode cX7_sort 84 = .ok (.getfield 90, 3) := dk_180 0 90 (dk_at dksX7_sort_3 13 rfl rfl)
theorem dX7_sort_87 : decode cX7_sort 87 = .ok (.iload 6, 2) := dk_21 6 (dk_at dksX7_sort_3 16 rfl rfl)
theorem dX7_sort_89 : decode cX7_sort 89 = .ok (.iaload, 1) := dk_46 (dk_at dksX7_sort_3 18 rfl rfl)
theorem dX7_sort_90 : decode cX7_sort 90 = .ok (.iastore, 1) := dk_79 (dk_at dksX7_sort_3 19 rfl rfl)
theorem dX7_sort_91 : decode cX7_sort 91 = .ok (.iinc 4 1, 3) := dk_132 4 1 (dk_at dksX7_sort_3 20 rfl rfl)
theorem dX7_sort_94 : decode cX7_sort 94 = .ok (.iinc 6 1, 3) := dk_132 6 1 (dk_at dksX7_sort_4 0 rfl rfl)
theorem dX7_sort_97 : decode cX7_sort 97 = .ok (.goto (-74), 3) := dk_167 255 182 (dk_at dksX7_sort_4 3 rfl rfl)
theorem dX7_sort_100 : decode cX7_sort 100 = .ok (.iinc 5 1, 3) := dk_132 5 1 (dk_at dksX7_sort_4 6 rfl rfl)
theorem dX7_sort_103 : decode cX7_sort 103 = .ok (.goto (-90), 3) := dk_167 255 166 (dk_at dksX7_sort_4 9 rfl rfl)
theorem dX7_sort_106 : decode cX7_sort 106 = .ok (.iconst 0, 1) := dk_3 (dk_at dksX7_sort_4 12 rfl rfl)
theorem dX7_sort_107 : decode cX7_sort 107 = .ok (.istore 5, 2) := dk_54 5 (dk_at dksX7_sort_4 13 rfl rfl)
theorem dX7_sort_109 : decode cX7_sort 109 = .ok (.iload 5, 2) := dk_21 5 (dk_at dksX7_sort_4 15 rfl rfl)
theorem dX7_sort_111 : decode cX7_sort 111 = .ok (.iload_n 3, 1) := dk_29 (dk_at dksX7_sort_4 17 rfl rfl)
theorem dX7_sort_112 : decode cX7_sort 112 = .ok (.if_icmp .ge 23, 3) := dk_162 0 23 (dk_at dksX7_sort_4 18 rfl rfl)
theorem dX7_sort_115 : decode cX7_sort 115 = .ok (.aload_n 0, 1) := dk_42 (dk_at dksX7_sort_4 21 rfl rfl)
theorem dX7_sort_116 : decode cX7_sort 116 = .ok (.getfield 90, 3) := dk_180 0 90 (dk_at dksX7_sort_5 0 rfl rfl)
theorem dX7_sort_119 : decode cX7_sort 119 = .ok (.iload 5, 2) := dk_21 5 (dk_at dksX7_sort_5 3 rfl rfl)
theorem dX7_sort_121 : decode cX7_sort 121 = .ok (.aload_n 0, 1) := dk_42 (dk_at dksX7_sort_5 5 rfl rfl)
theorem dX7_sort_122 : decode cX7_sort 122 = .ok (.getfield 93, 3) := dk_180 0 93 (dk_at dksX7_sort_5 6 rfl rfl)
theorem dX7_sort_125 : decode cX7_sort 125 = .ok (.iload 5, 2) := dk_21 5 (dk_at dksX7_sort_5 9 rfl rfl)
theorem dX7_sort_127 : decode cX7_sort 127 = .ok (.iaload, 1) := dk_46 (dk_at dksX7_sort_5 11 rfl rfl)
theorem dX7_sort_128 : decode cX7_sort 128 = .ok (.iastore, 1) := dk_79 (dk_at dksX7_sort_5 12 rfl rfl)
theorem dX7_sort_129 : decode cX7_sort 129 = .ok (.iinc 5 1, 3) := dk_132 5 1 (dk_at dksX7_sort_5 13 rfl rfl)
theorem dX7_sort_132 : decode cX7_sort 132 = .ok (.goto (-23), 3) := dk_167 255 233 (dk_at dksX7_sort_5 16 rfl rfl)
theorem dX7_sort_135 : decode cX7_sort 135 = .ok (.return_, 1) := dk_177 (dk_at dksX7_sort_5 19 rfl rfl)
abbrev cX7_needed : ByteArray := prog_14_method_53_code
def yX7_needed : MethodName := ⟨RX7, "needed", "(I)I"⟩
def dkwX7_needed_8 : List UInt8 := [181, 1, 167, 132, 3, 1, 167, 255, 130, 28, 172]
abbrev dktX7_needed_8 : List UInt8 := dkwX7_needed_8 ++ []
def dkwX7_needed_7 : List UInt8 := [42, 27, 42, 180, 0, 201, 182, 1, 164, 154, 0, 6, 167, 0, 14, 29, 133, 184, 1, 160, 61, 42, 29]
abbrev dktX7_needed_7 : List UInt8 := dkwX7_needed_7 ++ dktX7_needed_8
def dkwX7_needed_6 : List UInt8 := [126, 4, 160, 0, 16, 42, 27, 42, 21, 4, 182, 0, 218, 4, 100, 182, 1, 157, 132, 4, 255, 167, 255, 225]
abbrev dktX7_needed_6 : List UInt8 := dkwX7_needed_6 ++ dktX7_needed_7
def dkwX7_needed_5 : List UInt8 := [132, 4, 1, 167, 255, 233, 42, 180, 0, 201, 4, 100, 54, 4, 21, 4, 155, 0, 32, 29, 21, 4, 122, 4]
abbrev dktX7_needed_5 : List UInt8 := dkwX7_needed_5 ++ dktX7_needed_6
def dkwX7_needed_4 : List UInt8 := [54, 4, 21, 4, 42, 180, 0, 17, 27, 46, 162, 0, 18, 42, 180, 0, 90, 21, 4, 21, 4, 79]
abbrev dktX7_needed_4 : List UInt8 := dkwX7_needed_4 ++ dktX7_needed_5
def dkwX7_needed_3 : List UInt8 := [180, 0, 201, 120, 162, 0, 122, 28, 155, 0, 15, 29, 133, 184, 1, 160, 28, 161, 0, 6, 167, 0, 100, 3]
abbrev dktX7_needed_3 : List UInt8 := dkwX7_needed_3 ++ dktX7_needed_4
def dkwX7_needed_2 : List UInt8 := [16, 20, 184, 0, 207, 154, 0, 5, 2, 172, 132, 2, 1, 167, 255, 229, 2, 61, 3, 62, 29, 4, 42]
abbrev dktX7_needed_2 : List UInt8 := dkwX7_needed_2 ++ dktX7_needed_3
def dkwX7_needed_1 : List UInt8 := [184, 0, 207, 154, 0, 5, 2, 172, 3, 61, 28, 42, 180, 0, 201, 162, 0, 25, 42, 28, 182, 0, 218, 4]
abbrev dktX7_needed_1 : List UInt8 := dkwX7_needed_1 ++ dktX7_needed_2
def dkwX7_needed_0 : List UInt8 := [42, 3, 181, 0, 190, 42, 182, 0, 211, 27, 184, 0, 214, 153, 0, 16, 42, 180, 0, 201, 4, 16, 8]
abbrev dktX7_needed_0 : List UInt8 := dkwX7_needed_0 ++ dktX7_needed_1
theorem dksX7_needed_0 : cX7_needed.data.toList.drop 0 = dktX7_needed_0 := by decide +kernel
theorem dksX7_needed_1 : cX7_needed.data.toList.drop 23 = dktX7_needed_1 := dk_seg dksX7_needed_0 23 rfl rfl
theorem dksX7_needed_2 : cX7_needed.data.toList.drop 47 = dktX7_needed_2 := dk_seg dksX7_needed_1 24 rfl rfl
theorem dksX7_needed_3 : cX7_needed.data.toList.drop 70 = dktX7_needed_3 := dk_seg dksX7_needed_2 23 rfl rfl
theorem dksX7_needed_4 : cX7_needed.data.toList.drop 94 = dktX7_needed_4 := dk_seg dksX7_needed_3 24 rfl rfl
theorem dksX7_needed_5 : cX7_needed.data.toList.drop 116 = dktX7_needed_5 := dk_seg dksX7_needed_4 22 rfl rfl
theorem dksX7_needed_6 : cX7_needed.data.toList.drop 140 = dktX7_needed_6 := dk_seg dksX7_needed_5 24 rfl rfl
theorem dksX7_needed_7 : cX7_needed.data.toList.drop 164 = dktX7_needed_7 := dk_seg dksX7_needed_6 24 rfl rfl
theorem dksX7_needed_8 : cX7_needed.data.toList.drop 187 = dktX7_needed_8 := dk_seg dksX7_needed_7 23 rfl rfl
theorem dX7_needed_0 : decode cX7_needed 0 = .ok (.aload_n 0, 1) := dk_42 (dk_at dksX7_needed_0 0 rfl rfl)
theorem dX7_needed_1 : decode cX7_needed 1 = .ok (.iconst 0, 1) := dk_3 (dk_at dksX7_needed_0 1 rfl rfl)
theorem dX7_needed_2 : decode cX7_needed 2 = .ok (.putfield 190, 3) := dk_181 0 190 (dk_at dksX7_needed_0 2 rfl rfl)
theorem dX7_needed_5 : decode cX7_needed 5 = .ok (.aload_n 0, 1) := dk_42 (dk_at dksX7_needed_0 5 rfl rfl)
theorem dX7_needed_6 : decode cX7_needed 6 = .ok (.invokevirtual 211, 3) := dk_182 0 211 (dk_at dksX7_needed_0 6 rfl rfl)
theorem dX7_needed_9 : decode cX7_needed 9 = .ok (.iload_n 1, 1) := dk_27 (dk_at dksX7_needed_0 9 rfl rfl)
theorem dX7_needed_10 : decode cX7_needed 10 = .ok (.invokestatic 214, 3) := dk_184 0 214 (dk_at dksX7_needed_0 10 rfl rfl)
theorem dX7_needed_13 : decode cX7_needed 13 = .ok (.ifCond .eq 16, 3) := dk_153 0 16 (dk_at dksX7_needed_0 13 rfl rfl)
theorem dX7_needed_16 : decode cX7_needed 16 = .ok (.aload_n 0, 1) := dk_42 (dk_at dksX7_needed_0 16 rfl rfl)
theorem dX7_needed_17 : decode cX7_needed 17 = .ok (.getfield 201, 3) := dk_180 0 201 (dk_at dksX7_needed_0 17 rfl rfl)
theorem dX7_needed_20 : decode cX7_needed 20 = .ok (.iconst 1, 1) := dk_4 (dk_at dksX7_needed_0 20 rfl rfl)
theorem dX7_needed_21 : decode cX7_needed 21 = .ok (.bipush 8, 2) := dk_16 8 (dk_at dksX7_needed_0 21 rfl rfl)
theorem dX7_needed_23 : decode cX7_needed 23 = .ok (.invokestatic 207, 3) := dk_184 0 207 (dk_at dksX7_needed_1 0 rfl rfl)
theorem dX7_needed_26 : decode cX7_needed 26 = .ok (.ifCond .ne 5, 3) := dk_154 0 5 (dk_at dksX7_needed_1 3 rfl rfl)
theorem dX7_needed_29 : decode cX7_needed 29 = .ok (.iconst (-1), 1) := dk_2 (dk_at dksX7_needed_1 6 rfl rfl)
theorem dX7_needed_30 : decode cX7_needed 30 = .ok (.ireturn, 1) := dk_172 (dk_at dksX7_needed_1 7 rfl rfl)
theorem dX7_needed_31 : decode cX7_needed 31 = .ok (.iconst 0, 1) := dk_3 (dk_at dksX7_needed_1 8 rfl rfl)
theorem dX7_needed_32 : decode cX7_needed 32 = .ok (.istore_n 2, 1) := dk_61 (dk_at dksX7_needed_1 9 rfl rfl)
theorem dX7_needed_33 : decode cX7_needed 33 = .ok (.iload_n 2, 1) := dk_28 (dk_at dksX7_needed_1 10 rfl rfl)
theorem dX7_needed_34 : decode cX7_needed 34 = .ok (.aload_n 0, 1) := dk_42 (dk_at dksX7_needed_1 11 rfl rfl)
theorem dX7_needed_35 : decode cX7_needed 35 = .ok (.getfield 201, 3) := dk_180 0 201 (dk_at dksX7_needed_1 12 rfl rfl)
theorem dX7_needed_38 : decode cX7_needed 38 = .ok (.if_icmp .ge 25, 3) := dk_162 0 25 (dk_at dksX7_needed_1 15 rfl rfl)
theorem dX7_needed_41 : decode cX7_needed 41 = .ok (.aload_n 0, 1) := dk_42 (dk_at dksX7_needed_1 18 rfl rfl)
theorem dX7_needed_42 : decode cX7_needed 42 = .ok (.iload_n 2, 1) := dk_28 (dk_at dksX7_needed_1 19 rfl rfl)
theorem dX7_needed_43 : decode cX7_needed 43 = .ok (.invokevirtual 218, 3) := dk_182 0 218 (dk_at dksX7_needed_1 20 rfl rfl)
theorem dX7_needed_46 : decode cX7_needed 46 = .ok (.iconst 1, 1) := dk_4 (dk_at dksX7_needed_1 23 rfl rfl)
theorem dX7_needed_47 : decode cX7_needed 47 = .ok (.bipush 20, 2) := dk_16 20 (dk_at dksX7_needed_2 0 rfl rfl)
theorem dX7_needed_49 : decode cX7_needed 49 = .ok (.invokestatic 207, 3) := dk_184 0 207 (dk_at dksX7_needed_2 2 rfl rfl)
theorem dX7_needed_52 : decode cX7_needed 52 = .ok (.ifCond .ne 5, 3) := dk_154 0 5 (dk_at dksX7_needed_2 5 rfl rfl)
theorem dX7_needed_55 : decode cX7_needed 55 = .ok (.iconst (-1), 1) := dk_2 (dk_at dksX7_needed_2 8 rfl rfl)
theorem dX7_needed_56 : decode cX7_needed 56 = .ok (.ireturn, 1) := dk_172 (dk_at dksX7_needed_2 9 rfl rfl)
theorem dX7_needed_57 : decode cX7_needed 57 = .ok (.iinc 2 1, 3) := dk_132 2 1 (dk_at dksX7_needed_2 10 rfl rfl)
theorem dX7_needed_60 : decode cX7_needed 60 = .ok (.goto (-27), 3) := dk_167 255 229 (dk_at dksX7_needed_2 13 rfl rfl)
theorem dX7_needed_63 : decode cX7_needed 63 = .ok (.iconst (-1), 1) := dk_2 (dk_at dksX7_needed_2 16 rfl rfl)
theorem dX7_needed_64 : decode cX7_needed 64 = .ok (.istore_n 2, 1) := dk_61 (dk_at dksX7_needed_2 17 rfl rfl)
theorem dX7_needed_65 : decode cX7_needed 65 = .ok (.iconst 0, 1) := dk_3 (dk_at dksX7_needed_2 18 rfl rfl)
theorem dX7_needed_66 : decode cX7_needed 66 = .ok (.istore_n 3, 1) := dk_62 (dk_at dksX7_needed_2 19 rfl rfl)
theorem dX7_needed_67 : decode cX7_needed 67 = .ok (.iload_n 3, 1) := dk_29 (dk_at dksX7_needed_2 20 rfl rfl)
theorem dX7_needed_68 : decode cX7_needed 68 = .ok (.iconst 1, 1) := dk_4 (dk_at dksX7_needed_2 21 rfl rfl)
theorem dX7_needed_69 : decode cX7_needed 69 = .ok (.aload_n 0, 1) := dk_42 (dk_at dksX7_needed_2 22 rfl rfl)
theorem dX7_needed_70 : decode cX7_needed 70 = .ok (.getfield 201, 3) := dk_180 0 201 (dk_at dksX7_needed_3 0 rfl rfl)
theorem dX7_needed_73 : decode cX7_needed 73 = .ok (.ishl, 1) := dk_120 (dk_at dksX7_needed_3 3 rfl rfl)
theorem dX7_needed_74 : decode cX7_needed 74 = .ok (.if_icmp .ge 122, 3) := dk_162 0 122 (dk_at dksX7_needed_3 4 rfl rfl)
theorem dX7_needed_77 : decode cX7_needed 77 = .ok (.iload_n 2, 1) := dk_28 (dk_at dksX7_needed_3 7 rfl rfl)
theorem dX7_needed_78 : decode cX7_needed 78 = .ok (.ifCond .lt 15, 3) := dk_155 0 15 (dk_at dksX7_needed_3 8 rfl rfl)
theorem dX7_needed_81 : decode cX7_needed 81 = .ok (.iload_n 3, 1) := dk_29 (dk_at dksX7_needed_3 11 rfl rfl)
theorem dX7_needed_82 : decode cX7_needed 82 = .ok (.i2l, 1) := dk_133 (dk_at dksX7_needed_3 12 rfl rfl)
theorem dX7_needed_83 : decode cX7_needed 83 = .ok (.invokestatic 416, 3) := dk_184 1 160 (dk_at dksX7_needed_3 13 rfl rfl)
theorem dX7_needed_86 : decode cX7_needed 86 = .ok (.iload_n 2, 1) := dk_28 (dk_at dksX7_needed_3 16 rfl rfl)
theorem dX7_needed_87 : decode cX7_needed 87 = .ok (.if_icmp .lt 6, 3) := dk_161 0 6 (dk_at dksX7_needed_3 17 rfl rfl)
theorem dX7_needed_90 : decode cX7_needed 90 = .ok (.goto 100, 3) := dk_167 0 100 (dk_at dksX7_needed_3 20 rfl rfl)
theorem dX7_needed_93 : decode cX7_needed 93 = .ok (.iconst 0, 1) := dk_3 (dk_at dksX7_needed_3 23 rfl rfl)
theorem dX7_needed_94 : decode cX7_needed 94 = .ok (.istore 4, 2) := dk_54 4 (dk_at dksX7_needed_4 0 rfl rfl)
theorem dX7_needed_96 : decode cX7_needed 96 = .ok (.iload 4, 2) := dk_21 4 (dk_at dksX7_needed_4 2 rfl rfl)
theorem dX7_needed_98 : decode cX7_needed 98 = .ok (.aload_n 0, 1) := dk_42 (dk_at dksX7_needed_4 4 rfl rfl)
theorem dX7_needed_99 : decode cX7_needed 99 = .ok (.getfield 17, 3) := dk_180 0 17 (dk_at dksX7_needed_4 5 rfl rfl)
theorem dX7_needed_102 : decode cX7_needed 102 = .ok (.iload_n 1, 1) := dk_27 (dk_at dksX7_needed_4 8 rfl rfl)
theorem dX7_needed_103 : decode cX7_needed 103 = .ok (.iaload, 1) := dk_46 (dk_at dksX7_needed_4 9 rfl rfl)
theorem dX7_needed_104 : decode cX7_needed 104 = .ok (.if_icmp .ge 18, 3) := dk_162 0 18 (dk_at dksX7_needed_4 10 rfl rfl)
theorem dX7_needed_107 : decode cX7_needed 107 = .ok (.aload_n 0, 1) := dk_42 (dk_at dksX7_needed_4 13 rfl rfl)
theorem dX7_needed_108 : decode cX7_needed 108 = .ok (.getfield 90, 3) := dk_180 0 90 (dk_at dksX7_needed_4 14 rfl rfl)
theorem dX7_needed_111 : decode cX7_needed 111 = .ok (.iload 4, 2) := dk_21 4 (dk_at dksX7_needed_4 17 rfl rfl)
theorem dX7_needed_113 : decode cX7_needed 113 = .ok (.iload 4, 2) := dk_21 4 (dk_at dksX7_needed_4 19 rfl rfl)
theorem dX7_needed_115 : decode cX7_needed 115 = .ok (.iastore, 1) := dk_79 (dk_at dksX7_needed_4 21 rfl rfl)
theorem dX7_needed_116 : decode cX7_needed 116 = .ok (.iinc 4 1, 3) := dk_132 4 1 (dk_at dksX7_needed_5 0 rfl rfl)
theorem dX7_needed_119 : decode cX7_needed 119 = .ok (.goto (-23), 3) := dk_167 255 233 (dk_at dksX7_needed_5 3 rfl rfl)
theorem dX7_needed_122 : decode cX7_needed 122 = .ok (.aload_n 0, 1) := dk_42 (dk_at dksX7_needed_5 6 rfl rfl)
theorem dX7_needed_123 : decode cX7_needed 123 = .ok (.getfield 201, 3) := dk_180 0 201 (dk_at dksX7_needed_5 7 rfl rfl)
theorem dX7_needed_126 : decode cX7_needed 126 = .ok (.iconst 1, 1) := dk_4 (dk_at dksX7_needed_5 10 rfl rfl)
theorem dX7_needed_127 : decode cX7_needed 127 = .ok (.isub, 1) := dk_100 (dk_at dksX7_needed_5 11 rfl rfl)
theorem dX7_needed_128 : decode cX7_needed 128 = .ok (.istore 4, 2) := dk_54 4 (dk_at dksX7_needed_5 12 rfl rfl)
theorem dX7_needed_130 : decode cX7_needed 130 = .ok (.iload 4, 2) := dk_21 4 (dk_at dksX7_needed_5 14 rfl rfl)
theorem dX7_needed_132 : decode cX7_needed 132 = .ok (.ifCond .lt 32, 3) := dk_155 0 32 (dk_at dksX7_needed_5 16 rfl rfl)
theorem dX7_needed_135 : decode cX7_needed 135 = .ok (.iload_n 3, 1) := dk_29 (dk_at dksX7_needed_5 19 rfl rfl)
theorem dX7_needed_136 : decode cX7_needed 136 = .ok (.iload 4, 2) := dk_21 4 (dk_at dksX7_needed_5 20 rfl rfl)
theorem dX7_needed_138 : decode cX7_needed 138 = .ok (.ishr, 1) := dk_122 (dk_at dksX7_needed_5 22 rfl rfl)
theorem dX7_needed_139 : decode cX7_needed 139 = .ok (.iconst 1, 1) := dk_4 (dk_at dksX7_needed_5 23 rfl rfl)
theorem dX7_needed_140 : decode cX7_needed 140 = .ok (.iand, 1) := dk_126 (dk_at dksX7_needed_6 0 rfl rfl)
theorem dX7_needed_141 : decode cX7_needed 141 = .ok (.iconst 1, 1) := dk_4 (dk_at dksX7_needed_6 1 rfl rfl)
theorem dX7_needed_142 : decode cX7_needed 142 = .ok (.if_icmp .ne 16, 3) := dk_160 0 16 (dk_at dksX7_needed_6 2 rfl rfl)
theorem dX7_needed_145 : decode cX7_needed 145 = .ok (.aload_n 0, 1) := dk_42 (dk_at dksX7_needed_6 5 rfl rfl)
theorem dX7_needed_146 : decode cX7_needed 146 = .ok (.iload_n 1, 1) := dk_27 (dk_at dksX7_needed_6 6 rfl rfl)
theorem dX7_needed_147 : decode cX7_needed 147 = .ok (.aload_n 0, 1) := dk_42 (dk_at dksX7_needed_6 7 rfl rfl)
theorem dX7_needed_148 : decode cX7_needed 148 = .ok (.iload 4, 2) := dk_21 4 (dk_at dksX7_needed_6 8 rfl rfl)
theorem dX7_needed_150 : decode cX7_needed 150 = .ok (.invokevirtual 218, 3) := dk_182 0 218 (dk_at dksX7_needed_6 10 rfl rfl)
theorem dX7_needed_153 : decode cX7_needed 153 = .ok (.iconst 1, 1) := dk_4 (dk_at dksX7_needed_6 13 rfl rfl)
theorem dX7_needed_154 : decode cX7_needed 154 = .ok (.isub, 1) := dk_100 (dk_at dksX7_needed_6 14 rfl rfl)
theorem dX7_needed_155 : decode cX7_needed 155 = .ok (.invokevirtual 413, 3) := dk_182 1 157 (dk_at dksX7_needed_6 15 rfl rfl)
theorem dX7_needed_158 : decode cX7_needed 158 = .ok (.iinc 4 (-1), 3) := dk_132 4 255 (dk_at dksX7_needed_6 18 rfl rfl)
theorem dX7_needed_161 : decode cX7_needed 161 = .ok (.goto (-31), 3) := dk_167 255 225 (dk_at dksX7_needed_6 21 rfl rfl)
theorem dX7_needed_164 : decode cX7_needed 164 = .ok (.aload_n 0, 1) := dk_42 (dk_at dksX7_needed_7 0 rfl rfl)
theorem dX7_needed_165 : decode cX7_needed 165 = .ok (.iload_n 1, 1) := dk_27 (dk_at dksX7_needed_7 1 rfl rfl)
theorem dX7_needed_166 : decode cX7_needed 166 = .ok (.aload_n 0, 1) := dk_42 (dk_at dksX7_needed_7 2 rfl rfl)
theorem dX7_needed_167 : decode cX7_needed 167 = .ok (.getfield 201, 3) := dk_180 0 201 (dk_at dksX7_needed_7 3 rfl rfl)
theorem dX7_needed_170 : decode cX7_needed 170 = .ok (.invokevirtual 420, 3) := dk_182 1 164 (dk_at dksX7_needed_7 6 rfl rfl)
theorem dX7_needed_173 : decode cX7_needed 173 = .ok (.ifCond .ne 6, 3) := dk_154 0 6 (dk_at dksX7_needed_7 9 rfl rfl)
theorem dX7_needed_176 : decode cX7_needed 176 = .ok (.goto 14, 3) := dk_167 0 14 (dk_at dksX7_needed_7 12 rfl rfl)
theorem dX7_needed_179 : decode cX7_needed 179 = .ok (.iload_n 3, 1) := dk_29 (dk_at dksX7_needed_7 15 rfl rfl)
theorem dX7_needed_180 : decode cX7_needed 180 = .ok (.i2l, 1) := dk_133 (dk_at dksX7_needed_7 16 rfl rfl)
theorem dX7_needed_181 : decode cX7_needed 181 = .ok (.invokestatic 416, 3) := dk_184 1 160 (dk_at dksX7_needed_7 17 rfl rfl)
theorem dX7_needed_184 : decode cX7_needed 184 = .ok (.istore_n 2, 1) := dk_61 (dk_at dksX7_needed_7 20 rfl rfl)
theorem dX7_needed_185 : decode cX7_needed 185 = .ok (.aload_n 0, 1) := dk_42 (dk_at dksX7_needed_7 21 rfl rfl)
theorem dX7_needed_186 : decode cX7_needed 186 = .ok (.iload_n 3, 1) := dk_29 (dk_at dksX7_needed_7 22 rfl rfl)
theorem dX7_needed_187 : decode cX7_needed 187 = .ok (.putfield 423, 3) := dk_181 1 167 (dk_at dksX7_needed_8 0 rfl rfl)
theorem dX7_needed_190 : decode cX7_needed 190 = .ok (.iinc 3 1, 3) := dk_132 3 1 (dk_at dksX7_needed_8 3 rfl rfl)
theorem dX7_needed_193 : decode cX7_needed 193 = .ok (.goto (-126), 3) := dk_167 255 130 (dk_at dksX7_needed_8 6 rfl rfl)
theorem dX7_needed_196 : decode cX7_needed 196 = .ok (.iload_n 2, 1) := dk_28 (dk_at dksX7_needed_8 9 rfl rfl)
theorem dX7_needed_197 : decode cX7_needed 197 = .ok (.ireturn, 1) := dk_172 (dk_at dksX7_needed_8 10 rfl rfl)
abbrev cX7_bits : ByteArray := prog_14_method_52_code
def yX7_bits : MethodName := ⟨RX7, "bits", "(J)I"⟩
def dkwX7_bits_0 : List UInt8 := [3, 61, 30, 66, 33, 9, 148, 153, 0, 15, 132, 2, 1, 33, 33, 10, 101, 127, 66, 167, 255, 241, 28, 172]
abbrev dktX7_bits_0 : List UInt8 := dkwX7_bits_0 ++ []
theorem dksX7_bits_0 : cX7_bits.data.toList.drop 0 = dktX7_bits_0 := by decide +kernel
theorem dX7_bits_0 : decode cX7_bits 0 = .ok (.iconst 0, 1) := dk_3 (dk_at dksX7_bits_0 0 rfl rfl)
theorem dX7_bits_1 : decode cX7_bits 1 = .ok (.istore_n 2, 1) := dk_61 (dk_at dksX7_bits_0 1 rfl rfl)
theorem dX7_bits_2 : decode cX7_bits 2 = .ok (.lload_n 0, 1) := dk_30 (dk_at dksX7_bits_0 2 rfl rfl)
theorem dX7_bits_3 : decode cX7_bits 3 = .ok (.lstore_n 3, 1) := dk_66 (dk_at dksX7_bits_0 3 rfl rfl)
theorem dX7_bits_4 : decode cX7_bits 4 = .ok (.lload_n 3, 1) := dk_33 (dk_at dksX7_bits_0 4 rfl rfl)
theorem dX7_bits_5 : decode cX7_bits 5 = .ok (.lconst 0, 1) := dk_9 (dk_at dksX7_bits_0 5 rfl rfl)
theorem dX7_bits_6 : decode cX7_bits 6 = .ok (.lcmp, 1) := dk_148 (dk_at dksX7_bits_0 6 rfl rfl)
theorem dX7_bits_7 : decode cX7_bits 7 = .ok (.ifCond .eq 15, 3) := dk_153 0 15 (dk_at dksX7_bits_0 7 rfl rfl)
theorem dX7_bits_10 : decode cX7_bits 10 = .ok (.iinc 2 1, 3) := dk_132 2 1 (dk_at dksX7_bits_0 10 rfl rfl)
theorem dX7_bits_13 : decode cX7_bits 13 = .ok (.lload_n 3, 1) := dk_33 (dk_at dksX7_bits_0 13 rfl rfl)
theorem dX7_bits_14 : decode cX7_bits 14 = .ok (.lload_n 3, 1) := dk_33 (dk_at dksX7_bits_0 14 rfl rfl)
theorem dX7_bits_15 : decode cX7_bits 15 = .ok (.lconst 1, 1) := dk_10 (dk_at dksX7_bits_0 15 rfl rfl)
theorem dX7_bits_16 : decode cX7_bits 16 = .ok (.lsub, 1) := dk_101 (dk_at dksX7_bits_0 16 rfl rfl)
theorem dX7_bits_17 : decode cX7_bits 17 = .ok (.land, 1) := dk_127 (dk_at dksX7_bits_0 17 rfl rfl)
theorem dX7_bits_18 : decode cX7_bits 18 = .ok (.lstore_n 3, 1) := dk_66 (dk_at dksX7_bits_0 18 rfl rfl)
theorem dX7_bits_19 : decode cX7_bits 19 = .ok (.goto (-15), 3) := dk_167 255 241 (dk_at dksX7_bits_0 19 rfl rfl)
theorem dX7_bits_22 : decode cX7_bits 22 = .ok (.iload_n 2, 1) := dk_28 (dk_at dksX7_bits_0 22 rfl rfl)
theorem dX7_bits_23 : decode cX7_bits 23 = .ok (.ireturn, 1) := dk_172 (dk_at dksX7_bits_0 23 rfl rfl)
abbrev cX7_isOrdered : ByteArray := prog_14_method_51_code
def yX7_isOrdered : MethodName := ⟨RX7, "isOrdered", "(II)Z"⟩
def dkwX7_isOrdered_5 : List UInt8 := [132, 5, 1, 167, 255, 157, 21, 4, 158, 0, 5, 3, 172, 132, 3, 1, 167, 255, 126, 4, 172]
abbrev dktX7_isOrdered_5 : List UInt8 := dkwX7_isOrdered_5 ++ []
def dkwX7_isOrdered_4 : List UInt8 := [16, 16, 112, 54, 7, 21, 6, 4, 96, 16, 16, 112, 21, 7, 4, 96, 16, 16, 112, 100, 54, 4]
abbrev dktX7_isOrdered_4 : List UInt8 := dkwX7_isOrdered_4 ++ dktX7_isOrdered_5
def dkwX7_isOrdered_3 : List UInt8 := [16, 40, 27, 104, 42, 180, 0, 90, 29, 4, 96, 46, 96, 104, 42, 21, 5, 182, 0, 218, 96, 4, 100, 46]
abbrev dktX7_isOrdered_3 : List UInt8 := dkwX7_isOrdered_3 ++ dktX7_isOrdered_4
def dkwX7_isOrdered_2 : List UInt8 := [96, 104, 42, 21, 5, 182, 0, 218, 96, 4, 100, 46, 16, 16, 112, 54, 6, 42, 180, 0, 13, 16, 20]
abbrev dktX7_isOrdered_2 : List UInt8 := dkwX7_isOrdered_2 ++ dktX7_isOrdered_3
def dkwX7_isOrdered_1 : List UInt8 := [162, 0, 99, 21, 4, 154, 0, 94, 42, 180, 0, 13, 16, 20, 16, 40, 27, 104, 42, 180, 0, 90, 29, 46]
abbrev dktX7_isOrdered_1 : List UInt8 := dkwX7_isOrdered_1 ++ dktX7_isOrdered_2
def dkwX7_isOrdered_0 : List UInt8 := [3, 62, 29, 4, 96, 42, 180, 0, 17, 27, 46, 162, 0, 124, 3, 54, 4, 3, 54, 5, 21, 5, 28]
abbrev dktX7_isOrdered_0 : List UInt8 := dkwX7_isOrdered_0 ++ dktX7_isOrdered_1
theorem dksX7_isOrdered_0 : cX7_isOrdered.data.toList.drop 0 = dktX7_isOrdered_0 := by decide +kernel
theorem dksX7_isOrdered_1 : cX7_isOrdered.data.toList.drop 23 = dktX7_isOrdered_1 := dk_seg dksX7_isOrdered_0 23 rfl rfl
theorem dksX7_isOrdered_2 : cX7_isOrdered.data.toList.drop 47 = dktX7_isOrdered_2 := dk_seg dksX7_isOrdered_1 24 rfl rfl
theorem dksX7_isOrdered_3 : cX7_isOrdered.data.toList.drop 70 = dktX7_isOrdered_3 := dk_seg dksX7_isOrdered_2 23 rfl rfl
theorem dksX7_isOrdered_4 : cX7_isOrdered.data.toList.drop 94 = dktX7_isOrdered_4 := dk_seg dksX7_isOrdered_3 24 rfl rfl
theorem dksX7_isOrdered_5 : cX7_isOrdered.data.toList.drop 116 = dktX7_isOrdered_5 := dk_seg dksX7_isOrdered_4 22 rfl rfl
theorem dX7_isOrdered_0 : decode cX7_isOrdered 0 = .ok (.iconst 0, 1) := dk_3 (dk_at dksX7_isOrdered_0 0 rfl rfl)
theorem dX7_isOrdered_1 : decode cX7_isOrdered 1 = .ok (.istore_n 3, 1) := dk_62 (dk_at dksX7_isOrdered_0 1 rfl rfl)
theorem dX7_isOrdered_2 : decode cX7_isOrdered 2 = .ok (.iload_n 3, 1) := dk_29 (dk_at dksX7_isOrdered_0 2 rfl rfl)
theorem dX7_isOrdered_3 : decode cX7_isOrdered 3 = .ok (.iconst 1, 1) := dk_4 (dk_at dksX7_isOrdered_0 3 rfl rfl)
theorem dX7_isOrdered_4 : decode cX7_isOrdered 4 = .ok (.iadd, 1) := dk_96 (dk_at dksX7_isOrdered_0 4 rfl rfl)
theorem dX7_isOrdered_5 : decode cX7_isOrdered 5 = .ok (.aload_n 0, 1) := dk_42 (dk_at dksX7_isOrdered_0 5 rfl rfl)
theorem dX7_isOrdered_6 : decode cX7_isOrdered 6 = .ok (.getfield 17, 3) := dk_180 0 17 (dk_at dksX7_isOrdered_0 6 rfl rfl)
theorem dX7_isOrdered_9 : decode cX7_isOrdered 9 = .ok (.iload_n 1, 1) := dk_27 (dk_at dksX7_isOrdered_0 9 rfl rfl)
theorem dX7_isOrdered_10 : decode cX7_isOrdered 10 = .ok (.iaload, 1) := dk_46 (dk_at dksX7_isOrdered_0 10 rfl rfl)
theorem dX7_isOrdered_11 : decode cX7_isOrdered 11 = .ok (.if_icmp .ge 124, 3) := dk_162 0 124 (dk_at dksX7_isOrdered_0 11 rfl rfl)
theorem dX7_isOrdered_14 : decode cX7_isOrdered 14 = .ok (.iconst 0, 1) := dk_3 (dk_at dksX7_isOrdered_0 14 rfl rfl)
theorem dX7_isOrdered_15 : decode cX7_isOrdered 15 = .ok (.istore 4, 2) := dk_54 4 (dk_at dksX7_isOrdered_0 15 rfl rfl)
theorem dX7_isOrdered_17 : decode cX7_isOrdered 17 = .ok (.iconst 0, 1) := dk_3 (dk_at dksX7_isOrdered_0 17 rfl rfl)
theorem dX7_isOrdered_18 : decode cX7_isOrdered 18 = .ok (.istore 5, 2) := dk_54 5 (dk_at dksX7_isOrdered_0 18 rfl rfl)
theorem dX7_isOrdered_20 : decode cX7_isOrdered 20 = .ok (.iload 5, 2) := dk_21 5 (dk_at dksX7_isOrdered_0 20 rfl rfl)
theorem dX7_isOrdered_22 : decode cX7_isOrdered 22 = .ok (.iload_n 2, 1) := dk_28 (dk_at dksX7_isOrdered_0 22 rfl rfl)
theorem dX7_isOrdered_23 : decode cX7_isOrdered 23 = .ok (.if_icmp .ge 99, 3) := dk_162 0 99 (dk_at dksX7_isOrdered_1 0 rfl rfl)
theorem dX7_isOrdered_26 : decode cX7_isOrdered 26 = .ok (.iload 4, 2) := dk_21 4 (dk_at dksX7_isOrdered_1 3 rfl rfl)
theorem dX7_isOrdered_28 : decode cX7_isOrdered 28 = .ok (.ifCond .ne 94, 3) := dk_154 0 94 (dk_at dksX7_isOrdered_1 5 rfl rfl)
theorem dX7_isOrdered_31 : decode cX7_isOrdered 31 = .ok (.aload_n 0, 1) := dk_42 (dk_at dksX7_isOrdered_1 8 rfl rfl)
theorem dX7_isOrdered_32 : decode cX7_isOrdered 32 = .ok (.getfield 13, 3) := dk_180 0 13 (dk_at dksX7_isOrdered_1 9 rfl rfl)
theorem dX7_isOrdered_35 : decode cX7_isOrdered 35 = .ok (.bipush 20, 2) := dk_16 20 (dk_at dksX7_isOrdered_1 12 rfl rfl)
theorem dX7_isOrdered_37 : decode cX7_isOrdered 37 = .ok (.bipush 40, 2) := dk_16 40 (dk_at dksX7_isOrdered_1 14 rfl rfl)
theorem dX7_isOrdered_39 : decode cX7_isOrdered 39 = .ok (.iload_n 1, 1) := dk_27 (dk_at dksX7_isOrdered_1 16 rfl rfl)
theorem dX7_isOrdered_40 : decode cX7_isOrdered 40 = .ok (.imul, 1) := dk_104 (dk_at dksX7_isOrdered_1 17 rfl rfl)
theorem dX7_isOrdered_41 : decode cX7_isOrdered 41 = .ok (.aload_n 0, 1) := dk_42 (dk_at dksX7_isOrdered_1 18 rfl rfl)
theorem dX7_isOrdered_42 : decode cX7_isOrdered 42 = .ok (.getfield 90, 3) := dk_180 0 90 (dk_at dksX7_isOrdered_1 19 rfl rfl)
theorem dX7_isOrdered_45 : decode cX7_isOrdered 45 = .ok (.iload_n 3, 1) := dk_29 (dk_at dksX7_isOrdered_1 22 rfl rfl)
theorem dX7_isOrdered_46 : decode cX7_isOrdered 46 = .ok (.iaload, 1) := dk_46 (dk_at dksX7_isOrdered_1 23 rfl rfl)
theorem dX7_isOrdered_47 : decode cX7_isOrdered 47 = .ok (.iadd, 1) := dk_96 (dk_at dksX7_isOrdered_2 0 rfl rfl)
theorem dX7_isOrdered_48 : decode cX7_isOrdered 48 = .ok (.imul, 1) := dk_104 (dk_at dksX7_isOrdered_2 1 rfl rfl)
theorem dX7_isOrdered_49 : decode cX7_isOrdered 49 = .ok (.aload_n 0, 1) := dk_42 (dk_at dksX7_isOrdered_2 2 rfl rfl)
theorem dX7_isOrdered_50 : decode cX7_isOrdered 50 = .ok (.iload 5, 2) := dk_21 5 (dk_at dksX7_isOrdered_2 3 rfl rfl)
theorem dX7_isOrdered_52 : decode cX7_isOrdered 52 = .ok (.invokevirtual 218, 3) := dk_182 0 218 (dk_at dksX7_isOrdered_2 5 rfl rfl)
theorem dX7_isOrdered_55 : decode cX7_isOrdered 55 = .ok (.iadd, 1) := dk_96 (dk_at dksX7_isOrdered_2 8 rfl rfl)
theorem dX7_isOrdered_56 : decode cX7_isOrdered 56 = .ok (.iconst 1, 1) := dk_4 (dk_at dksX7_isOrdered_2 9 rfl rfl)
theorem dX7_isOrdered_57 : decode cX7_isOrdered 57 = .ok (.isub, 1) := dk_100 (dk_at dksX7_isOrdered_2 10 rfl rfl)
theorem dX7_isOrdered_58 : decode cX7_isOrdered 58 = .ok (.iaload, 1) := dk_46 (dk_at dksX7_isOrdered_2 11 rfl rfl)
theorem dX7_isOrdered_59 : decode cX7_isOrdered 59 = .ok (.bipush 16, 2) := dk_16 16 (dk_at dksX7_isOrdered_2 12 rfl rfl)
theorem dX7_isOrdered_61 : decode cX7_isOrdered 61 = .ok (.irem, 1) := dk_112 (dk_at dksX7_isOrdered_2 14 rfl rfl)
theorem dX7_isOrdered_62 : decode cX7_isOrdered 62 = .ok (.istore 6, 2) := dk_54 6 (dk_at dksX7_isOrdered_2 15 rfl rfl)
theorem dX7_isOrdered_64 : decode cX7_isOrdered 64 = .ok (.aload_n 0, 1) := dk_42 (dk_at dksX7_isOrdered_2 17 rfl rfl)
theorem dX7_isOrdered_65 : decode cX7_isOrdered 65 = .ok (.getfield 13, 3) := dk_180 0 13 (dk_at dksX7_isOrdered_2 18 rfl rfl)
theorem dX7_isOrdered_68 : decode cX7_isOrdered 68 = .ok (.bipush 20, 2) := dk_16 20 (dk_at dksX7_isOrdered_2 21 rfl rfl)
theorem dX7_isOrdered_70 : decode cX7_isOrdered 70 = .ok (.bipush 40, 2) := dk_16 40 (dk_at dksX7_isOrdered_3 0 rfl rfl)
theorem dX7_isOrdered_72 : decode cX7_isOrdered 72 = .ok (.iload_n 1, 1) := dk_27 (dk_at dksX7_isOrdered_3 2 rfl rfl)
theorem dX7_isOrdered_73 : decode cX7_isOrdered 73 = .ok (.imul, 1) := dk_104 (dk_at dksX7_isOrdered_3 3 rfl rfl)
theorem dX7_isOrdered_74 : decode cX7_isOrdered 74 = .ok (.aload_n 0, 1) := dk_42 (dk_at dksX7_isOrdered_3 4 rfl rfl)
theorem dX7_isOrdered_75 : decode cX7_isOrdered 75 = .ok (.getfield 90, 3) := dk_180 0 90 (dk_at dksX7_isOrdered_3 5 rfl rfl)
theorem dX7_isOrdered_78 : decode cX7_isOrdered 78 = .ok (.iload_n 3, 1) := dk_29 (dk_at dksX7_isOrdered_3 8 rfl rfl)
theorem dX7_isOrdered_79 : decode cX7_isOrdered 79 = .ok (.iconst 1, 1) := dk_4 (dk_at dksX7_isOrdered_3 9 rfl rfl)
theorem dX7_isOrdered_80 : decode cX7_isOrdered 80 = .ok (.iadd, 1) := dk_96 (dk_at dksX7_isOrdered_3 10 rfl rfl)
theorem dX7_isOrdered_81 : decode cX7_isOrdered 81 = .ok (.iaload, 1) := dk_46 (dk_at dksX7_isOrdered_3 11 rfl rfl)
theorem dX7_isOrdered_82 : decode cX7_isOrdered 82 = .ok (.iadd, 1) := dk_96 (dk_at dksX7_isOrdered_3 12 rfl rfl)
theorem dX7_isOrdered_83 : decode cX7_isOrdered 83 = .ok (.imul, 1) := dk_104 (dk_at dksX7_isOrdered_3 13 rfl rfl)
theorem dX7_isOrdered_84 : decode cX7_isOrdered 84 = .ok (.aload_n 0, 1) := dk_42 (dk_at dksX7_isOrdered_3 14 rfl rfl)
theorem dX7_isOrdered_85 : decode cX7_isOrdered 85 = .ok (.iload 5, 2) := dk_21 5 (dk_at dksX7_isOrdered_3 15 rfl rfl)
theorem dX7_isOrdered_87 : decode cX7_isOrdered 87 = .ok (.invokevirtual 218, 3) := dk_182 0 218 (dk_at dksX7_isOrdered_3 17 rfl rfl)
theorem dX7_isOrdered_90 : decode cX7_isOrdered 90 = .ok (.iadd, 1) := dk_96 (dk_at dksX7_isOrdered_3 20 rfl rfl)
theorem dX7_isOrdered_91 : decode cX7_isOrdered 91 = .ok (.iconst 1, 1) := dk_4 (dk_at dksX7_isOrdered_3 21 rfl rfl)
theorem dX7_isOrdered_92 : decode cX7_isOrdered 92 = .ok (.isub, 1) := dk_100 (dk_at dksX7_isOrdered_3 22 rfl rfl)
theorem dX7_isOrdered_93 : decode cX7_isOrdered 93 = .ok (.iaload, 1) := dk_46 (dk_at dksX7_isOrdered_3 23 rfl rfl)
theorem dX7_isOrdered_94 : decode cX7_isOrdered 94 = .ok (.bipush 16, 2) := dk_16 16 (dk_at dksX7_isOrdered_4 0 rfl rfl)
theorem dX7_isOrdered_96 : decode cX7_isOrdered 96 = .ok (.irem, 1) := dk_112 (dk_at dksX7_isOrdered_4 2 rfl rfl)
theorem dX7_isOrdered_97 : decode cX7_isOrdered 97 = .ok (.istore 7, 2) := dk_54 7 (dk_at dksX7_isOrdered_4 3 rfl rfl)
theorem dX7_isOrdered_99 : decode cX7_isOrdered 99 = .ok (.iload 6, 2) := dk_21 6 (dk_at dksX7_isOrdered_4 5 rfl rfl)
theorem dX7_isOrdered_101 : decode cX7_isOrdered 101 = .ok (.iconst 1, 1) := dk_4 (dk_at dksX7_isOrdered_4 7 rfl rfl)
theorem dX7_isOrdered_102 : decode cX7_isOrdered 102 = .ok (.iadd, 1) := dk_96 (dk_at dksX7_isOrdered_4 8 rfl rfl)
theorem dX7_isOrdered_103 : decode cX7_isOrdered 103 = .ok (.bipush 16, 2) := dk_16 16 (dk_at dksX7_isOrdered_4 9 rfl rfl)
theorem dX7_isOrdered_105 : decode cX7_isOrdered 105 = .ok (.irem, 1) := dk_112 (dk_at dksX7_isOrdered_4 11 rfl rfl)
theorem dX7_isOrdered_106 : decode cX7_isOrdered 106 = .ok (.iload 7, 2) := dk_21 7 (dk_at dksX7_isOrdered_4 12 rfl rfl)
theorem dX7_isOrdered_108 : decode cX7_isOrdered 108 = .ok (.iconst 1, 1) := dk_4 (dk_at dksX7_isOrdered_4 14 rfl rfl)
theorem dX7_isOrdered_109 : decode cX7_isOrdered 109 = .ok (.iadd, 1) := dk_96 (dk_at dksX7_isOrdered_4 15 rfl rfl)
theorem dX7_isOrdered_110 : decode cX7_isOrdered 110 = .ok (.bipush 16, 2) := dk_16 16 (dk_at dksX7_isOrdered_4 16 rfl rfl)
theorem dX7_isOrdered_112 : decode cX7_isOrdered 112 = .ok (.irem, 1) := dk_112 (dk_at dksX7_isOrdered_4 18 rfl rfl)
theorem dX7_isOrdered_113 : decode cX7_isOrdered 113 = .ok (.isub, 1) := dk_100 (dk_at dksX7_isOrdered_4 19 rfl rfl)
theorem dX7_isOrdered_114 : decode cX7_isOrdered 114 = .ok (.istore 4, 2) := dk_54 4 (dk_at dksX7_isOrdered_4 20 rfl rfl)
theorem dX7_isOrdered_116 : decode cX7_isOrdered 116 = .ok (.iinc 5 1, 3) := dk_132 5 1 (dk_at dksX7_isOrdered_5 0 rfl rfl)
theorem dX7_isOrdered_119 : decode cX7_isOrdered 119 = .ok (.goto (-99), 3) := dk_167 255 157 (dk_at dksX7_isOrdered_5 3 rfl rfl)
theorem dX7_isOrdered_122 : decode cX7_isOrdered 122 = .ok (.iload 4, 2) := dk_21 4 (dk_at dksX7_isOrdered_5 6 rfl rfl)
theorem dX7_isOrdered_124 : decode cX7_isOrdered 124 = .ok (.ifCond .le 5, 3) := dk_158 0 5 (dk_at dksX7_isOrdered_5 8 rfl rfl)
theorem dX7_isOrdered_127 : decode cX7_isOrdered 127 = .ok (.iconst 0, 1) := dk_3 (dk_at dksX7_isOrdered_5 11 rfl rfl)
theorem dX7_isOrdered_128 : decode cX7_isOrdered 128 = .ok (.ireturn, 1) := dk_172 (dk_at dksX7_isOrdered_5 12 rfl rfl)
theorem dX7_isOrdered_129 : decode cX7_isOrdered 129 = .ok (.iinc 3 1, 3) := dk_132 3 1 (dk_at dksX7_isOrdered_5 13 rfl rfl)
theorem dX7_isOrdered_132 : decode cX7_isOrdered 132 = .ok (.goto (-130), 3) := dk_167 255 126 (dk_at dksX7_isOrdered_5 16 rfl rfl)
theorem dX7_isOrdered_135 : decode cX7_isOrdered 135 = .ok (.iconst 1, 1) := dk_4 (dk_at dksX7_isOrdered_5 19 rfl rfl)
theorem dX7_isOrdered_136 : decode cX7_isOrdered 136 = .ok (.ireturn, 1) := dk_172 (dk_at dksX7_isOrdered_5 20 rfl rfl)
