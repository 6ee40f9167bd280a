/-! methods: names, decode rows: by program out of claim/names -/
set_option maxRecDepth 100000
abbrev cX1_init : ByteArray := prog_1_method_4_code
def yX1_init : MethodName := ⟨RX1, "<init>", "()V"⟩
def dkwX1_init_10 : List UInt8 := [162, 0, 22, 42, 180, 0, 19, 27, 187, 0, 17, 89, 183, 0, 111, 83, 132, 1, 1, 167, 255, 234, 177]
abbrev dktX1_init_10 : List UInt8 := dkwX1_init_10 ++ []
def dkwX1_init_9 : List UInt8 := [16, 6, 188, 10, 181, 0, 103, 42, 16, 7, 16, 6, 197, 0, 106, 2, 181, 0, 108, 3, 60, 27, 16, 8]
abbrev dktX1_init_9 : List UInt8 := dkwX1_init_9 ++ dktX1_init_10
def dkwX1_init_8 : List UInt8 := [189, 0, 23, 181, 0, 93, 42, 16, 6, 188, 10, 181, 0, 97, 42, 16, 6, 188, 10, 181, 0, 100, 42]
abbrev dktX1_init_8 : List UInt8 := dkwX1_init_8 ++ dktX1_init_9
def dkwX1_init_7 : List UInt8 := [42, 16, 100, 188, 10, 181, 0, 87, 42, 187, 0, 23, 89, 183, 0, 25, 181, 0, 90, 42, 16, 8]
abbrev dktX1_init_7 : List UInt8 := dkwX1_init_7 ++ dktX1_init_8
def dkwX1_init_6 : List UInt8 := [42, 16, 40, 188, 10, 181, 0, 78, 42, 16, 100, 188, 10, 181, 0, 81, 42, 16, 100, 188, 10, 181, 0, 84]
abbrev dktX1_init_6 : List UInt8 := dkwX1_init_6 ++ dktX1_init_7
def dkwX1_init_5 : List UInt8 := [17, 1, 0, 188, 4, 181, 0, 67, 42, 187, 0, 37, 89, 183, 0, 39, 181, 0, 71, 42, 2, 181, 0, 74]
abbrev dktX1_init_5 : List UInt8 := dkwX1_init_5 ++ dktX1_init_6
def dkwX1_init_4 : List UInt8 := [183, 0, 56, 181, 0, 57, 42, 17, 1, 0, 188, 10, 181, 0, 61, 42, 16, 8, 188, 10, 181, 0, 64, 42]
abbrev dktX1_init_4 : List UInt8 := dkwX1_init_4 ++ dktX1_init_5
def dkwX1_init_3 : List UInt8 := [187, 0, 37, 89, 183, 0, 39, 181, 0, 47, 42, 16, 60, 188, 10, 181, 0, 50, 42, 187, 0, 54, 89]
abbrev dktX1_init_3 : List UInt8 := dkwX1_init_3 ++ dktX1_init_4
def dkwX1_init_2 : List UInt8 := [187, 0, 37, 89, 183, 0, 39, 181, 0, 40, 42, 187, 0, 37, 89, 183, 0, 39, 181, 0, 44, 42]
abbrev dktX1_init_2 : List UInt8 := dkwX1_init_2 ++ dktX1_init_3
def dkwX1_init_1 : List UInt8 := [187, 0, 23, 89, 183, 0, 25, 181, 0, 26, 42, 187, 0, 30, 89, 183, 0, 32, 181, 0, 33, 42]
abbrev dktX1_init_1 : List UInt8 := dkwX1_init_1 ++ dktX1_init_2
def dkwX1_init_0 : List UInt8 := [42, 183, 0, 7, 42, 17, 2, 228, 188, 8, 181, 0, 13, 42, 16, 8, 189, 0, 17, 181, 0, 19, 42]
abbrev dktX1_init_0 : List UInt8 := dkwX1_init_0 ++ dktX1_init_1
theorem dksX1_init_0 : cX1_init.data.toList.drop 0 = dktX1_init_0 := by decide +kernel
theorem dksX1_init_1 : cX1_init.data.toList.drop 23 = dktX1_init_1 := dk_seg dksX1_init_0 23 rfl rfl
theorem dksX1_init_2 : cX1_init.data.toList.drop 45 = dktX1_init_2 := dk_seg dksX1_init_1 22 rfl rfl
theorem dksX1_init_3 : cX1_init.data.toList.drop 67 = dktX1_init_3 := dk_seg dksX1_init_2 22 rfl rfl
theorem dksX1_init_4 : cX1_init.data.toList.drop 90 = dktX1_init_4 := dk_seg dksX1_init_3 23 rfl rfl
theorem dksX1_init_5 : cX1_init.data.toList.drop 114 = dktX1_init_5 := dk_seg dksX1_init_4 24 rfl rfl
theorem dksX1_init_6 : cX1_init.data.toList.drop 138 = dktX1_init_6 := dk_seg dksX1_init_5 24 rfl rfl
theorem dksX1_init_7 : cX1_init.data.toList.drop 162 = dktX1_init_7 := dk_seg dksX1_init_6 24 rfl rfl
theorem dksX1_init_8 : cX1_init.data.toList.drop 184 = dktX1_init_8 := dk_seg dksX1_init_7 22 rfl rfl
theorem dksX1_init_9 : cX1_init.data.toList.drop 207 = dktX1_init_9 := dk_seg dksX1_init_8 23 rfl rfl
theorem dksX1_init_10 : cX1_init.data.toList.drop 231 = dktX1_init_10 := dk_seg dksX1_init_9 24 rfl rfl
theorem dX1_init_0 : decode cX1_init 0 = .ok (.aload_n 0, 1) := dk_42 (dk_at dksX1_init_0 0 rfl rfl)
theorem dX1_init_1 : decode cX1_init 1 = .ok (.invokespecial 7, 3) := dk_183 0 7 (dk_at dksX1_init_0 1 rfl rfl)
theorem dX1_init_4 : decode cX1_init 4 = .ok (.aload_n 0, 1) := dk_42 (dk_at dksX1_init_0 4 rfl rfl)
theorem dX1_init_5 : decode cX1_init 5 = .ok (.sipush 740, 3) := dk_17 2 228 (dk_at dksX1_init_0 5 rfl rfl)
theorem dX1_init_8 : decode cX1_init 8 = .ok (.newarray .byte, 2) := dk_188_8 (dk_at dksX1_init_0 8 rfl rfl)
theorem dX1_init_10 : decode cX1_init 10 = .ok (.putfield 13, 3) := dk_181 0 13 (dk_at dksX1_init_0 10 rfl rfl)
theorem dX1_init_13 : decode cX1_init 13 = .ok (.aload_n 0, 1) := dk_42 (dk_at dksX1_init_0 13 rfl rfl)
theorem dX1_init_14 : decode cX1_init 14 = .ok (.bipush 8, 2) := dk_16 8 (dk_at dksX1_init_0 14 rfl rfl)
theorem dX1_init_16 : decode cX1_init 16 = .ok (.anewarray 17, 3) := dk_189 0 17 (dk_at dksX1_init_0 16 rfl rfl)
theorem dX1_init_19 : decode cX1_init 19 = .ok (.putfield 19, 3) := dk_181 0 19 (dk_at dksX1_init_0 19 rfl rfl)
theorem dX1_init_22 : decode cX1_init 22 = .ok (.aload_n 0, 1) := dk_42 (dk_at dksX1_init_0 22 rfl rfl)
theorem dX1_init_23 : decode cX1_init 23 = .ok (.new 23, 3) := dk_187 0 23 (dk_at dksX1_init_1 0 rfl rfl)
theorem dX1_init_26 : decode cX1_init 26 = .ok (.dup, 1) := dk_89 (dk_at dksX1_init_1 3 rfl rfl)
theorem dX1_init_27 : decode cX1_init 27 = .ok (.invokespecial 25, 3) := dk_183 0 25 (dk_at dksX1_init_1 4 rfl rfl)
theorem dX1_init_30 : decode cX1_init 30 = .ok (.putfield 26, 3) := dk_181 0 26 (dk_at dksX1_init_1 7 rfl rfl)
theorem dX1_init_33 : decode cX1_init 33 = .ok (.aload_n 0, 1) := dk_42 (dk_at dksX1_init_1 10 rfl rfl)
theorem dX1_init_34 : decode cX1_init 34 = .ok (.new 30, 3) := dk_187 0 30 (dk_at dksX1_init_1 11 rfl rfl)
theorem dX1_init_37 : decode cX1_init 37 = .ok (.dup, 1) := dk_89 (dk_at dksX1_init_1 14 rfl rfl)
theorem dX1_init_38 : decode cX1_init 38 = .ok (.invokespecial 32, 3) := dk_183 0 32 (dk_at dksX1_init_1 15 rfl rfl)
theorem dX1_init_41 : decode cX1_init 41 = .ok (.putfield 33, 3) := dk_181 0 33 (dk_at dksX1_init_1 18 rfl rfl)
theorem dX1_init_44 : decode cX1_init 44 = .ok (.aload_n 0, 1) := dk_42 (dk_at dksX1_init_1 21 rfl rfl)
theorem dX1_init_45 : decode cX1_init 45 = .ok (.new 37, 3) := dk_187 0 37 (dk_at dksX1_init_2 0 rfl rfl)
theorem dX1_init_48 : decode cX1_init 48 = .ok (.dup, 1) := dk_89 (dk_at dksX1_init_2 3 rfl rfl)
theorem dX1_init_49 : decode cX1_init 49 = .ok (.invokespecial 39, 3) := dk_183 0 39 (dk_at dksX1_init_2 4 rfl rfl)
theorem dX1_init_52 : decode cX1_init 52 = .ok (.putfield 40, 3) := dk_181 0 40 (dk_at dksX1_init_2 7 rfl rfl)
theorem dX1_init_55 : decode cX1_init 55 = .ok (.aload_n 0, 1) := dk_42 (dk_at dksX1_init_2 10 rfl rfl)
theorem dX1_init_56 : decode cX1_init 56 = .ok (.new 37, 3) := dk_187 0 37 (dk_at dksX1_init_2 11 rfl rfl)
theorem dX1_init_59 : decode cX1_init 59 = .ok (.dup, 1) := dk_89 (dk_at dksX1_init_2 14 rfl rfl)
theorem dX1_init_60 : decode cX1_init 60 = .ok (.invokespecial 39, 3) := dk_183 0 39 (dk_at dksX1_init_2 15 rfl rfl)
theorem dX1_init_63 : decode cX1_init 63 = .ok (.putfield 44, 3) := dk_181 0 44 (dk_at dksX1_init_2 18 rfl rfl)
theorem dX1_init_66 : decode cX1_init 66 = .ok (.aload_n 0, 1) := dk_42 (dk_at dksX1_init_2 21 rfl rfl)
theorem dX1_init_67 : decode cX1_init 67 = .ok (.new 37, 3) := dk_187 0 37 (dk_at dksX1_init_3 0 rfl rfl)
theorem dX1_init_70 : decode cX1_init 70 = .ok (.dup, 1) := dk_89 (dk_at dksX1_init_3 3 rfl rfl)
theorem dX1_init_71 : decode cX1_init 71 = .ok (.invokespecial 39, 3) := dk_183 0 39 (dk_at dksX1_init_3 4 rfl rfl)
theorem dX1_init_74 : decode cX1_init 74 = .ok (.putfield 47, 3) := dk_181 0 47 (dk_at dksX1_init_3 7 rfl rfl)
theorem dX1_init_77 : decode cX1_init 77 = .ok (.aload_n 0, 1) := dk_42 (dk_at dksX1_init_3 10 rfl rfl)
theorem dX1_init_78 : decode cX1_init 78 = .ok (.bipush 60, 2) := dk_16 60 (dk_at dksX1_init_3 11 rfl rfl)
theorem dX1_init_80 : decode cX1_init 80 = .ok (.newarray .int, 2) := dk_188_10 (dk_at dksX1_init_3 13 rfl rfl)
theorem dX1_init_82 : decode cX1_init 82 = .ok (.putfield 50, 3) := dk_181 0 50 (dk_at dksX1_init_3 15 rfl rfl)
theorem dX1_init_85 : decode cX1_init 85 = .ok (.aload_n 0, 1) := dk_42 (dk_at dksX1_init_3 18 rfl rfl)
theorem dX1_init_86 : decode cX1_init 86 = .ok (.new 54, 3) := dk_187 0 54 (dk_at dksX1_init_3 19 rfl rfl)
theorem dX1_init_89 : decode cX1_init 89 = .ok (.dup, 1) := dk_89 (dk_at dksX1_init_3 22 rfl rfl)
theorem dX1_init_90 : decode cX1_init 90 = .ok (.invokespecial 56, 3) := dk_183 0 56 (dk_at dksX1_init_4 0 rfl rfl)
theorem dX1_init_93 : decode cX1_init 93 = .ok (.putfield 57, 3) := dk_181 0 57 (dk_at dksX1_init_4 3 rfl rfl)
theorem dX1_init_96 : decode cX1_init 96 = .ok (.aload_n 0, 1) := dk_42 (dk_at dksX1_init_4 6 rfl rfl)
theorem dX1_init_97 : decode cX1_init 97 = .ok (.sipush 256, 3) := dk_17 1 0 (dk_at dksX1_init_4 7 rfl rfl)
theorem dX1_init_100 : decode cX1_init 100 = .ok (.newarray .int, 2) := dk_188_10 (dk_at dksX1_init_4 10 rfl rfl)
theorem dX1_init_102 : decode cX1_init 102 = .ok (.putfield 61, 3) := dk_181 0 61 (dk_at dksX1_init_4 12 rfl rfl)
theorem dX1_init_105 : decode cX1_init 105 = .ok (.aload_n 0, 1) := dk_42 (dk_at dksX1_init_4 15 rfl rfl)
theorem dX1_init_106 : decode cX1_init 106 = .ok (.bipush 8, 2) := dk_16 8 (dk_at dksX1_init_4 16 rfl rfl)
theorem dX1_init_108 : decode cX1_init 108 = .ok (.newarray .int, 2) := dk_188_10 (dk_at dksX1_init_4 18 rfl rfl)
theorem dX1_init_110 : decode cX1_init 110 = .ok (.putfield 64, 3) := dk_181 0 64 (dk_at dksX1_init_4 20 rfl rfl)
theorem dX1_init_113 : decode cX1_init 113 = .ok (.aload_n 0, 1) := dk_42 (dk_at dksX1_init_4 23 rfl rfl)
theorem dX1_init_114 : decode cX1_init 114 = .ok (.sipush 256, 3) := dk_17 1 0 (dk_at dksX1_init_5 0 rfl rfl)
theorem dX1_init_117 : decode cX1_init 117 = .ok (.newarray .boolean, 2) := dk_188_4 (dk_at dksX1_init_5 3 rfl rfl)
theorem dX1_init_119 : decode cX1_init 119 = .ok (.putfield 67, 3) := dk_181 0 67 (dk_at dksX1_init_5 5 rfl rfl)
theorem dX1_init_122 : decode cX1_init 122 = .ok (.aload_n 0, 1) := dk_42 (dk_at dksX1_init_5 8 rfl rfl)
theorem dX1_init_123 : decode cX1_init 123 = .ok (.new 37, 3) := dk_187 0 37 (dk_at dksX1_init_5 9 rfl rfl)
theorem dX1_init_126 : decode cX1_init 126 = .ok (.dup, 1) := dk_89 (dk_at dksX1_init_5 12 rfl rfl)
theorem dX1_init_127 : decode cX1_init 127 = .ok (.invokespecial 39, 3) := dk_183 0 39 (dk_at dksX1_init_5 13 rfl rfl)
theorem dX1_init_130 : decode cX1_init 130 = .ok (.putfield 71, 3) := dk_181 0 71 (dk_at dksX1_init_5 16 rfl rfl)
theorem dX1_init_133 : decode cX1_init 133 = .ok (.aload_n 0, 1) := dk_42 (dk_at dksX1_init_5 19 rfl rfl)
theorem dX1_init_134 : decode cX1_init 134 = .ok (.iconst (-1), 1) := dk_2 (dk_at dksX1_init_5 20 rfl rfl)
theorem dX1_init_135 : decode cX1_init 135 = .ok (.putfield 74, 3) := dk_181 0 74 (dk_at dksX1_init_5 21 rfl rfl)
theorem dX1_init_138 : decode cX1_init 138 = .ok (.aload_n 0, 1) := dk_42 (dk_at dksX1_init_6 0 rfl rfl)
theorem dX1_init_139 : decode cX1_init 139 = .ok (.bipush 40, 2) := dk_16 40 (dk_at dksX1_init_6 1 rfl rfl)
theorem dX1_init_141 : decode cX1_init 141 = .ok (.newarray .int, 2) := dk_188_10 (dk_at dksX1_init_6 3 rfl rfl)
theorem dX1_init_143 : decode cX1_init 143 = .ok (.putfield 78, 3) := dk_181 0 78 (dk_at dksX1_init_6 5 rfl rfl)
theorem dX1_init_146 : decode cX1_init 146 = .ok (.aload_n 0, 1) := dk_42 (dk_at dksX1_init_6 8 rfl rfl)
theorem dX1_init_147 : decode cX1_init 147 = .ok (.bipush 100, 2) := dk_16 100 (dk_at dksX1_init_6 9 rfl rfl)
theorem dX1_init_149 : decode cX1_init 149 = .ok (.newarray .int, 2) := dk_188_10 (dk_at dksX1_init_6 11 rfl rfl)
theorem dX1_init_151 : decode cX1_init 151 = .ok (.putfield 81, 3) := dk_181 0 81 (dk_at dksX1_init_6 13 rfl rfl)
theorem dX1_init_154 : decode cX1_init 154 = .ok (.aload_n 0, 1) := dk_42 (dk_at dksX1_init_6 16 rfl rfl)
theorem dX1_init_155 : decode cX1_init 155 = .ok (.bipush 100, 2) := dk_16 100 (dk_at dksX1_init_6 17 rfl rfl)
theorem dX1_init_157 : decode cX1_init 157 = .ok (.newarray .int, 2) := dk_188_10 (dk_at dksX1_init_6 19 rfl rfl)
theorem dX1_init_159 : decode cX1_init 159 = .ok (.putfield 84, 3) := dk_181 0 84 (dk_at dksX1_init_6 21 rfl rfl)
theorem dX1_init_162 : decode cX1_init 162 = .ok (.aload_n 0, 1) := dk_42 (dk_at dksX1_init_7 0 rfl rfl)
theorem dX1_init_163 : decode cX1_init 163 = .ok (.bipush 100, 2) := dk_16 100 (dk_at dksX1_init_7 1 rfl rfl)
theorem dX1_init_165 : decode cX1_init 165 = .ok (.newarray .int, 2) := dk_188_10 (dk_at dksX1_init_7 3 rfl rfl)
theorem dX1_init_167 : decode cX1_init 167 = .ok (.putfield 87, 3) := dk_181 0 87 (dk_at dksX1_init_7 5 rfl rfl)
theorem dX1_init_170 : decode cX1_init 170 = .ok (.aload_n 0, 1) := dk_42 (dk_at dksX1_init_7 8 rfl rfl)
theorem dX1_init_171 : decode cX1_init 171 = .ok (.new 23, 3) := dk_187 0 23 (dk_at dksX1_init_7 9 rfl rfl)
theorem dX1_init_174 : decode cX1_init 174 = .ok (.dup, 1) := dk_89 (dk_at dksX1_init_7 12 rfl rfl)
theorem dX1_init_175 : decode cX1_init 175 = .ok (.invokespecial 25, 3) := dk_183 0 25 (dk_at dksX1_init_7 13 rfl rfl)
theorem dX1_init_178 : decode cX1_init 178 = .ok (.putfield 90, 3) := dk_181 0 90 (dk_at dksX1_init_7 16 rfl rfl)
theorem dX1_init_181 : decode cX1_init 181 = .ok (.aload_n 0, 1) := dk_42 (dk_at dksX1_init_7 19 rfl rfl)
theorem dX1_init_182 : decode cX1_init 182 = .ok (.bipush 8, 2) := dk_16 8 (dk_at dksX1_init_7 20 rfl rfl)
theorem dX1_init_184 : decode cX1_init 184 = .ok (.anewarray 23, 3) := dk_189 0 23 (dk_at dksX1_init_8 0 rfl rfl)
theorem dX1_init_187 : decode cX1_init 187 = .ok (.putfield 93, 3) := dk_181 0 93 (dk_at dksX1_init_8 3 rfl rfl)
theorem dX1_init_190 : decode cX1_init 190 = .ok (.aload_n 0, 1) := dk_42 (dk_at dksX1_init_8 6 rfl rfl)
theorem dX1_init_191 : decode cX1_init 191 = .ok (.bipush 6, 2) := dk_16 6 (dk_at dksX1_init_8 7 rfl rfl)
theorem dX1_init_193 : decode cX1_init 193 = .ok (.newarray .int, 2) := dk_188_10 (dk_at dksX1_init_8 9 rfl rfl)
theorem dX1_init_195 : decode cX1_init 195 = .ok (.putfield 97, 3) := dk_181 0 97 (dk_at dksX1_init_8 11 rfl rfl)
theorem dX1_init_198 : decode cX1_init 198 = .ok (.aload_n 0, 1) := dk_42 (dk_at dksX1_init_8 14 rfl rfl)
theorem dX1_init_199 : decode cX1_init 199 = .ok (.bipush 6, 2) := dk_16 6 (dk_at dksX1_init_8 15 rfl rfl)
theorem dX1_init_201 : decode cX1_init 201 = .ok (.newarray .int, 2) := dk_188_10 (dk_at dksX1_init_8 17 rfl rfl)
theorem dX1_init_203 : decode cX1_init 203 = .ok (.putfield 100, 3) := dk_181 0 100 (dk_at dksX1_init_8 19 rfl rfl)
theorem dX1_init_206 : decode cX1_init 206 = .ok (.aload_n 0, 1) := dk_42 (dk_at dksX1_init_8 22 rfl rfl)
theorem dX1_init_207 : decode cX1_init 207 = .ok (.bipush 6, 2) := dk_16 6 (dk_at dksX1_init_9 0 rfl rfl)
theorem dX1_init_209 : decode cX1_init 209 = .ok (.newarray .int, 2) := dk_188_10 (dk_at dksX1_init_9 2 rfl rfl)
theorem dX1_init_211 : decode cX1_init 211 = .ok (.putfield 103, 3) := dk_181 0 103 (dk_at dksX1_init_9 4 rfl rfl)
theorem dX1_init_214 : decode cX1_init 214 = .ok (.aload_n 0, 1) := dk_42 (dk_at dksX1_init_9 7 rfl rfl)
theorem dX1_init_215 : decode cX1_init 215 = .ok (.bipush 7, 2) := dk_16 7 (dk_at dksX1_init_9 8 rfl rfl)
theorem dX1_init_217 : decode cX1_init 217 = .ok (.bipush 6, 2) := dk_16 6 (dk_at dksX1_init_9 10 rfl rfl)
theorem dX1_init_219 : decode cX1_init 219 = .ok (.multianewarray 106 2, 4) := by decide +kernel
theorem dX1_init_223 : decode cX1_init 223 = .ok (.putfield 108, 3) := dk_181 0 108 (dk_at dksX1_init_9 16 rfl rfl)
theorem dX1_init_226 : decode cX1_init 226 = .ok (.iconst 0, 1) := dk_3 (dk_at dksX1_init_9 19 rfl rfl)
theorem dX1_init_227 : decode cX1_init 227 = .ok (.istore_n 1, 1) := dk_60 (dk_at dksX1_init_9 20 rfl rfl)
theorem dX1_init_228 : decode cX1_init 228 = .ok (.iload_n 1, 1) := dk_27 (dk_at dksX1_init_9 21 rfl rfl)
theorem dX1_init_229 : decode cX1_init 229 = .ok (.bipush 8, 2) := dk_16 8 (dk_at dksX1_init_9 22 rfl rfl)
theorem dX1_init_231 : decode cX1_init 231 = .ok (.if_icmp .ge 22, 3) := dk_162 0 22 (dk_at dksX1_init_10 0 rfl rfl)
theorem dX1_init_234 : decode cX1_init 234 = .ok (.aload_n 0, 1) := dk_42 (dk_at dksX1_init_10 3 rfl rfl)
theorem dX1_init_235 : decode cX1_init 235 = .ok (.getfield 19, 3) := dk_180 0 19 (dk_at dksX1_init_10 4 rfl rfl)
theorem dX1_init_238 : decode cX1_init 238 = .ok (.iload_n 1, 1) := dk_27 (dk_at dksX1_init_10 7 rfl rfl)
theorem dX1_init_239 : decode cX1_init 239 = .ok (.new 17, 3) := dk_187 0 17 (dk_at dksX1_init_10 8 rfl rfl)
theorem dX1_init_242 : decode cX1_init 242 = .ok (.dup, 1) := dk_89 (dk_at dksX1_init_10 11 rfl rfl)
theorem dX1_init_243 : decode cX1_init 243 = .ok (.invokespecial 111, 3) := dk_183 0 111 (dk_at dksX1_init_10 12 rfl rfl)
theorem dX1_init_246 : decode cX1_init 246 = .ok (.aastore, 1) := dk_83 (dk_at dksX1_init_10 15 rfl rfl)
theorem dX1_init_247 : decode cX1_init 247 = .ok (.iinc 1 1, 3) := dk_132 1 1 (dk_at dksX1_init_10 16 rfl rfl)
theorem dX1_init_250 : decode cX1_init 250 = .ok (.goto (-22), 3) := dk_167 255 234 (dk_at dksX1_init_10 19 rfl rfl)
theorem dX1_init_253 : decode cX1_init 253 = .ok (.return_, 1) := dk_177 (dk_at dksX1_init_10 22 rfl rfl)
abbrev cX1_feed : ByteArray := prog_1_method_6_code
def yX1_feed : MethodName := ⟨RX1, "feed", "(IIIII)I"⟩
def dkwX1_feed_2 : List UInt8 := [172]
abbrev dktX1_feed_2 : List UInt8 := dkwX1_feed_2 ++ []
def dkwX1_feed_1 : List UInt8 := [182, 0, 115, 42, 29, 182, 0, 115, 42, 21, 4, 182, 0, 115, 42, 21, 5, 182, 0, 115, 42, 180, 0, 112]
abbrev dktX1_feed_1 : List UInt8 := dkwX1_feed_1 ++ dktX1_feed_2
def dkwX1_feed_0 : List UInt8 := [42, 180, 0, 112, 16, 20, 96, 17, 2, 228, 164, 0, 5, 2, 172, 42, 27, 182, 0, 115, 42, 28]
abbrev dktX1_feed_0 : List UInt8 := dkwX1_feed_0 ++ dktX1_feed_1
theorem dksX1_feed_0 : cX1_feed.data.toList.drop 0 = dktX1_feed_0 := by decide +kernel
theorem dksX1_feed_1 : cX1_feed.data.toList.drop 22 = dktX1_feed_1 := dk_seg dksX1_feed_0 22 rfl rfl
theorem dksX1_feed_2 : cX1_feed.data.toList.drop 46 = dktX1_feed_2 := dk_seg dksX1_feed_1 24 rfl rfl
theorem dX1_feed_0 : decode cX1_feed 0 = .ok (.aload_n 0, 1) := dk_42 (dk_at dksX1_feed_0 0 rfl rfl)
theorem dX1_feed_1 : decode cX1_feed 1 = .ok (.getfield 112, 3) := dk_180 0 112 (dk_at dksX1_feed_0 1 rfl rfl)
theorem dX1_feed_4 : decode cX1_feed 4 = .ok (.bipush 20, 2) := dk_16 20 (dk_at dksX1_feed_0 4 rfl rfl)
theorem dX1_feed_6 : decode cX1_feed 6 = .ok (.iadd, 1) := dk_96 (dk_at dksX1_feed_0 6 rfl rfl)
theorem dX1_feed_7 : decode cX1_feed 7 = .ok (.sipush 740, 3) := dk_17 2 228 (dk_at dksX1_feed_0 7 rfl rfl)
theorem dX1_feed_10 : decode cX1_feed 10 = .ok (.if_icmp .le 5, 3) := dk_164 0 5 (dk_at dksX1_feed_0 10 rfl rfl)
theorem dX1_feed_13 : decode cX1_feed 13 = .ok (.iconst (-1), 1) := dk_2 (dk_at dksX1_feed_0 13 rfl rfl)
theorem dX1_feed_14 : decode cX1_feed 14 = .ok (.ireturn, 1) := dk_172 (dk_at dksX1_feed_0 14 rfl rfl)
theorem dX1_feed_15 : decode cX1_feed 15 = .ok (.aload_n 0, 1) := dk_42 (dk_at dksX1_feed_0 15 rfl rfl)
theorem dX1_feed_16 : decode cX1_feed 16 = .ok (.iload_n 1, 1) := dk_27 (dk_at dksX1_feed_0 16 rfl rfl)
theorem dX1_feed_17 : decode cX1_feed 17 = .ok (.invokevirtual 115, 3) := dk_182 0 115 (dk_at dksX1_feed_0 17 rfl rfl)
theorem dX1_feed_20 : decode cX1_feed 20 = .ok (.aload_n 0, 1) := dk_42 (dk_at dksX1_feed_0 20 rfl rfl)
theorem dX1_feed_21 : decode cX1_feed 21 = .ok (.iload_n 2, 1) := dk_28 (dk_at dksX1_feed_0 21 rfl rfl)
theorem dX1_feed_22 : decode cX1_feed 22 = .ok (.invokevirtual 115, 3) := dk_182 0 115 (dk_at dksX1_feed_1 0 rfl rfl)
theorem dX1_feed_25 : decode cX1_feed 25 = .ok (.aload_n 0, 1) := dk_42 (dk_at dksX1_feed_1 3 rfl rfl)
theorem dX1_feed_26 : decode cX1_feed 26 = .ok (.iload_n 3, 1) := dk_29 (dk_at dksX1_feed_1 4 rfl rfl)
theorem dX1_feed_27 : decode cX1_feed 27 = .ok (.invokevirtual 115, 3) := dk_182 0 115 (dk_at dksX1_feed_1 5 rfl rfl)
theorem dX1_feed_30 : decode cX1_feed 30 = .ok (.aload_n 0, 1) := dk_42 (dk_at dksX1_feed_1 8 rfl rfl)
theorem dX1_feed_31 : decode cX1_feed 31 = .ok (.iload 4, 2) := dk_21 4 (dk_at dksX1_feed_1 9 rfl rfl)
theorem dX1_feed_33 : decode cX1_feed 33 = .ok (.invokevirtual 115, 3) := dk_182 0 115 (dk_at dksX1_feed_1 11 rfl rfl)
theorem dX1_feed_36 : decode cX1_feed 36 = .ok (.aload_n 0, 1) := dk_42 (dk_at dksX1_feed_1 14 rfl rfl)
theorem dX1_feed_37 : decode cX1_feed 37 = .ok (.iload 5, 2) := dk_21 5 (dk_at dksX1_feed_1 15 rfl rfl)
theorem dX1_feed_39 : decode cX1_feed 39 = .ok (.invokevirtual 115, 3) := dk_182 0 115 (dk_at dksX1_feed_1 17 rfl rfl)
theorem dX1_feed_42 : decode cX1_feed 42 = .ok (.aload_n 0, 1) := dk_42 (dk_at dksX1_feed_1 20 rfl rfl)
theorem dX1_feed_43 : decode cX1_feed 43 = .ok (.getfield 112, 3) := dk_180 0 112 (dk_at dksX1_feed_1 21 rfl rfl)
theorem dX1_feed_46 : decode cX1_feed 46 = .ok (.ireturn, 1) := dk_172 (dk_at dksX1_feed_2 0 rfl rfl)
abbrev cX1_come : ByteArray := prog_1_method_5_code
def yX1_come : MethodName := ⟨RX1, "come", "(I)V"⟩
def dkwX1_come_1 : List UInt8 := [180, 0, 112, 4, 96, 181, 0, 112, 132, 2, 248, 167, 255, 226, 177]
abbrev dktX1_come_1 : List UInt8 := dkwX1_come_1 ++ []
def dkwX1_come_0 : List UInt8 := [16, 24, 61, 28, 155, 0, 32, 42, 180, 0, 13, 42, 180, 0, 112, 27, 28, 122, 145, 84, 42, 89]
abbrev dktX1_come_0 : List UInt8 := dkwX1_come_0 ++ dktX1_come_1
theorem dksX1_come_0 : cX1_come.data.toList.drop 0 = dktX1_come_0 := by decide +kernel
theorem dksX1_come_1 : cX1_come.data.toList.drop 22 = dktX1_come_1 := dk_seg dksX1_come_0 22 rfl rfl
theorem dX1_come_0 : decode cX1_come 0 = .ok (.bipush 24, 2) := dk_16 24 (dk_at dksX1_come_0 0 rfl rfl)
theorem dX1_come_2 : decode cX1_come 2 = .ok (.istore_n 2, 1) := dk_61 (dk_at dksX1_come_0 2 rfl rfl)
theorem dX1_come_3 : decode cX1_come 3 = .ok (.iload_n 2, 1) := dk_28 (dk_at dksX1_come_0 3 rfl rfl)
theorem dX1_come_4 : decode cX1_come 4 = .ok (.ifCond .lt 32, 3) := dk_155 0 32 (dk_at dksX1_come_0 4 rfl rfl)
theorem dX1_come_7 : decode cX1_come 7 = .ok (.aload_n 0, 1) := dk_42 (dk_at dksX1_come_0 7 rfl rfl)
theorem dX1_come_8 : decode cX1_come 8 = .ok (.getfield 13, 3) := dk_180 0 13 (dk_at dksX1_come_0 8 rfl rfl)
theorem dX1_come_11 : decode cX1_come 11 = .ok (.aload_n 0, 1) := dk_42 (dk_at dksX1_come_0 11 rfl rfl)
theorem dX1_come_12 : decode cX1_come 12 = .ok (.getfield 112, 3) := dk_180 0 112 (dk_at dksX1_come_0 12 rfl rfl)
theorem dX1_come_15 : decode cX1_come 15 = .ok (.iload_n 1, 1) := dk_27 (dk_at dksX1_come_0 15 rfl rfl)
theorem dX1_come_16 : decode cX1_come 16 = .ok (.iload_n 2, 1) := dk_28 (dk_at dksX1_come_0 16 rfl rfl)
theorem dX1_come_17 : decode cX1_come 17 = .ok (.ishr, 1) := dk_122 (dk_at dksX1_come_0 17 rfl rfl)
theorem dX1_come_18 : decode cX1_come 18 = .ok (.i2b, 1) := dk_145 (dk_at dksX1_come_0 18 rfl rfl)
theorem dX1_come_19 : decode cX1_come 19 = .ok (.bastore, 1) := dk_84 (dk_at dksX1_come_0 19 rfl rfl)
theorem dX1_come_20 : decode cX1_come 20 = .ok (.aload_n 0, 1) := dk_42 (dk_at dksX1_come_0 20 rfl rfl)
theorem dX1_come_21 : decode cX1_come 21 = .ok (.dup, 1) := dk_89 (dk_at dksX1_come_0 21 rfl rfl)
theorem dX1_come_22 : decode cX1_come 22 = .ok (.getfield 112, 3) := dk_180 0 112 (dk_at dksX1_come_1 0 rfl rfl)
theorem dX1_come_25 : decode cX1_come 25 = .ok (.iconst 1, 1) := dk_4 (dk_at dksX1_come_1 3 rfl rfl)
theorem dX1_come_26 : decode cX1_come 26 = .ok (.iadd, 1) := dk_96 (dk_at dksX1_come_1 4 rfl rfl)
theorem dX1_come_27 : decode cX1_come 27 = .ok (.putfield 112, 3) := dk_181 0 112 (dk_at dksX1_come_1 5 rfl rfl)
theorem dX1_come_30 : decode cX1_come 30 = .ok (.iinc 2 (-8), 3) := dk_132 2 248 (dk_at dksX1_come_1 8 rfl rfl)
theorem dX1_come_33 : decode cX1_come 33 = .ok (.goto (-30), 3) := dk_167 255 226 (dk_at dksX1_come_1 11 rfl rfl)
theorem dX1_come_36 : decode cX1_come 36 = .ok (.return_, 1) := dk_177 (dk_at dksX1_come_1 14 rfl rfl)
abbrev cX1_end : ByteArray := prog_1_method_7_code
def yX1_end : MethodName := ⟨RX1, "end", "(I)Z"⟩
def dkwX1_end_0 : List UInt8 := [27, 155, 0, 11, 27, 42, 180, 0, 112, 164, 0, 5, 3, 172, 42, 27, 181, 0, 112, 4, 172]
abbrev dktX1_end_0 : List UInt8 := dkwX1_end_0 ++ []
theorem dksX1_end_0 : cX1_end.data.toList.drop 0 = dktX1_end_0 := by decide +kernel
theorem dX1_end_0 : decode cX1_end 0 = .ok (.iload_n 1, 1) := dk_27 (dk_at dksX1_end_0 0 rfl rfl)
theorem dX1_end_1 : decode cX1_end 1 = .ok (.ifCond .lt 11, 3) := dk_155 0 11 (dk_at dksX1_end_0 1 rfl rfl)
theorem dX1_end_4 : decode cX1_end 4 = .ok (.iload_n 1, 1) := dk_27 (dk_at dksX1_end_0 4 rfl rfl)
theorem dX1_end_5 : decode cX1_end 5 = .ok (.aload_n 0, 1) := dk_42 (dk_at dksX1_end_0 5 rfl rfl)
theorem dX1_end_6 : decode cX1_end 6 = .ok (.getfield 112, 3) := dk_180 0 112 (dk_at dksX1_end_0 6 rfl rfl)
theorem dX1_end_9 : decode cX1_end 9 = .ok (.if_icmp .le 5, 3) := dk_164 0 5 (dk_at dksX1_end_0 9 rfl rfl)
theorem dX1_end_12 : decode cX1_end 12 = .ok (.iconst 0, 1) := dk_3 (dk_at dksX1_end_0 12 rfl rfl)
theorem dX1_end_13 : decode cX1_end 13 = .ok (.ireturn, 1) := dk_172 (dk_at dksX1_end_0 13 rfl rfl)
theorem dX1_end_14 : decode cX1_end 14 = .ok (.aload_n 0, 1) := dk_42 (dk_at dksX1_end_0 14 rfl rfl)
theorem dX1_end_15 : decode cX1_end 15 = .ok (.iload_n 1, 1) := dk_27 (dk_at dksX1_end_0 15 rfl rfl)
theorem dX1_end_16 : decode cX1_end 16 = .ok (.putfield 112, 3) := dk_181 0 112 (dk_at dksX1_end_0 16 rfl rfl)
theorem dX1_end_19 : decode cX1_end 19 = .ok (.iconst 1, 1) := dk_4 (dk_at dksX1_end_0 19 rfl rfl)
theorem dX1_end_20 : decode cX1_end 20 = .ok (.ireturn, 1) := dk_172 (dk_at dksX1_end_0 20 rfl rfl)
abbrev cX1_card : ByteArray := prog_1_method_11_code
def yX1_card : MethodName := ⟨RX1, "card", "(I)I"⟩
def dkwX1_card_5 : List UInt8 := [180, 0, 127, 4, 96, 181, 0, 127, 42, 180, 0, 19, 27, 50, 180, 0, 127, 172]
abbrev dktX1_card_5 : List UInt8 := dkwX1_card_5 ++ []
def dkwX1_card_4 : List UInt8 := [27, 50, 180, 0, 127, 42, 180, 0, 13, 16, 20, 184, 0, 137, 83, 42, 180, 0, 19, 27, 50, 89]
abbrev dktX1_card_4 : List UInt8 := dkwX1_card_4 ++ dktX1_card_5
def dkwX1_card_3 : List UInt8 := [154, 0, 5, 2, 172, 132, 3, 1, 167, 255, 215, 42, 180, 0, 19, 27, 50, 180, 0, 133, 42, 180, 0, 19]
abbrev dktX1_card_3 : List UInt8 := dkwX1_card_3 ++ dktX1_card_4
def dkwX1_card_2 : List UInt8 := [51, 3, 16, 31, 184, 0, 3, 153, 0, 18, 42, 180, 0, 13, 29, 51, 16, 15, 126, 184, 0, 130]
abbrev dktX1_card_2 : List UInt8 := dkwX1_card_2 ++ dktX1_card_3
def dkwX1_card_1 : List UInt8 := [159, 0, 9, 28, 16, 20, 159, 0, 5, 2, 172, 3, 62, 29, 16, 20, 162, 0, 41, 42, 180, 0, 13, 29]
abbrev dktX1_card_1 : List UInt8 := dkwX1_card_1 ++ dktX1_card_2
def dkwX1_card_0 : List UInt8 := [42, 182, 0, 119, 61, 27, 184, 0, 123, 153, 0, 23, 42, 180, 0, 19, 27, 50, 180, 0, 127, 16, 40]
abbrev dktX1_card_0 : List UInt8 := dkwX1_card_0 ++ dktX1_card_1
theorem dksX1_card_0 : cX1_card.data.toList.drop 0 = dktX1_card_0 := by decide +kernel
theorem dksX1_card_1 : cX1_card.data.toList.drop 23 = dktX1_card_1 := dk_seg dksX1_card_0 23 rfl rfl
theorem dksX1_card_2 : cX1_card.data.toList.drop 47 = dktX1_card_2 := dk_seg dksX1_card_1 24 rfl rfl
theorem dksX1_card_3 : cX1_card.data.toList.drop 69 = dktX1_card_3 := dk_seg dksX1_card_2 22 rfl rfl
theorem dksX1_card_4 : cX1_card.data.toList.drop 93 = dktX1_card_4 := dk_seg dksX1_card_3 24 rfl rfl
theorem dksX1_card_5 : cX1_card.data.toList.drop 115 = dktX1_card_5 := dk_seg dksX1_card_4 22 rfl rfl
theorem dX1_card_0 : decode cX1_card 0 = .ok (.aload_n 0, 1) := dk_42 (dk_at dksX1_card_0 0 rfl rfl)
theorem dX1_card_1 : decode cX1_card 1 = .ok (.invokevirtual 119, 3) := dk_182 0 119 (dk_at dksX1_card_0 1 rfl rfl)
theorem dX1_card_4 : decode cX1_card 4 = .ok (.istore_n 2, 1) := dk_61 (dk_at dksX1_card_0 4 rfl rfl)
theorem dX1_card_5 : decode cX1_card 5 = .ok (.iload_n 1, 1) := dk_27 (dk_at dksX1_card_0 5 rfl rfl)
theorem dX1_card_6 : decode cX1_card 6 = .ok (.invokestatic 123, 3) := dk_184 0 123 (dk_at dksX1_card_0 6 rfl rfl)
theorem dX1_card_9 : decode cX1_card 9 = .ok (.ifCond .eq 23, 3) := dk_153 0 23 (dk_at dksX1_card_0 9 rfl rfl)
theorem dX1_card_12 : decode cX1_card 12 = .ok (.aload_n 0, 1) := dk_42 (dk_at dksX1_card_0 12 rfl rfl)
theorem dX1_card_13 : decode cX1_card 13 = .ok (.getfield 19, 3) := dk_180 0 19 (dk_at dksX1_card_0 13 rfl rfl)
theorem dX1_card_16 : decode cX1_card 16 = .ok (.iload_n 1, 1) := dk_27 (dk_at dksX1_card_0 16 rfl rfl)
theorem dX1_card_17 : decode cX1_card 17 = .ok (.aaload, 1) := dk_50 (dk_at dksX1_card_0 17 rfl rfl)
theorem dX1_card_18 : decode cX1_card 18 = .ok (.getfield 127, 3) := dk_180 0 127 (dk_at dksX1_card_0 18 rfl rfl)
theorem dX1_card_21 : decode cX1_card 21 = .ok (.bipush 40, 2) := dk_16 40 (dk_at dksX1_card_0 21 rfl rfl)
theorem dX1_card_23 : decode cX1_card 23 = .ok (.if_icmp .eq 9, 3) := dk_159 0 9 (dk_at dksX1_card_1 0 rfl rfl)
theorem dX1_card_26 : decode cX1_card 26 = .ok (.iload_n 2, 1) := dk_28 (dk_at dksX1_card_1 3 rfl rfl)
theorem dX1_card_27 : decode cX1_card 27 = .ok (.bipush 20, 2) := dk_16 20 (dk_at dksX1_card_1 4 rfl rfl)
theorem dX1_card_29 : decode cX1_card 29 = .ok (.if_icmp .eq 5, 3) := dk_159 0 5 (dk_at dksX1_card_1 6 rfl rfl)
theorem dX1_card_32 : decode cX1_card 32 = .ok (.iconst (-1), 1) := dk_2 (dk_at dksX1_card_1 9 rfl rfl)
theorem dX1_card_33 : decode cX1_card 33 = .ok (.ireturn, 1) := dk_172 (dk_at dksX1_card_1 10 rfl rfl)
theorem dX1_card_34 : decode cX1_card 34 = .ok (.iconst 0, 1) := dk_3 (dk_at dksX1_card_1 11 rfl rfl)
theorem dX1_card_35 : decode cX1_card 35 = .ok (.istore_n 3, 1) := dk_62 (dk_at dksX1_card_1 12 rfl rfl)
theorem dX1_card_36 : decode cX1_card 36 = .ok (.iload_n 3, 1) := dk_29 (dk_at dksX1_card_1 13 rfl rfl)
theorem dX1_card_37 : decode cX1_card 37 = .ok (.bipush 20, 2) := dk_16 20 (dk_at dksX1_card_1 14 rfl rfl)
theorem dX1_card_39 : decode cX1_card 39 = .ok (.if_icmp .ge 41, 3) := dk_162 0 41 (dk_at dksX1_card_1 16 rfl rfl)
theorem dX1_card_42 : decode cX1_card 42 = .ok (.aload_n 0, 1) := dk_42 (dk_at dksX1_card_1 19 rfl rfl)
theorem dX1_card_43 : decode cX1_card 43 = .ok (.getfield 13, 3) := dk_180 0 13 (dk_at dksX1_card_1 20 rfl rfl)
theorem dX1_card_46 : decode cX1_card 46 = .ok (.iload_n 3, 1) := dk_29 (dk_at dksX1_card_1 23 rfl rfl)
theorem dX1_card_47 : decode cX1_card 47 = .ok (.baload, 1) := dk_51 (dk_at dksX1_card_2 0 rfl rfl)
theorem dX1_card_48 : decode cX1_card 48 = .ok (.iconst 0, 1) := dk_3 (dk_at dksX1_card_2 1 rfl rfl)
theorem dX1_card_49 : decode cX1_card 49 = .ok (.bipush 31, 2) := dk_16 31 (dk_at dksX1_card_2 2 rfl rfl)
theorem dX1_card_51 : decode cX1_card 51 = .ok (.invokestatic 3, 3) := dk_184 0 3 (dk_at dksX1_card_2 4 rfl rfl)
theorem dX1_card_54 : decode cX1_card 54 = .ok (.ifCond .eq 18, 3) := dk_153 0 18 (dk_at dksX1_card_2 7 rfl rfl)
theorem dX1_card_57 : decode cX1_card 57 = .ok (.aload_n 0, 1) := dk_42 (dk_at dksX1_card_2 10 rfl rfl)
theorem dX1_card_58 : decode cX1_card 58 = .ok (.getfield 13, 3) := dk_180 0 13 (dk_at dksX1_card_2 11 rfl rfl)
theorem dX1_card_61 : decode cX1_card 61 = .ok (.iload_n 3, 1) := dk_29 (dk_at dksX1_card_2 14 rfl rfl)
theorem dX1_card_62 : decode cX1_card 62 = .ok (.baload, 1) := dk_51 (dk_at dksX1_card_2 15 rfl rfl)
theorem dX1_card_63 : decode cX1_card 63 = .ok (.bipush 15, 2) := dk_16 15 (dk_at dksX1_card_2 16 rfl rfl)
theorem dX1_card_65 : decode cX1_card 65 = .ok (.iand, 1) := dk_126 (dk_at dksX1_card_2 18 rfl rfl)
theorem dX1_card_66 : decode cX1_card 66 = .ok (.invokestatic 130, 3) := dk_184 0 130 (dk_at dksX1_card_2 19 rfl rfl)
theorem dX1_card_69 : decode cX1_card 69 = .ok (.ifCond .ne 5, 3) := dk_154 0 5 (dk_at dksX1_card_3 0 rfl rfl)
theorem dX1_card_72 : decode cX1_card 72 = .ok (.iconst (-1), 1) := dk_2 (dk_at dksX1_card_3 3 rfl rfl)
theorem dX1_card_73 : decode cX1_card 73 = .ok (.ireturn, 1) := dk_172 (dk_at dksX1_card_3 4 rfl rfl)
theorem dX1_card_74 : decode cX1_card 74 = .ok (.iinc 3 1, 3) := dk_132 3 1 (dk_at dksX1_card_3 5 rfl rfl)
theorem dX1_card_77 : decode cX1_card 77 = .ok (.goto (-41), 3) := dk_167 255 215 (dk_at dksX1_card_3 8 rfl rfl)
theorem dX1_card_80 : decode cX1_card 80 = .ok (.aload_n 0, 1) := dk_42 (dk_at dksX1_card_3 11 rfl rfl)
theorem dX1_card_81 : decode cX1_card 81 = .ok (.getfield 19, 3) := dk_180 0 19 (dk_at dksX1_card_3 12 rfl rfl)
theorem dX1_card_84 : decode cX1_card 84 = .ok (.iload_n 1, 1) := dk_27 (dk_at dksX1_card_3 15 rfl rfl)
theorem dX1_card_85 : decode cX1_card 85 = .ok (.aaload, 1) := dk_50 (dk_at dksX1_card_3 16 rfl rfl)
theorem dX1_card_86 : decode cX1_card 86 = .ok (.getfield 133, 3) := dk_180 0 133 (dk_at dksX1_card_3 17 rfl rfl)
theorem dX1_card_89 : decode cX1_card 89 = .ok (.aload_n 0, 1) := dk_42 (dk_at dksX1_card_3 20 rfl rfl)
theorem dX1_card_90 : decode cX1_card 90 = .ok (.getfield 19, 3) := dk_180 0 19 (dk_at dksX1_card_3 21 rfl rfl)
theorem dX1_card_93 : decode cX1_card 93 = .ok (.iload_n 1, 1) := dk_27 (dk_at dksX1_card_4 0 rfl rfl)
theorem dX1_card_94 : decode cX1_card 94 = .ok (.aaload, 1) := dk_50 (dk_at dksX1_card_4 1 rfl rfl)
theorem dX1_card_95 : decode cX1_card 95 = .ok (.getfield 127, 3) := dk_180 0 127 (dk_at dksX1_card_4 2 rfl rfl)
theorem dX1_card_98 : decode cX1_card 98 = .ok (.aload_n 0, 1) := dk_42 (dk_at dksX1_card_4 5 rfl rfl)
theorem dX1_card_99 : decode cX1_card 99 = .ok (.getfield 13, 3) := dk_180 0 13 (dk_at dksX1_card_4 6 rfl rfl)
theorem dX1_card_102 : decode cX1_card 102 = .ok (.bipush 20, 2) := dk_16 20 (dk_at dksX1_card_4 9 rfl rfl)
theorem dX1_card_104 : decode cX1_card 104 = .ok (.invokestatic 137, 3) := dk_184 0 137 (dk_at dksX1_card_4 11 rfl rfl)
theorem dX1_card_107 : decode cX1_card 107 = .ok (.aastore, 1) := dk_83 (dk_at dksX1_card_4 14 rfl rfl)
theorem dX1_card_108 : decode cX1_card 108 = .ok (.aload_n 0, 1) := dk_42 (dk_at dksX1_card_4 15 rfl rfl)
theorem dX1_card_109 : decode cX1_card 109 = .ok (.getfield 19, 3) := dk_180 0 19 (dk_at dksX1_card_4 16 rfl rfl)
theorem dX1_card_112 : decode cX1_card 112 = .ok (.iload_n 1, 1) := dk_27 (dk_at dksX1_card_4 19 rfl rfl)
theorem dX1_card_113 : decode cX1_card 113 = .ok (.aaload, 1) := dk_50 (dk_at dksX1_card_4 20 rfl rfl)
theorem dX1_card_114 : decode cX1_card 114 = .ok (.dup, 1) := dk_89 (dk_at dksX1_card_4 21 rfl rfl)
theorem dX1_card_115 : decode cX1_card 115 = .ok (.getfield 127, 3) := dk_180 0 127 (dk_at dksX1_card_5 0 rfl rfl)
theorem dX1_card_118 : decode cX1_card 118 = .ok (.iconst 1, 1) := dk_4 (dk_at dksX1_card_5 3 rfl rfl)
theorem dX1_card_119 : decode cX1_card 119 = .ok (.iadd, 1) := dk_96 (dk_at dksX1_card_5 4 rfl rfl)
theorem dX1_card_120 : decode cX1_card 120 = .ok (.putfield 127, 3) := dk_181 0 127 (dk_at dksX1_card_5 5 rfl rfl)
theorem dX1_card_123 : decode cX1_card 123 = .ok (.aload_n 0, 1) := dk_42 (dk_at dksX1_card_5 8 rfl rfl)
theorem dX1_card_124 : decode cX1_card 124 = .ok (.getfield 19, 3) := dk_180 0 19 (dk_at dksX1_card_5 9 rfl rfl)
theorem dX1_card_127 : decode cX1_card 127 = .ok (.iload_n 1, 1) := dk_27 (dk_at dksX1_card_5 12 rfl rfl)
theorem dX1_card_128 : decode cX1_card 128 = .ok (.aaload, 1) := dk_50 (dk_at dksX1_card_5 13 rfl rfl)
theorem dX1_card_129 : decode cX1_card 129 = .ok (.getfield 127, 3) := dk_180 0 127 (dk_at dksX1_card_5 14 rfl rfl)
theorem dX1_card_132 : decode cX1_card 132 = .ok (.ireturn, 1) := dk_172 (dk_at dksX1_card_5 17 rfl rfl)
abbrev cX1_take : ByteArray := prog_1_method_8_code
def yX1_take : MethodName := ⟨RX1, "take", "()I"⟩
def dkwX1_take_0 : List UInt8 := [42, 180, 0, 112, 60, 42, 3, 181, 0, 112, 27, 172]
abbrev dktX1_take_0 : List UInt8 := dkwX1_take_0 ++ []
theorem dksX1_take_0 : cX1_take.data.toList.drop 0 = dktX1_take_0 := by decide +kernel
theorem dX1_take_0 : decode cX1_take 0 = .ok (.aload_n 0, 1) := dk_42 (dk_at dksX1_take_0 0 rfl rfl)
theorem dX1_take_1 : decode cX1_take 1 = .ok (.getfield 112, 3) := dk_180 0 112 (dk_at dksX1_take_0 1 rfl rfl)
theorem dX1_take_4 : decode cX1_take 4 = .ok (.istore_n 1, 1) := dk_60 (dk_at dksX1_take_0 4 rfl rfl)
theorem dX1_take_5 : decode cX1_take 5 = .ok (.aload_n 0, 1) := dk_42 (dk_at dksX1_take_0 5 rfl rfl)
theorem dX1_take_6 : decode cX1_take 6 = .ok (.iconst 0, 1) := dk_3 (dk_at dksX1_take_0 6 rfl rfl)
theorem dX1_take_7 : decode cX1_take 7 = .ok (.putfield 112, 3) := dk_181 0 112 (dk_at dksX1_take_0 7 rfl rfl)
theorem dX1_take_10 : decode cX1_take 10 = .ok (.iload_n 1, 1) := dk_27 (dk_at dksX1_take_0 10 rfl rfl)
theorem dX1_take_11 : decode cX1_take 11 = .ok (.ireturn, 1) := dk_172 (dk_at dksX1_take_0 11 rfl rfl)
abbrev cX1_isBox : ByteArray := prog_1_method_9_code
def yX1_isBox : MethodName := ⟨RX1, "isBox", "(I)Z"⟩
def dkwX1_isBox_0 : List UInt8 := [26, 3, 16, 7, 184, 0, 3, 172]
abbrev dktX1_isBox_0 : List UInt8 := dkwX1_isBox_0 ++ []
theorem dksX1_isBox_0 : cX1_isBox.data.toList.drop 0 = dktX1_isBox_0 := by decide +kernel
theorem dX1_isBox_0 : decode cX1_isBox 0 = .ok (.iload_n 0, 1) := dk_26 (dk_at dksX1_isBox_0 0 rfl rfl)
theorem dX1_isBox_1 : decode cX1_isBox 1 = .ok (.iconst 0, 1) := dk_3 (dk_at dksX1_isBox_0 1 rfl rfl)
theorem dX1_isBox_2 : decode cX1_isBox 2 = .ok (.bipush 7, 2) := dk_16 7 (dk_at dksX1_isBox_0 2 rfl rfl)
theorem dX1_isBox_4 : decode cX1_isBox 4 = .ok (.invokestatic 3, 3) := dk_184 0 3 (dk_at dksX1_isBox_0 4 rfl rfl)
theorem dX1_isBox_7 : decode cX1_isBox 7 = .ok (.ireturn, 1) := dk_172 (dk_at dksX1_isBox_0 7 rfl rfl)
abbrev cX1_isIn : ByteArray := prog_1_method_1_code
def yX1_isIn : MethodName := ⟨RX1, "isIn", "(III)Z"⟩
def dkwX1_isIn_0 : List UInt8 := [26, 27, 161, 0, 12, 26, 28, 163, 0, 7, 4, 167, 0, 4, 3, 172]
abbrev dktX1_isIn_0 : List UInt8 := dkwX1_isIn_0 ++ []
theorem dksX1_isIn_0 : cX1_isIn.data.toList.drop 0 = dktX1_isIn_0 := by decide +kernel
theorem dX1_isIn_0 : decode cX1_isIn 0 = .ok (.iload_n 0, 1) := dk_26 (dk_at dksX1_isIn_0 0 rfl rfl)
theorem dX1_isIn_1 : decode cX1_isIn 1 = .ok (.iload_n 1, 1) := dk_27 (dk_at dksX1_isIn_0 1 rfl rfl)
theorem dX1_isIn_2 : decode cX1_isIn 2 = .ok (.if_icmp .lt 12, 3) := dk_161 0 12 (dk_at dksX1_isIn_0 2 rfl rfl)
theorem dX1_isIn_5 : decode cX1_isIn 5 = .ok (.iload_n 0, 1) := dk_26 (dk_at dksX1_isIn_0 5 rfl rfl)
theorem dX1_isIn_6 : decode cX1_isIn 6 = .ok (.iload_n 2, 1) := dk_28 (dk_at dksX1_isIn_0 6 rfl rfl)
theorem dX1_isIn_7 : decode cX1_isIn 7 = .ok (.if_icmp .gt 7, 3) := dk_163 0 7 (dk_at dksX1_isIn_0 7 rfl rfl)
theorem dX1_isIn_10 : decode cX1_isIn 10 = .ok (.iconst 1, 1) := dk_4 (dk_at dksX1_isIn_0 10 rfl rfl)
theorem dX1_isIn_11 : decode cX1_isIn 11 = .ok (.goto 4, 3) := dk_167 0 4 (dk_at dksX1_isIn_0 11 rfl rfl)
theorem dX1_isIn_14 : decode cX1_isIn 14 = .ok (.iconst 0, 1) := dk_3 (dk_at dksX1_isIn_0 14 rfl rfl)
theorem dX1_isIn_15 : decode cX1_isIn 15 = .ok (.ireturn, 1) := dk_172 (dk_at dksX1_isIn_0 15 rfl rfl)
abbrev cX1_isDigit : ByteArray := prog_1_method_10_code
def yX1_isDigit : MethodName := ⟨RX1, "isDigit", "(I)Z"⟩
def dkwX1_isDigit_0 : List UInt8 := [26, 3, 16, 9, 184, 0, 3, 154, 0, 9, 26, 16, 15, 160, 0, 7, 4, 167, 0, 4, 3, 172]
abbrev dktX1_isDigit_0 : List UInt8 := dkwX1_isDigit_0 ++ []
theorem dksX1_isDigit_0 : cX1_isDigit.data.toList.drop 0 = dktX1_isDigit_0 := by decide +kernel
theorem dX1_isDigit_0 : decode cX1_isDigit 0 = .ok (.iload_n 0, 1) := dk_26 (dk_at dksX1_isDigit_0 0 rfl rfl)
theorem dX1_isDigit_1 : decode cX1_isDigit 1 = .ok (.iconst 0, 1) := dk_3 (dk_at dksX1_isDigit_0 1 rfl rfl)
theorem dX1_isDigit_2 : decode cX1_isDigit 2 = .ok (.bipush 9, 2) := dk_16 9 (dk_at dksX1_isDigit_0 2 rfl rfl)
theorem dX1_isDigit_4 : decode cX1_isDigit 4 = .ok (.invokestatic 3, 3) := dk_184 0 3 (dk_at dksX1_isDigit_0 4 rfl rfl)
theorem dX1_isDigit_7 : decode cX1_isDigit 7 = .ok (.ifCond .ne 9, 3) := dk_154 0 9 (dk_at dksX1_isDigit_0 7 rfl rfl)
theorem dX1_isDigit_10 : decode cX1_isDigit 10 = .ok (.iload_n 0, 1) := dk_26 (dk_at dksX1_isDigit_0 10 rfl rfl)
theorem dX1_isDigit_11 : decode cX1_isDigit 11 = .ok (.bipush 15, 2) := dk_16 15 (dk_at dksX1_isDigit_0 11 rfl rfl)
theorem dX1_isDigit_13 : decode cX1_isDigit 13 = .ok (.if_icmp .ne 7, 3) := dk_160 0 7 (dk_at dksX1_isDigit_0 13 rfl rfl)
theorem dX1_isDigit_16 : decode cX1_isDigit 16 = .ok (.iconst 1, 1) := dk_4 (dk_at dksX1_isDigit_0 16 rfl rfl)
theorem dX1_isDigit_17 : decode cX1_isDigit 17 = .ok (.goto 4, 3) := dk_167 0 4 (dk_at dksX1_isDigit_0 17 rfl rfl)
theorem dX1_isDigit_20 : decode cX1_isDigit 20 = .ok (.iconst 0, 1) := dk_3 (dk_at dksX1_isDigit_0 20 rfl rfl)
theorem dX1_isDigit_21 : decode cX1_isDigit 21 = .ok (.ireturn, 1) := dk_172 (dk_at dksX1_isDigit_0 21 rfl rfl)
abbrev cX1_cards : ByteArray := prog_1_method_12_code
def yX1_cards : MethodName := ⟨RX1, "cards", "(I)I"⟩
def dkwX1_cards_0 : List UInt8 := [27, 184, 0, 123, 153, 0, 15, 42, 180, 0, 19, 27, 50, 180, 0, 127, 167, 0, 4, 2, 172]
abbrev dktX1_cards_0 : List UInt8 := dkwX1_cards_0 ++ []
theorem dksX1_cards_0 : cX1_cards.data.toList.drop 0 = dktX1_cards_0 := by decide +kernel
theorem dX1_cards_0 : decode cX1_cards 0 = .ok (.iload_n 1, 1) := dk_27 (dk_at dksX1_cards_0 0 rfl rfl)
theorem dX1_cards_1 : decode cX1_cards 1 = .ok (.invokestatic 123, 3) := dk_184 0 123 (dk_at dksX1_cards_0 1 rfl rfl)
theorem dX1_cards_4 : decode cX1_cards 4 = .ok (.ifCond .eq 15, 3) := dk_153 0 15 (dk_at dksX1_cards_0 4 rfl rfl)
theorem dX1_cards_7 : decode cX1_cards 7 = .ok (.aload_n 0, 1) := dk_42 (dk_at dksX1_cards_0 7 rfl rfl)
theorem dX1_cards_8 : decode cX1_cards 8 = .ok (.getfield 19, 3) := dk_180 0 19 (dk_at dksX1_cards_0 8 rfl rfl)
theorem dX1_cards_11 : decode cX1_cards 11 = .ok (.iload_n 1, 1) := dk_27 (dk_at dksX1_cards_0 11 rfl rfl)
theorem dX1_cards_12 : decode cX1_cards 12 = .ok (.aaload, 1) := dk_50 (dk_at dksX1_cards_0 12 rfl rfl)
theorem dX1_cards_13 : decode cX1_cards 13 = .ok (.getfield 127, 3) := dk_180 0 127 (dk_at dksX1_cards_0 13 rfl rfl)
theorem dX1_cards_16 : decode cX1_cards 16 = .ok (.goto 4, 3) := dk_167 0 4 (dk_at dksX1_cards_0 16 rfl rfl)
theorem dX1_cards_19 : decode cX1_cards 19 = .ok (.iconst (-1), 1) := dk_2 (dk_at dksX1_cards_0 19 rfl rfl)
theorem dX1_cards_20 : decode cX1_cards 20 = .ok (.ireturn, 1) := dk_172 (dk_at dksX1_cards_0 20 rfl rfl)
abbrev cX1_empty : ByteArray := prog_1_method_15_code
def yX1_empty : MethodName := ⟨RX1, "empty", "(I)I"⟩
def dkwX1_empty_1 : List UInt8 := [50, 3, 181, 0, 127, 28, 172]
abbrev dktX1_empty_1 : List UInt8 := dkwX1_empty_1 ++ []
def dkwX1_empty_0 : List UInt8 := [27, 184, 0, 123, 154, 0, 5, 2, 172, 42, 180, 0, 19, 27, 50, 180, 0, 127, 61, 42, 180, 0, 19, 27]
abbrev dktX1_empty_0 : List UInt8 := dkwX1_empty_0 ++ dktX1_empty_1
theorem dksX1_empty_0 : cX1_empty.data.toList.drop 0 = dktX1_empty_0 := by decide +kernel
theorem dksX1_empty_1 : cX1_empty.data.toList.drop 24 = dktX1_empty_1 := dk_seg dksX1_empty_0 24 rfl rfl
theorem dX1_empty_0 : decode cX1_empty 0 = .ok (.iload_n 1, 1) := dk_27 (dk_at dksX1_empty_0 0 rfl rfl)
theorem dX1_empty_1 : decode cX1_empty 1 = .ok (.invokestatic 123, 3) := dk_184 0 123 (dk_at dksX1_empty_0 1 rfl rfl)
theorem dX1_empty_4 : decode cX1_empty 4 = .ok (.ifCond .ne 5, 3) := dk_154 0 5 (dk_at dksX1_empty_0 4 rfl rfl)
theorem dX1_empty_7 : decode cX1_empty 7 = .ok (.iconst (-1), 1) := dk_2 (dk_at dksX1_empty_0 7 rfl rfl)
theorem dX1_empty_8 : decode cX1_empty 8 = .ok (.ireturn, 1) := dk_172 (dk_at dksX1_empty_0 8 rfl rfl)
theorem dX1_empty_9 : decode cX1_empty 9 = .ok (.aload_n 0, 1) := dk_42 (dk_at dksX1_empty_0 9 rfl rfl)
theorem dX1_empty_10 : decode cX1_empty 10 = .ok (.getfield 19, 3) := dk_180 0 19 (dk_at dksX1_empty_0 10 rfl rfl)
theorem dX1_empty_13 : decode cX1_empty 13 = .ok (.iload_n 1, 1) := dk_27 (dk_at dksX1_empty_0 13 rfl rfl)
theorem dX1_empty_14 : decode cX1_empty 14 = .ok (.aaload, 1) := dk_50 (dk_at dksX1_empty_0 14 rfl rfl)
theorem dX1_empty_15 : decode cX1_empty 15 = .ok (.getfield 127, 3) := dk_180 0 127 (dk_at dksX1_empty_0 15 rfl rfl)
theorem dX1_empty_18 : decode cX1_empty 18 = .ok (.istore_n 2, 1) := dk_61 (dk_at dksX1_empty_0 18 rfl rfl)
theorem dX1_empty_19 : decode cX1_empty 19 = .ok (.aload_n 0, 1) := dk_42 (dk_at dksX1_empty_0 19 rfl rfl)
theorem dX1_empty_20 : decode cX1_empty 20 = .ok (.getfield 19, 3) := dk_180 0 19 (dk_at dksX1_empty_0 20 rfl rfl)
theorem dX1_empty_23 : decode cX1_empty 23 = .ok (.iload_n 1, 1) := dk_27 (dk_at dksX1_empty_0 23 rfl rfl)
theorem dX1_empty_24 : decode cX1_empty 24 = .ok (.aaload, 1) := dk_50 (dk_at dksX1_empty_1 0 rfl rfl)
theorem dX1_empty_25 : decode cX1_empty 25 = .ok (.iconst 0, 1) := dk_3 (dk_at dksX1_empty_1 1 rfl rfl)
theorem dX1_empty_26 : decode cX1_empty 26 = .ok (.putfield 127, 3) := dk_181 0 127 (dk_at dksX1_empty_1 2 rfl rfl)
theorem dX1_empty_29 : decode cX1_empty 29 = .ok (.iload_n 2, 1) := dk_28 (dk_at dksX1_empty_1 5 rfl rfl)
theorem dX1_empty_30 : decode cX1_empty 30 = .ok (.ireturn, 1) := dk_172 (dk_at dksX1_empty_1 6 rfl rfl)
abbrev cX1_board : ByteArray := prog_1_method_16_code
def yX1_board : MethodName := ⟨RX1, "board", "()I"⟩
def dkwX1_board_2 : List UInt8 := [44, 180, 0, 170, 100, 172]
abbrev dktX1_board_2 : List UInt8 := dkwX1_board_2 ++ []
def dkwX1_board_1 : List UInt8 := [182, 0, 158, 181, 0, 26, 42, 180, 0, 26, 180, 0, 162, 172, 77, 42, 44, 180, 0, 167, 181, 0, 150, 2]
abbrev dktX1_board_1 : List UInt8 := dkwX1_board_1 ++ dktX1_board_2
def dkwX1_board_0 : List UInt8 := [42, 182, 0, 119, 60, 42, 3, 181, 0, 150, 42, 187, 0, 153, 89, 42, 180, 0, 13, 27, 183, 0, 155]
abbrev dktX1_board_0 : List UInt8 := dkwX1_board_0 ++ dktX1_board_1
theorem dksX1_board_0 : cX1_board.data.toList.drop 0 = dktX1_board_0 := by decide +kernel
theorem dksX1_board_1 : cX1_board.data.toList.drop 23 = dktX1_board_1 := dk_seg dksX1_board_0 23 rfl rfl
theorem dksX1_board_2 : cX1_board.data.toList.drop 47 = dktX1_board_2 := dk_seg dksX1_board_1 24 rfl rfl
theorem dX1_board_0 : decode cX1_board 0 = .ok (.aload_n 0, 1) := dk_42 (dk_at dksX1_board_0 0 rfl rfl)
theorem dX1_board_1 : decode cX1_board 1 = .ok (.invokevirtual 119, 3) := dk_182 0 119 (dk_at dksX1_board_0 1 rfl rfl)
theorem dX1_board_4 : decode cX1_board 4 = .ok (.istore_n 1, 1) := dk_60 (dk_at dksX1_board_0 4 rfl rfl)
theorem dX1_board_5 : decode cX1_board 5 = .ok (.aload_n 0, 1) := dk_42 (dk_at dksX1_board_0 5 rfl rfl)
theorem dX1_board_6 : decode cX1_board 6 = .ok (.iconst 0, 1) := dk_3 (dk_at dksX1_board_0 6 rfl rfl)
theorem dX1_board_7 : decode cX1_board 7 = .ok (.putfield 150, 3) := dk_181 0 150 (dk_at dksX1_board_0 7 rfl rfl)
theorem dX1_board_10 : decode cX1_board 10 = .ok (.aload_n 0, 1) := dk_42 (dk_at dksX1_board_0 10 rfl rfl)
theorem dX1_board_11 : decode cX1_board 11 = .ok (.new 153, 3) := dk_187 0 153 (dk_at dksX1_board_0 11 rfl rfl)
theorem dX1_board_14 : decode cX1_board 14 = .ok (.dup, 1) := dk_89 (dk_at dksX1_board_0 14 rfl rfl)
theorem dX1_board_15 : decode cX1_board 15 = .ok (.aload_n 0, 1) := dk_42 (dk_at dksX1_board_0 15 rfl rfl)
theorem dX1_board_16 : decode cX1_board 16 = .ok (.getfield 13, 3) := dk_180 0 13 (dk_at dksX1_board_0 16 rfl rfl)
theorem dX1_board_19 : decode cX1_board 19 = .ok (.iload_n 1, 1) := dk_27 (dk_at dksX1_board_0 19 rfl rfl)
theorem dX1_board_20 : decode cX1_board 20 = .ok (.invokespecial 155, 3) := dk_183 0 155 (dk_at dksX1_board_0 20 rfl rfl)
theorem dX1_board_23 : decode cX1_board 23 = .ok (.invokevirtual 158, 3) := dk_182 0 158 (dk_at dksX1_board_1 0 rfl rfl)
theorem dX1_board_26 : decode cX1_board 26 = .ok (.putfield 26, 3) := dk_181 0 26 (dk_at dksX1_board_1 3 rfl rfl)
theorem dX1_board_29 : decode cX1_board 29 = .ok (.aload_n 0, 1) := dk_42 (dk_at dksX1_board_1 6 rfl rfl)
theorem dX1_board_30 : decode cX1_board 30 = .ok (.getfield 26, 3) := dk_180 0 26 (dk_at dksX1_board_1 7 rfl rfl)
theorem dX1_board_33 : decode cX1_board 33 = .ok (.getfield 162, 3) := dk_180 0 162 (dk_at dksX1_board_1 10 rfl rfl)
theorem dX1_board_36 : decode cX1_board 36 = .ok (.ireturn, 1) := dk_172 (dk_at dksX1_board_1 13 rfl rfl)
theorem dX1_board_37 : decode cX1_board 37 = .ok (.astore_n 2, 1) := dk_77 (dk_at dksX1_board_1 14 rfl rfl)
theorem dX1_board_38 : decode cX1_board 38 = .ok (.aload_n 0, 1) := dk_42 (dk_at dksX1_board_1 15 rfl rfl)
theorem dX1_board_39 : decode cX1_board 39 = .ok (.aload_n 2, 1) := dk_44 (dk_at dksX1_board_1 16 rfl rfl)
theorem dX1_board_40 : decode cX1_board 40 = .ok (.getfield 167, 3) := dk_180 0 167 (dk_at dksX1_board_1 17 rfl rfl)
theorem dX1_board_43 : decode cX1_board 43 = .ok (.putfield 150, 3) := dk_181 0 150 (dk_at dksX1_board_1 20 rfl rfl)
theorem dX1_board_46 : decode cX1_board 46 = .ok (.iconst (-1), 1) := dk_2 (dk_at dksX1_board_1 23 rfl rfl)
theorem dX1_board_47 : decode cX1_board 47 = .ok (.aload_n 2, 1) := dk_44 (dk_at dksX1_board_2 0 rfl rfl)
theorem dX1_board_48 : decode cX1_board 48 = .ok (.getfield 170, 3) := dk_180 0 170 (dk_at dksX1_board_2 1 rfl rfl)
theorem dX1_board_51 : decode cX1_board 51 = .ok (.isub, 1) := dk_100 (dk_at dksX1_board_2 4 rfl rfl)
theorem dX1_board_52 : decode cX1_board 52 = .ok (.ireturn, 1) := dk_172 (dk_at dksX1_board_2 5 rfl rfl)
abbrev cX1_mostOf : ByteArray := prog_1_method_3_code
def yX1_mostOf : MethodName := ⟨RX1, "mostOf", "(I)I"⟩
def dkwX1_mostOf_0 : List UInt8 := [26, 16, 96, 17, 0, 180, 184, 0, 3, 153, 0, 7, 4, 167, 0, 5, 16, 8, 172]
abbrev dktX1_mostOf_0 : List UInt8 := dkwX1_mostOf_0 ++ []
theorem dksX1_mostOf_0 : cX1_mostOf.data.toList.drop 0 = dktX1_mostOf_0 := by decide +kernel
theorem dX1_mostOf_0 : decode cX1_mostOf 0 = .ok (.iload_n 0, 1) := dk_26 (dk_at dksX1_mostOf_0 0 rfl rfl)
theorem dX1_mostOf_1 : decode cX1_mostOf 1 = .ok (.bipush 96, 2) := dk_16 96 (dk_at dksX1_mostOf_0 1 rfl rfl)
theorem dX1_mostOf_3 : decode cX1_mostOf 3 = .ok (.sipush 180, 3) := dk_17 0 180 (dk_at dksX1_mostOf_0 3 rfl rfl)
theorem dX1_mostOf_6 : decode cX1_mostOf 6 = .ok (.invokestatic 3, 3) := dk_184 0 3 (dk_at dksX1_mostOf_0 6 rfl rfl)
theorem dX1_mostOf_9 : decode cX1_mostOf 9 = .ok (.ifCond .eq 7, 3) := dk_153 0 7 (dk_at dksX1_mostOf_0 9 rfl rfl)
theorem dX1_mostOf_12 : decode cX1_mostOf 12 = .ok (.iconst 1, 1) := dk_4 (dk_at dksX1_mostOf_0 12 rfl rfl)
theorem dX1_mostOf_13 : decode cX1_mostOf 13 = .ok (.goto 5, 3) := dk_167 0 5 (dk_at dksX1_mostOf_0 13 rfl rfl)
theorem dX1_mostOf_16 : decode cX1_mostOf 16 = .ok (.bipush 8, 2) := dk_16 8 (dk_at dksX1_mostOf_0 16 rfl rfl)
theorem dX1_mostOf_18 : decode cX1_mostOf 18 = .ok (.ireturn, 1) := dk_172 (dk_at dksX1_mostOf_0 18 rfl rfl)
abbrev cX1_fault : ByteArray := prog_1_method_17_code
def yX1_fault : MethodName := ⟨RX1, "fault", "()I"⟩
theorem dX1_fault_0 : decode cX1_fault 0 = .ok (.aload_n 0, 1) := by decide +kernel
theorem dX1_fault_1 : decode cX1_fault 1 = .ok (.getfield 150, 3) := by decide +kernel
theorem dX1_fault_4 : decode cX1_fault 4 = .ok (.ireturn, 1) := by decide +kernel
abbrev cX1_run : ByteArray := prog_1_method_18_code
def yX1_run : MethodName := ⟨RX1, "run", "(II)I"⟩
def dkwX1_run_5 : List UInt8 := [180, 0, 127, 4, 96, 181, 0, 127, 132, 4, 1, 167, 255, 207, 42, 180, 0, 40, 180, 0, 187, 172]
abbrev dktX1_run_5 : List UInt8 := dkwX1_run_5 ++ []
def dkwX1_run_4 : List UInt8 := [45, 180, 0, 127, 42, 180, 0, 40, 180, 0, 184, 21, 4, 50, 16, 20, 184, 0, 137, 83, 45, 89]
abbrev dktX1_run_4 : List UInt8 := dkwX1_run_4 ++ dktX1_run_5
def dkwX1_run_3 : List UInt8 := [42, 4, 181, 0, 177, 3, 54, 4, 21, 4, 42, 180, 0, 40, 180, 0, 181, 162, 0, 43, 45, 180, 0, 133]
abbrev dktX1_run_3 : List UInt8 := dkwX1_run_3 ++ dktX1_run_4
def dkwX1_run_2 : List UInt8 := [3, 42, 180, 0, 19, 27, 50, 180, 0, 127, 16, 40, 45, 180, 0, 127, 100, 42, 180, 0, 40, 182, 0, 173]
abbrev dktX1_run_2 : List UInt8 := dkwX1_run_2 ++ dktX1_run_3
def dkwX1_run_1 : List UInt8 := [180, 0, 19, 28, 50, 78, 42, 180, 0, 33, 42, 180, 0, 26, 2, 42, 180, 0, 19, 27, 50, 180, 0, 133]
abbrev dktX1_run_1 : List UInt8 := dkwX1_run_1 ++ dktX1_run_2
def dkwX1_run_0 : List UInt8 := [27, 184, 0, 123, 153, 0, 15, 28, 184, 0, 123, 153, 0, 8, 27, 28, 160, 0, 5, 2, 172, 42]
abbrev dktX1_run_0 : List UInt8 := dkwX1_run_0 ++ dktX1_run_1
theorem dksX1_run_0 : cX1_run.data.toList.drop 0 = dktX1_run_0 := by decide +kernel
theorem dksX1_run_1 : cX1_run.data.toList.drop 22 = dktX1_run_1 := dk_seg dksX1_run_0 22 rfl rfl
theorem dksX1_run_2 : cX1_run.data.toList.drop 46 = dktX1_run_2 := dk_seg dksX1_run_1 24 rfl rfl
theorem dksX1_run_3 : cX1_run.data.toList.drop 70 = dktX1_run_3 := dk_seg dksX1_run_2 24 rfl rfl
theorem dksX1_run_4 : cX1_run.data.toList.drop 94 = dktX1_run_4 := dk_seg dksX1_run_3 24 rfl rfl
theorem dksX1_run_5 : cX1_run.data.toList.drop 116 = dktX1_run_5 := dk_seg dksX1_run_4 22 rfl rfl
theorem dX1_run_0 : decode cX1_run 0 = .ok (.iload_n 1, 1) := dk_27 (dk_at dksX1_run_0 0 rfl rfl)
theorem dX1_run_1 : decode cX1_run 1 = .ok (.invokestatic 123, 3) := dk_184 0 123 (dk_at dksX1_run_0 1 rfl rfl)
theorem dX1_run_4 : decode cX1_run 4 = .ok (.ifCond .eq 15, 3) := dk_153 0 15 (dk_at dksX1_run_0 4 rfl rfl)
theorem dX1_run_7 : decode cX1_run 7 = .ok (.iload_n 2, 1) := dk_28 (dk_at dksX1_run_0 7 rfl rfl)
theorem dX1_run_8 : decode cX1_run 8 = .ok (.invokestatic 123, 3) := dk_184 0 123 (dk_at dksX1_run_0 8 rfl rfl)
theorem dX1_run_11 : decode cX1_run 11 = .ok (.ifCond .eq 8, 3) := dk_153 0 8 (dk_at dksX1_run_0 11 rfl rfl)
theorem dX1_run_14 : decode cX1_run 14 = .ok (.iload_n 1, 1) := dk_27 (dk_at dksX1_run_0 14 rfl rfl)
theorem dX1_run_15 : decode cX1_run 15 = .ok (.iload_n 2, 1) := dk_28 (dk_at dksX1_run_0 15 rfl rfl)
theorem dX1_run_16 : decode cX1_run 16 = .ok (.if_icmp .ne 5, 3) := dk_160 0 5 (dk_at dksX1_run_0 16 rfl rfl)
theorem dX1_run_19 : decode cX1_run 19 = .ok (.iconst (-1), 1) := dk_2 (dk_at dksX1_run_0 19 rfl rfl)
theorem dX1_run_20 : decode cX1_run 20 = .ok (.ireturn, 1) := dk_172 (dk_at dksX1_run_0 20 rfl rfl)
theorem dX1_run_21 : decode cX1_run 21 = .ok (.aload_n 0, 1) := dk_42 (dk_at dksX1_run_0 21 rfl rfl)
theorem dX1_run_22 : decode cX1_run 22 = .ok (.getfield 19, 3) := dk_180 0 19 (dk_at dksX1_run_1 0 rfl rfl)
theorem dX1_run_25 : decode cX1_run 25 = .ok (.iload_n 2, 1) := dk_28 (dk_at dksX1_run_1 3 rfl rfl)
theorem dX1_run_26 : decode cX1_run 26 = .ok (.aaload, 1) := dk_50 (dk_at dksX1_run_1 4 rfl rfl)
theorem dX1_run_27 : decode cX1_run 27 = .ok (.astore_n 3, 1) := dk_78 (dk_at dksX1_run_1 5 rfl rfl)
theorem dX1_run_28 : decode cX1_run 28 = .ok (.aload_n 0, 1) := dk_42 (dk_at dksX1_run_1 6 rfl rfl)
theorem dX1_run_29 : decode cX1_run 29 = .ok (.getfield 33, 3) := dk_180 0 33 (dk_at dksX1_run_1 7 rfl rfl)
theorem dX1_run_32 : decode cX1_run 32 = .ok (.aload_n 0, 1) := dk_42 (dk_at dksX1_run_1 10 rfl rfl)
theorem dX1_run_33 : decode cX1_run 33 = .ok (.getfield 26, 3) := dk_180 0 26 (dk_at dksX1_run_1 11 rfl rfl)
theorem dX1_run_36 : decode cX1_run 36 = .ok (.iconst (-1), 1) := dk_2 (dk_at dksX1_run_1 14 rfl rfl)
theorem dX1_run_37 : decode cX1_run 37 = .ok (.aload_n 0, 1) := dk_42 (dk_at dksX1_run_1 15 rfl rfl)
theorem dX1_run_38 : decode cX1_run 38 = .ok (.getfield 19, 3) := dk_180 0 19 (dk_at dksX1_run_1 16 rfl rfl)
theorem dX1_run_41 : decode cX1_run 41 = .ok (.iload_n 1, 1) := dk_27 (dk_at dksX1_run_1 19 rfl rfl)
theorem dX1_run_42 : decode cX1_run 42 = .ok (.aaload, 1) := dk_50 (dk_at dksX1_run_1 20 rfl rfl)
theorem dX1_run_43 : decode cX1_run 43 = .ok (.getfield 133, 3) := dk_180 0 133 (dk_at dksX1_run_1 21 rfl rfl)
theorem dX1_run_46 : decode cX1_run 46 = .ok (.iconst 0, 1) := dk_3 (dk_at dksX1_run_2 0 rfl rfl)
theorem dX1_run_47 : decode cX1_run 47 = .ok (.aload_n 0, 1) := dk_42 (dk_at dksX1_run_2 1 rfl rfl)
theorem dX1_run_48 : decode cX1_run 48 = .ok (.getfield 19, 3) := dk_180 0 19 (dk_at dksX1_run_2 2 rfl rfl)
theorem dX1_run_51 : decode cX1_run 51 = .ok (.iload_n 1, 1) := dk_27 (dk_at dksX1_run_2 5 rfl rfl)
theorem dX1_run_52 : decode cX1_run 52 = .ok (.aaload, 1) := dk_50 (dk_at dksX1_run_2 6 rfl rfl)
theorem dX1_run_53 : decode cX1_run 53 = .ok (.getfield 127, 3) := dk_180 0 127 (dk_at dksX1_run_2 7 rfl rfl)
theorem dX1_run_56 : decode cX1_run 56 = .ok (.bipush 40, 2) := dk_16 40 (dk_at dksX1_run_2 10 rfl rfl)
theorem dX1_run_58 : decode cX1_run 58 = .ok (.aload_n 3, 1) := dk_45 (dk_at dksX1_run_2 12 rfl rfl)
theorem dX1_run_59 : decode cX1_run 59 = .ok (.getfield 127, 3) := dk_180 0 127 (dk_at dksX1_run_2 13 rfl rfl)
theorem dX1_run_62 : decode cX1_run 62 = .ok (.isub, 1) := dk_100 (dk_at dksX1_run_2 16 rfl rfl)
theorem dX1_run_63 : decode cX1_run 63 = .ok (.aload_n 0, 1) := dk_42 (dk_at dksX1_run_2 17 rfl rfl)
theorem dX1_run_64 : decode cX1_run 64 = .ok (.getfield 40, 3) := dk_180 0 40 (dk_at dksX1_run_2 18 rfl rfl)
theorem dX1_run_67 : decode cX1_run 67 = .ok (.invokevirtual 173, 3) := dk_182 0 173 (dk_at dksX1_run_2 21 rfl rfl)
theorem dX1_run_70 : decode cX1_run 70 = .ok (.aload_n 0, 1) := dk_42 (dk_at dksX1_run_3 0 rfl rfl)
theorem dX1_run_71 : decode cX1_run 71 = .ok (.iconst 1, 1) := dk_4 (dk_at dksX1_run_3 1 rfl rfl)
theorem dX1_run_72 : decode cX1_run 72 = .ok (.putfield 177, 3) := dk_181 0 177 (dk_at dksX1_run_3 2 rfl rfl)
theorem dX1_run_75 : decode cX1_run 75 = .ok (.iconst 0, 1) := dk_3 (dk_at dksX1_run_3 5 rfl rfl)
theorem dX1_run_76 : decode cX1_run 76 = .ok (.istore 4, 2) := dk_54 4 (dk_at dksX1_run_3 6 rfl rfl)
theorem dX1_run_78 : decode cX1_run 78 = .ok (.iload 4, 2) := dk_21 4 (dk_at dksX1_run_3 8 rfl rfl)
theorem dX1_run_80 : decode cX1_run 80 = .ok (.aload_n 0, 1) := dk_42 (dk_at dksX1_run_3 10 rfl rfl)
theorem dX1_run_81 : decode cX1_run 81 = .ok (.getfield 40, 3) := dk_180 0 40 (dk_at dksX1_run_3 11 rfl rfl)
theorem dX1_run_84 : decode cX1_run 84 = .ok (.getfield 181, 3) := dk_180 0 181 (dk_at dksX1_run_3 14 rfl rfl)
theorem dX1_run_87 : decode cX1_run 87 = .ok (.if_icmp .ge 43, 3) := dk_162 0 43 (dk_at dksX1_run_3 17 rfl rfl)
theorem dX1_run_90 : decode cX1_run 90 = .ok (.aload_n 3, 1) := dk_45 (dk_at dksX1_run_3 20 rfl rfl)
theorem dX1_run_91 : decode cX1_run 91 = .ok (.getfield 133, 3) := dk_180 0 133 (dk_at dksX1_run_3 21 rfl rfl)
theorem dX1_run_94 : decode cX1_run 94 = .ok (.aload_n 3, 1) := dk_45 (dk_at dksX1_run_4 0 rfl rfl)
theorem dX1_run_95 : decode cX1_run 95 = .ok (.getfield 127, 3) := dk_180 0 127 (dk_at dksX1_run_4 1 rfl rfl)
theorem dX1_run_98 : decode cX1_run 98 = .ok (.aload_n 0, 1) := dk_42 (dk_at dksX1_run_4 4 rfl rfl)
theorem dX1_run_99 : decode cX1_run 99 = .ok (.getfield 40, 3) := dk_180 0 40 (dk_at dksX1_run_4 5 rfl rfl)
theorem dX1_run_102 : decode cX1_run 102 = .ok (.getfield 184, 3) := dk_180 0 184 (dk_at dksX1_run_4 8 rfl rfl)
theorem dX1_run_105 : decode cX1_run 105 = .ok (.iload 4, 2) := dk_21 4 (dk_at dksX1_run_4 11 rfl rfl)
theorem dX1_run_107 : decode cX1_run 107 = .ok (.aaload, 1) := dk_50 (dk_at dksX1_run_4 13 rfl rfl)
theorem dX1_run_108 : decode cX1_run 108 = .ok (.bipush 20, 2) := dk_16 20 (dk_at dksX1_run_4 14 rfl rfl)
theorem dX1_run_110 : decode cX1_run 110 = .ok (.invokestatic 137, 3) := dk_184 0 137 (dk_at dksX1_run_4 16 rfl rfl)
theorem dX1_run_113 : decode cX1_run 113 = .ok (.aastore, 1) := dk_83 (dk_at dksX1_run_4 19 rfl rfl)
theorem dX1_run_114 : decode cX1_run 114 = .ok (.aload_n 3, 1) := dk_45 (dk_at dksX1_run_4 20 rfl rfl)
theorem dX1_run_115 : decode cX1_run 115 = .ok (.dup, 1) := dk_89 (dk_at dksX1_run_4 21 rfl rfl)
theorem dX1_run_116 : decode cX1_run 116 = .ok (.getfield 127, 3) := dk_180 0 127 (dk_at dksX1_run_5 0 rfl rfl)
theorem dX1_run_119 : decode cX1_run 119 = .ok (.iconst 1, 1) := dk_4 (dk_at dksX1_run_5 3 rfl rfl)
theorem dX1_run_120 : decode cX1_run 120 = .ok (.iadd, 1) := dk_96 (dk_at dksX1_run_5 4 rfl rfl)
theorem dX1_run_121 : decode cX1_run 121 = .ok (.putfield 127, 3) := dk_181 0 127 (dk_at dksX1_run_5 5 rfl rfl)
theorem dX1_run_124 : decode cX1_run 124 = .ok (.iinc 4 1, 3) := dk_132 4 1 (dk_at dksX1_run_5 8 rfl rfl)
theorem dX1_run_127 : decode cX1_run 127 = .ok (.goto (-49), 3) := dk_167 255 207 (dk_at dksX1_run_5 11 rfl rfl)
theorem dX1_run_130 : decode cX1_run 130 = .ok (.aload_n 0, 1) := dk_42 (dk_at dksX1_run_5 14 rfl rfl)
theorem dX1_run_131 : decode cX1_run 131 = .ok (.getfield 40, 3) := dk_180 0 40 (dk_at dksX1_run_5 15 rfl rfl)
theorem dX1_run_134 : decode cX1_run 134 = .ok (.getfield 187, 3) := dk_180 0 187 (dk_at dksX1_run_5 18 rfl rfl)
theorem dX1_run_137 : decode cX1_run 137 = .ok (.ireturn, 1) := dk_172 (dk_at dksX1_run_5 21 rfl rfl)
abbrev cX1_ran : ByteArray := prog_1_method_19_code
def yX1_ran : MethodName := ⟨RX1, "ran", "(I)I"⟩
def dkwX1_ran_4 : List UInt8 := [42, 180, 0, 40, 180, 0, 205, 172, 2, 172]
abbrev dktX1_ran_4 : List UInt8 := dkwX1_ran_4 ++ []
def dkwX1_ran_3 : List UInt8 := [42, 180, 0, 40, 180, 0, 181, 172, 42, 180, 0, 40, 180, 0, 199, 172, 42, 180, 0, 40, 180, 0, 202, 172]
abbrev dktX1_ran_3 : List UInt8 := dkwX1_ran_3 ++ dktX1_ran_4
def dkwX1_ran_2 : List UInt8 := [42, 180, 0, 40, 180, 0, 190, 172, 42, 180, 0, 40, 180, 0, 193, 172, 42, 180, 0, 40, 180, 0, 196, 172]
abbrev dktX1_ran_2 : List UInt8 := dkwX1_ran_2 ++ dktX1_ran_3
def dkwX1_ran_1 : List UInt8 := [170, 0, 0, 0, 0, 98, 0, 0, 0, 0, 0, 0, 0, 6, 0, 0, 0, 42, 0, 0, 0, 50, 0, 0, 0, 58, 0, 0, 0, 66, 0, 0, 0, 74, 0, 0, 0, 82, 0, 0, 0, 90]
abbrev dktX1_ran_1 : List UInt8 := dkwX1_ran_1 ++ dktX1_ran_2
def dkwX1_ran_0 : List UInt8 := [42, 180, 0, 177, 154, 0, 5, 2, 172, 27]
abbrev dktX1_ran_0 : List UInt8 := dkwX1_ran_0 ++ dktX1_ran_1
theorem dksX1_ran_0 : cX1_ran.data.toList.drop 0 = dktX1_ran_0 := by decide +kernel
theorem dksX1_ran_1 : cX1_ran.data.toList.drop 10 = dktX1_ran_1 := dk_seg dksX1_ran_0 10 rfl rfl
theorem dksX1_ran_2 : cX1_ran.data.toList.drop 52 = dktX1_ran_2 := dk_seg dksX1_ran_1 42 rfl rfl
theorem dksX1_ran_3 : cX1_ran.data.toList.drop 76 = dktX1_ran_3 := dk_seg dksX1_ran_2 24 rfl rfl
theorem dksX1_ran_4 : cX1_ran.data.toList.drop 100 = dktX1_ran_4 := dk_seg dksX1_ran_3 24 rfl rfl
theorem dX1_ran_0 : decode cX1_ran 0 = .ok (.aload_n 0, 1) := dk_42 (dk_at dksX1_ran_0 0 rfl rfl)
theorem dX1_ran_1 : decode cX1_ran 1 = .ok (.getfield 177, 3) := dk_180 0 177 (dk_at dksX1_ran_0 1 rfl rfl)
theorem dX1_ran_4 : decode cX1_ran 4 = .ok (.ifCond .ne 5, 3) := dk_154 0 5 (dk_at dksX1_ran_0 4 rfl rfl)
theorem dX1_ran_7 : decode cX1_ran 7 = .ok (.iconst (-1), 1) := dk_2 (dk_at dksX1_ran_0 7 rfl rfl)
theorem dX1_ran_8 : decode cX1_ran 8 = .ok (.ireturn, 1) := dk_172 (dk_at dksX1_ran_0 8 rfl rfl)
theorem dX1_ran_9 : decode cX1_ran 9 = .ok (.iload_n 1, 1) := dk_27 (dk_at dksX1_ran_0 9 rfl rfl)
theorem dX1_ran_10 : decode cX1_ran 10 = .ok (.tableswitch 98 0 6 #[42, 50, 58, 66, 74, 82, 90], 42) := by decide +kernel
theorem dX1_ran_52 : decode cX1_ran 52 = .ok (.aload_n 0, 1) := dk_42 (dk_at dksX1_ran_2 0 rfl rfl)
theorem dX1_ran_53 : decode cX1_ran 53 = .ok (.getfield 40, 3) := dk_180 0 40 (dk_at dksX1_ran_2 1 rfl rfl)
theorem dX1_ran_56 : decode cX1_ran 56 = .ok (.getfield 190, 3) := dk_180 0 190 (dk_at dksX1_ran_2 4 rfl rfl)
theorem dX1_ran_59 : decode cX1_ran 59 = .ok (.ireturn, 1) := dk_172 (dk_at dksX1_ran_2 7 rfl rfl)
theorem dX1_ran_60 : decode cX1_ran 60 = .ok (.aload_n 0, 1) := dk_42 (dk_at dksX1_ran_2 8 rfl rfl)
theorem dX1_ran_61 : decode cX1_ran 61 = .ok (.getfield 40, 3) := dk_180 0 40 (dk_at dksX1_ran_2 9 rfl rfl)
theorem dX1_ran_64 : decode cX1_ran 64 = .ok (.getfield 193, 3) := dk_180 0 193 (dk_at dksX1_ran_2 12 rfl rfl)
theorem dX1_ran_67 : decode cX1_ran 67 = .ok (.ireturn, 1) := dk_172 (dk_at dksX1_ran_2 15 rfl rfl)
theorem dX1_ran_68 : decode cX1_ran 68 = .ok (.aload_n 0, 1) := dk_42 (dk_at dksX1_ran_2 16 rfl rfl)
theorem dX1_ran_69 : decode cX1_ran 69 = .ok (.getfield 40, 3) := dk_180 0 40 (dk_at dksX1_ran_2 17 rfl rfl)
theorem dX1_ran_72 : decode cX1_ran 72 = .ok (.getfield 196, 3) := dk_180 0 196 (dk_at dksX1_ran_2 20 rfl rfl)
theorem dX1_ran_75 : decode cX1_ran 75 = .ok (.ireturn, 1) := dk_172 (dk_at dksX1_ran_2 23 rfl rfl)
theorem dX1_ran_76 : decode cX1_ran 76 = .ok (.aload_n 0, 1) := dk_42 (dk_at dksX1_ran_3 0 rfl rfl)
theorem dX1_ran_77 : decode cX1_ran 77 = .ok (.getfield 40, 3) := dk_180 0 40 (dk_at dksX1_ran_3 1 rfl rfl)
theorem dX1_ran_80 : decode cX1_ran 80 = .ok (.getfield 181, 3) := dk_180 0 181 (dk_at dksX1_ran_3 4 rfl rfl)
theorem dX1_ran_83 : decode cX1_ran 83 = .ok (.ireturn, 1) := dk_172 (dk_at dksX1_ran_3 7 rfl rfl)
theorem dX1_ran_84 : decode cX1_ran 84 = .ok (.aload_n 0, 1) := dk_42 (dk_at dksX1_ran_3 8 rfl rfl)
theorem dX1_ran_85 : decode cX1_ran 85 = .ok (.getfield 40, 3) := dk_180 0 40 (dk_at dksX1_ran_3 9 rfl rfl)
theorem dX1_ran_88 : decode cX1_ran 88 = .ok (.getfield 199, 3) := dk_180 0 199 (dk_at dksX1_ran_3 12 rfl rfl)
theorem dX1_ran_91 : decode cX1_ran 91 = .ok (.ireturn, 1) := dk_172 (dk_at dksX1_ran_3 15 rfl rfl)
theorem dX1_ran_92 : decode cX1_ran 92 = .ok (.aload_n 0, 1) := dk_42 (dk_at dksX1_ran_3 16 rfl rfl)
theorem dX1_ran_93 : decode cX1_ran 93 = .ok (.getfield 40, 3) := dk_180 0 40 (dk_at dksX1_ran_3 17 rfl rfl)
theorem dX1_ran_96 : decode cX1_ran 96 = .ok (.getfield 202, 3) := dk_180 0 202 (dk_at dksX1_ran_3 20 rfl rfl)
theorem dX1_ran_99 : decode cX1_ran 99 = .ok (.ireturn, 1) := dk_172 (dk_at dksX1_ran_3 23 rfl rfl)
theorem dX1_ran_100 : decode cX1_ran 100 = .ok (.aload_n 0, 1) := dk_42 (dk_at dksX1_ran_4 0 rfl rfl)
theorem dX1_ran_101 : decode cX1_ran 101 = .ok (.getfield 40, 3) := dk_180 0 40 (dk_at dksX1_ran_4 1 rfl rfl)
theorem dX1_ran_104 : decode cX1_ran 104 = .ok (.getfield 205, 3) := dk_180 0 205 (dk_at dksX1_ran_4 4 rfl rfl)
theorem dX1_ran_107 : decode cX1_ran 107 = .ok (.ireturn, 1) := dk_172 (dk_at dksX1_ran_4 7 rfl rfl)
theorem dX1_ran_108 : decode cX1_ran 108 = .ok (.iconst (-1), 1) := dk_2 (dk_at dksX1_ran_4 8 rfl rfl)
theorem dX1_ran_109 : decode cX1_ran 109 = .ok (.ireturn, 1) := dk_172 (dk_at dksX1_ran_4 9 rfl rfl)
abbrev cX1_pass : ByteArray := prog_1_method_23_code
def yX1_pass : MethodName := ⟨RX1, "pass", "(II)Z"⟩
def dkwX1_pass_1 : List UInt8 := [50, 28, 184, 0, 214, 4, 172]
abbrev dktX1_pass_1 : List UInt8 := dkwX1_pass_1 ++ []
def dkwX1_pass_0 : List UInt8 := [27, 184, 0, 123, 153, 0, 13, 28, 4, 16, 20, 184, 0, 3, 154, 0, 5, 3, 172, 42, 180, 0, 19, 27]
abbrev dktX1_pass_0 : List UInt8 := dkwX1_pass_0 ++ dktX1_pass_1
theorem dksX1_pass_0 : cX1_pass.data.toList.drop 0 = dktX1_pass_0 := by decide +kernel
theorem dksX1_pass_1 : cX1_pass.data.toList.drop 24 = dktX1_pass_1 := dk_seg dksX1_pass_0 24 rfl rfl
theorem dX1_pass_0 : decode cX1_pass 0 = .ok (.iload_n 1, 1) := dk_27 (dk_at dksX1_pass_0 0 rfl rfl)
theorem dX1_pass_1 : decode cX1_pass 1 = .ok (.invokestatic 123, 3) := dk_184 0 123 (dk_at dksX1_pass_0 1 rfl rfl)
theorem dX1_pass_4 : decode cX1_pass 4 = .ok (.ifCond .eq 13, 3) := dk_153 0 13 (dk_at dksX1_pass_0 4 rfl rfl)
theorem dX1_pass_7 : decode cX1_pass 7 = .ok (.iload_n 2, 1) := dk_28 (dk_at dksX1_pass_0 7 rfl rfl)
theorem dX1_pass_8 : decode cX1_pass 8 = .ok (.iconst 1, 1) := dk_4 (dk_at dksX1_pass_0 8 rfl rfl)
theorem dX1_pass_9 : decode cX1_pass 9 = .ok (.bipush 20, 2) := dk_16 20 (dk_at dksX1_pass_0 9 rfl rfl)
theorem dX1_pass_11 : decode cX1_pass 11 = .ok (.invokestatic 3, 3) := dk_184 0 3 (dk_at dksX1_pass_0 11 rfl rfl)
theorem dX1_pass_14 : decode cX1_pass 14 = .ok (.ifCond .ne 5, 3) := dk_154 0 5 (dk_at dksX1_pass_0 14 rfl rfl)
theorem dX1_pass_17 : decode cX1_pass 17 = .ok (.iconst 0, 1) := dk_3 (dk_at dksX1_pass_0 17 rfl rfl)
theorem dX1_pass_18 : decode cX1_pass 18 = .ok (.ireturn, 1) := dk_172 (dk_at dksX1_pass_0 18 rfl rfl)
theorem dX1_pass_19 : decode cX1_pass 19 = .ok (.aload_n 0, 1) := dk_42 (dk_at dksX1_pass_0 19 rfl rfl)
theorem dX1_pass_20 : decode cX1_pass 20 = .ok (.getfield 19, 3) := dk_180 0 19 (dk_at dksX1_pass_0 20 rfl rfl)
theorem dX1_pass_23 : decode cX1_pass 23 = .ok (.iload_n 1, 1) := dk_27 (dk_at dksX1_pass_0 23 rfl rfl)
theorem dX1_pass_24 : decode cX1_pass 24 = .ok (.aaload, 1) := dk_50 (dk_at dksX1_pass_1 0 rfl rfl)
theorem dX1_pass_25 : decode cX1_pass 25 = .ok (.iload_n 2, 1) := dk_28 (dk_at dksX1_pass_1 1 rfl rfl)
theorem dX1_pass_26 : decode cX1_pass 26 = .ok (.invokestatic 214, 3) := dk_184 0 214 (dk_at dksX1_pass_1 2 rfl rfl)
theorem dX1_pass_29 : decode cX1_pass 29 = .ok (.iconst 1, 1) := dk_4 (dk_at dksX1_pass_1 5 rfl rfl)
theorem dX1_pass_30 : decode cX1_pass 30 = .ok (.ireturn, 1) := dk_172 (dk_at dksX1_pass_1 6 rfl rfl)
abbrev cX1_sort : ByteArray := prog_1_method_24_code
def yX1_sort : MethodName := ⟨RX1, "sort", "(LPlugHall$Box;I)V"⟩
def dkwX1_sort_3 : List UInt8 := [180, 0, 133, 21, 4, 45, 83, 132, 2, 1, 167, 255, 179, 177]
abbrev dktX1_sort_3 : List UInt8 := dkwX1_sort_3 ++ []
def dkwX1_sort_2 : List UInt8 := [42, 180, 0, 133, 21, 4, 42, 180, 0, 133, 21, 4, 4, 100, 50, 83, 132, 4, 255, 167, 255, 211, 42]
abbrev dktX1_sort_2 : List UInt8 := dkwX1_sort_2 ++ dktX1_sort_3
def dkwX1_sort_1 : List UInt8 := [158, 0, 46, 42, 180, 0, 133, 21, 4, 4, 100, 50, 27, 184, 0, 218, 45, 27, 184, 0, 218, 164, 0, 25]
abbrev dktX1_sort_1 : List UInt8 := dkwX1_sort_1 ++ dktX1_sort_2
def dkwX1_sort_0 : List UInt8 := [4, 61, 28, 42, 180, 0, 127, 162, 0, 75, 42, 180, 0, 133, 28, 50, 78, 28, 54, 4, 21, 4]
abbrev dktX1_sort_0 : List UInt8 := dkwX1_sort_0 ++ dktX1_sort_1
theorem dksX1_sort_0 : cX1_sort.data.toList.drop 0 = dktX1_sort_0 := by decide +kernel
theorem dksX1_sort_1 : cX1_sort.data.toList.drop 22 = dktX1_sort_1 := dk_seg dksX1_sort_0 22 rfl rfl
theorem dksX1_sort_2 : cX1_sort.data.toList.drop 46 = dktX1_sort_2 := dk_seg dksX1_sort_1 24 rfl rfl
theorem dksX1_sort_3 : cX1_sort.data.toList.drop 69 = dktX1_sort_3 := dk_seg dksX1_sort_2 23 rfl rfl
theorem dX1_sort_0 : decode cX1_sort 0 = .ok (.iconst 1, 1) := dk_4 (dk_at dksX1_sort_0 0 rfl rfl)
theorem dX1_sort_1 : decode cX1_sort 1 = .ok (.istore_n 2, 1) := dk_61 (dk_at dksX1_sort_0 1 rfl rfl)
theorem dX1_sort_2 : decode cX1_sort 2 = .ok (.iload_n 2, 1) := dk_28 (dk_at dksX1_sort_0 2 rfl rfl)
theorem dX1_sort_3 : decode cX1_sort 3 = .ok (.aload_n 0, 1) := dk_42 (dk_at dksX1_sort_0 3 rfl rfl)
theorem dX1_sort_4 : decode cX1_sort 4 = .ok (.getfield 127, 3) := dk_180 0 127 (dk_at dksX1_sort_0 4 rfl rfl)
theorem dX1_sort_7 : decode cX1_sort 7 = .ok (.if_icmp .ge 75, 3) := dk_162 0 75 (dk_at dksX1_sort_0 7 rfl rfl)
theorem dX1_sort_10 : decode cX1_sort 10 = .ok (.aload_n 0, 1) := dk_42 (dk_at dksX1_sort_0 10 rfl rfl)
theorem dX1_sort_11 : decode cX1_sort 11 = .ok (.getfield 133, 3) := dk_180 0 133 (dk_at dksX1_sort_0 11 rfl rfl)
theorem dX1_sort_14 : decode cX1_sort 14 = .ok (.iload_n 2, 1) := dk_28 (dk_at dksX1_sort_0 14 rfl rfl)
theorem dX1_sort_15 : decode cX1_sort 15 = .ok (.aaload, 1) := dk_50 (dk_at dksX1_sort_0 15 rfl rfl)
theorem dX1_sort_16 : decode cX1_sort 16 = .ok (.astore_n 3, 1) := dk_78 (dk_at dksX1_sort_0 16 rfl rfl)
theorem dX1_sort_17 : decode cX1_sort 17 = .ok (.iload_n 2, 1) := dk_28 (dk_at dksX1_sort_0 17 rfl rfl)
theorem dX1_sort_18 : decode cX1_sort 18 = .ok (.istore 4, 2) := dk_54 4 (dk_at dksX1_sort_0 18 rfl rfl)
theorem dX1_sort_20 : decode cX1_sort 20 = .ok (.iload 4, 2) := dk_21 4 (dk_at dksX1_sort_0 20 rfl rfl)
theorem dX1_sort_22 : decode cX1_sort 22 = .ok (.ifCond .le 46, 3) := dk_158 0 46 (dk_at dksX1_sort_1 0 rfl rfl)
theorem dX1_sort_25 : decode cX1_sort 25 = .ok (.aload_n 0, 1) := dk_42 (dk_at dksX1_sort_1 3 rfl rfl)
theorem dX1_sort_26 : decode cX1_sort 26 = .ok (.getfield 133, 3) := dk_180 0 133 (dk_at dksX1_sort_1 4 rfl rfl)
theorem dX1_sort_29 : decode cX1_sort 29 = .ok (.iload 4, 2) := dk_21 4 (dk_at dksX1_sort_1 7 rfl rfl)
theorem dX1_sort_31 : decode cX1_sort 31 = .ok (.iconst 1, 1) := dk_4 (dk_at dksX1_sort_1 9 rfl rfl)
theorem dX1_sort_32 : decode cX1_sort 32 = .ok (.isub, 1) := dk_100 (dk_at dksX1_sort_1 10 rfl rfl)
theorem dX1_sort_33 : decode cX1_sort 33 = .ok (.aaload, 1) := dk_50 (dk_at dksX1_sort_1 11 rfl rfl)
theorem dX1_sort_34 : decode cX1_sort 34 = .ok (.iload_n 1, 1) := dk_27 (dk_at dksX1_sort_1 12 rfl rfl)
theorem dX1_sort_35 : decode cX1_sort 35 = .ok (.invokestatic 218, 3) := dk_184 0 218 (dk_at dksX1_sort_1 13 rfl rfl)
theorem dX1_sort_38 : decode cX1_sort 38 = .ok (.aload_n 3, 1) := dk_45 (dk_at dksX1_sort_1 16 rfl rfl)
theorem dX1_sort_39 : decode cX1_sort 39 = .ok (.iload_n 1, 1) := dk_27 (dk_at dksX1_sort_1 17 rfl rfl)
theorem dX1_sort_40 : decode cX1_sort 40 = .ok (.invokestatic 218, 3) := dk_184 0 218 (dk_at dksX1_sort_1 18 rfl rfl)
theorem dX1_sort_43 : decode cX1_sort 43 = .ok (.if_icmp .le 25, 3) := dk_164 0 25 (dk_at dksX1_sort_1 21 rfl rfl)
theorem dX1_sort_46 : decode cX1_sort 46 = .ok (.aload_n 0, 1) := dk_42 (dk_at dksX1_sort_2 0 rfl rfl)
theorem dX1_sort_47 : decode cX1_sort 47 = .ok (.getfield 133, 3) := dk_180 0 133 (dk_at dksX1_sort_2 1 rfl rfl)
theorem dX1_sort_50 : decode cX1_sort 50 = .ok (.iload 4, 2) := dk_21 4 (dk_at dksX1_sort_2 4 rfl rfl)
theorem dX1_sort_52 : decode cX1_sort 52 = .ok (.aload_n 0, 1) := dk_42 (dk_at dksX1_sort_2 6 rfl rfl)
theorem dX1_sort_53 : decode cX1_sort 53 = .ok (.getfield 133, 3) := dk_180 0 133 (dk_at dksX1_sort_2 7 rfl rfl)
theorem dX1_sort_56 : decode cX1_sort 56 = .ok (.iload 4, 2) := dk_21 4 (dk_at dksX1_sort_2 10 rfl rfl)
theorem dX1_sort_58 : decode cX1_sort 58 = .ok (.iconst 1, 1) := dk_4 (dk_at dksX1_sort_2 12 rfl rfl)
theorem dX1_sort_59 : decode cX1_sort 59 = .ok (.isub, 1) := dk_100 (dk_at dksX1_sort_2 13 rfl rfl)
theorem dX1_sort_60 : decode cX1_sort 60 = .ok (.aaload, 1) := dk_50 (dk_at dksX1_sort_2 14 rfl rfl)
theorem dX1_sort_61 : decode cX1_sort 61 = .ok (.aastore, 1) := dk_83 (dk_at dksX1_sort_2 15 rfl rfl)
theorem dX1_sort_62 : decode cX1_sort 62 = .ok (.iinc 4 (-1), 3) := dk_132 4 255 (dk_at dksX1_sort_2 16 rfl rfl)
theorem dX1_sort_65 : decode cX1_sort 65 = .ok (.goto (-45), 3) := dk_167 255 211 (dk_at dksX1_sort_2 19 rfl rfl)
theorem dX1_sort_68 : decode cX1_sort 68 = .ok (.aload_n 0, 1) := dk_42 (dk_at dksX1_sort_2 22 rfl rfl)
theorem dX1_sort_69 : decode cX1_sort 69 = .ok (.getfield 133, 3) := dk_180 0 133 (dk_at dksX1_sort_3 0 rfl rfl)
theorem dX1_sort_72 : decode cX1_sort 72 = .ok (.iload 4, 2) := dk_21 4 (dk_at dksX1_sort_3 3 rfl rfl)
theorem dX1_sort_74 : decode cX1_sort 74 = .ok (.aload_n 3, 1) := dk_45 (dk_at dksX1_sort_3 5 rfl rfl)
theorem dX1_sort_75 : decode cX1_sort 75 = .ok (.aastore, 1) := dk_83 (dk_at dksX1_sort_3 6 rfl rfl)
theorem dX1_sort_76 : decode cX1_sort 76 = .ok (.iinc 2 1, 3) := dk_132 2 1 (dk_at dksX1_sort_3 7 rfl rfl)
theorem dX1_sort_79 : decode cX1_sort 79 = .ok (.goto (-77), 3) := dk_167 255 179 (dk_at dksX1_sort_3 10 rfl rfl)
theorem dX1_sort_82 : decode cX1_sort 82 = .ok (.return_, 1) := dk_177 (dk_at dksX1_sort_3 13 rfl rfl)
abbrev cX1_key : ByteArray := prog_1_method_22_code
def yX1_key : MethodName := ⟨RX1, "key", "([BI)I"⟩
def dkwX1_key_1 : List UInt8 := [126, 172]
abbrev dktX1_key_1 : List UInt8 := dkwX1_key_1 ++ []
def dkwX1_key_0 : List UInt8 := [42, 27, 4, 100, 51, 16, 15, 126, 16, 15, 160, 0, 7, 2, 167, 0, 11, 42, 27, 4, 100, 51, 16, 15]
abbrev dktX1_key_0 : List UInt8 := dkwX1_key_0 ++ dktX1_key_1
theorem dksX1_key_0 : cX1_key.data.toList.drop 0 = dktX1_key_0 := by decide +kernel
theorem dksX1_key_1 : cX1_key.data.toList.drop 24 = dktX1_key_1 := dk_seg dksX1_key_0 24 rfl rfl
theorem dX1_key_0 : decode cX1_key 0 = .ok (.aload_n 0, 1) := dk_42 (dk_at dksX1_key_0 0 rfl rfl)
theorem dX1_key_1 : decode cX1_key 1 = .ok (.iload_n 1, 1) := dk_27 (dk_at dksX1_key_0 1 rfl rfl)
theorem dX1_key_2 : decode cX1_key 2 = .ok (.iconst 1, 1) := dk_4 (dk_at dksX1_key_0 2 rfl rfl)
theorem dX1_key_3 : decode cX1_key 3 = .ok (.isub, 1) := dk_100 (dk_at dksX1_key_0 3 rfl rfl)
theorem dX1_key_4 : decode cX1_key 4 = .ok (.baload, 1) := dk_51 (dk_at dksX1_key_0 4 rfl rfl)
theorem dX1_key_5 : decode cX1_key 5 = .ok (.bipush 15, 2) := dk_16 15 (dk_at dksX1_key_0 5 rfl rfl)
theorem dX1_key_7 : decode cX1_key 7 = .ok (.iand, 1) := dk_126 (dk_at dksX1_key_0 7 rfl rfl)
theorem dX1_key_8 : decode cX1_key 8 = .ok (.bipush 15, 2) := dk_16 15 (dk_at dksX1_key_0 8 rfl rfl)
theorem dX1_key_10 : decode cX1_key 10 = .ok (.if_icmp .ne 7, 3) := dk_160 0 7 (dk_at dksX1_key_0 10 rfl rfl)
theorem dX1_key_13 : decode cX1_key 13 = .ok (.iconst (-1), 1) := dk_2 (dk_at dksX1_key_0 13 rfl rfl)
theorem dX1_key_14 : decode cX1_key 14 = .ok (.goto 11, 3) := dk_167 0 11 (dk_at dksX1_key_0 14 rfl rfl)
theorem dX1_key_17 : decode cX1_key 17 = .ok (.aload_n 0, 1) := dk_42 (dk_at dksX1_key_0 17 rfl rfl)
theorem dX1_key_18 : decode cX1_key 18 = .ok (.iload_n 1, 1) := dk_27 (dk_at dksX1_key_0 18 rfl rfl)
theorem dX1_key_19 : decode cX1_key 19 = .ok (.iconst 1, 1) := dk_4 (dk_at dksX1_key_0 19 rfl rfl)
theorem dX1_key_20 : decode cX1_key 20 = .ok (.isub, 1) := dk_100 (dk_at dksX1_key_0 20 rfl rfl)
theorem dX1_key_21 : decode cX1_key 21 = .ok (.baload, 1) := dk_51 (dk_at dksX1_key_0 21 rfl rfl)
theorem dX1_key_22 : decode cX1_key 22 = .ok (.bipush 15, 2) := dk_16 15 (dk_at dksX1_key_0 22 rfl rfl)
theorem dX1_key_24 : decode cX1_key 24 = .ok (.iand, 1) := dk_126 (dk_at dksX1_key_1 0 rfl rfl)
theorem dX1_key_25 : decode cX1_key 25 = .ok (.ireturn, 1) := dk_172 (dk_at dksX1_key_1 1 rfl rfl)
abbrev cX1_idle : ByteArray := prog_1_method_27_code
def yX1_idle : MethodName := ⟨RX1, "idle", "(I)I"⟩
def dkwX1_idle_3 : List UInt8 := [28, 182, 0, 233, 132, 2, 1, 167, 255, 208, 42, 180, 0, 222, 172]
abbrev dktX1_idle_3 : List UInt8 := dkwX1_idle_3 ++ []
def dkwX1_idle_2 : List UInt8 := [50, 28, 42, 180, 0, 47, 182, 0, 225, 42, 180, 0, 47, 42, 180, 0, 44, 182, 0, 229, 153, 0, 8, 42]
abbrev dktX1_idle_2 : List UInt8 := dkwX1_idle_2 ++ dktX1_idle_3
def dkwX1_idle_1 : List UInt8 := [42, 3, 181, 0, 222, 3, 61, 28, 42, 180, 0, 26, 180, 0, 162, 162, 0, 43, 42, 42, 180, 0, 19, 27]
abbrev dktX1_idle_1 : List UInt8 := dkwX1_idle_1 ++ dktX1_idle_2
def dkwX1_idle_0 : List UInt8 := [27, 184, 0, 123, 154, 0, 5, 2, 172, 42, 42, 180, 0, 19, 27, 50, 2, 42, 180, 0, 44, 182, 0, 225]
abbrev dktX1_idle_0 : List UInt8 := dkwX1_idle_0 ++ dktX1_idle_1
theorem dksX1_idle_0 : cX1_idle.data.toList.drop 0 = dktX1_idle_0 := by decide +kernel
theorem dksX1_idle_1 : cX1_idle.data.toList.drop 24 = dktX1_idle_1 := dk_seg dksX1_idle_0 24 rfl rfl
theorem dksX1_idle_2 : cX1_idle.data.toList.drop 48 = dktX1_idle_2 := dk_seg dksX1_idle_1 24 rfl rfl
theorem dksX1_idle_3 : cX1_idle.data.toList.drop 72 = dktX1_idle_3 := dk_seg dksX1_idle_2 24 rfl rfl
theorem dX1_idle_0 : decode cX1_idle 0 = .ok (.iload_n 1, 1) := dk_27 (dk_at dksX1_idle_0 0 rfl rfl)
theorem dX1_idle_1 : decode cX1_idle 1 = .ok (.invokestatic 123, 3) := dk_184 0 123 (dk_at dksX1_idle_0 1 rfl rfl)
theorem dX1_idle_4 : decode cX1_idle 4 = .ok (.ifCond .ne 5, 3) := dk_154 0 5 (dk_at dksX1_idle_0 4 rfl rfl)
theorem dX1_idle_7 : decode cX1_idle 7 = .ok (.iconst (-1), 1) := dk_2 (dk_at dksX1_idle_0 7 rfl rfl)
theorem dX1_idle_8 : decode cX1_idle 8 = .ok (.ireturn, 1) := dk_172 (dk_at dksX1_idle_0 8 rfl rfl)
theorem dX1_idle_9 : decode cX1_idle 9 = .ok (.aload_n 0, 1) := dk_42 (dk_at dksX1_idle_0 9 rfl rfl)
theorem dX1_idle_10 : decode cX1_idle 10 = .ok (.aload_n 0, 1) := dk_42 (dk_at dksX1_idle_0 10 rfl rfl)
theorem dX1_idle_11 : decode cX1_idle 11 = .ok (.getfield 19, 3) := dk_180 0 19 (dk_at dksX1_idle_0 11 rfl rfl)
theorem dX1_idle_14 : decode cX1_idle 14 = .ok (.iload_n 1, 1) := dk_27 (dk_at dksX1_idle_0 14 rfl rfl)
theorem dX1_idle_15 : decode cX1_idle 15 = .ok (.aaload, 1) := dk_50 (dk_at dksX1_idle_0 15 rfl rfl)
theorem dX1_idle_16 : decode cX1_idle 16 = .ok (.iconst (-1), 1) := dk_2 (dk_at dksX1_idle_0 16 rfl rfl)
theorem dX1_idle_17 : decode cX1_idle 17 = .ok (.aload_n 0, 1) := dk_42 (dk_at dksX1_idle_0 17 rfl rfl)
theorem dX1_idle_18 : decode cX1_idle 18 = .ok (.getfield 44, 3) := dk_180 0 44 (dk_at dksX1_idle_0 18 rfl rfl)
theorem dX1_idle_21 : decode cX1_idle 21 = .ok (.invokevirtual 225, 3) := dk_182 0 225 (dk_at dksX1_idle_0 21 rfl rfl)
theorem dX1_idle_24 : decode cX1_idle 24 = .ok (.aload_n 0, 1) := dk_42 (dk_at dksX1_idle_1 0 rfl rfl)
theorem dX1_idle_25 : decode cX1_idle 25 = .ok (.iconst 0, 1) := dk_3 (dk_at dksX1_idle_1 1 rfl rfl)
theorem dX1_idle_26 : decode cX1_idle 26 = .ok (.putfield 222, 3) := dk_181 0 222 (dk_at dksX1_idle_1 2 rfl rfl)
theorem dX1_idle_29 : decode cX1_idle 29 = .ok (.iconst 0, 1) := dk_3 (dk_at dksX1_idle_1 5 rfl rfl)
theorem dX1_idle_30 : decode cX1_idle 30 = .ok (.istore_n 2, 1) := dk_61 (dk_at dksX1_idle_1 6 rfl rfl)
theorem dX1_idle_31 : decode cX1_idle 31 = .ok (.iload_n 2, 1) := dk_28 (dk_at dksX1_idle_1 7 rfl rfl)
theorem dX1_idle_32 : decode cX1_idle 32 = .ok (.aload_n 0, 1) := dk_42 (dk_at dksX1_idle_1 8 rfl rfl)
theorem dX1_idle_33 : decode cX1_idle 33 = .ok (.getfield 26, 3) := dk_180 0 26 (dk_at dksX1_idle_1 9 rfl rfl)
theorem dX1_idle_36 : decode cX1_idle 36 = .ok (.getfield 162, 3) := dk_180 0 162 (dk_at dksX1_idle_1 12 rfl rfl)
theorem dX1_idle_39 : decode cX1_idle 39 = .ok (.if_icmp .ge 43, 3) := dk_162 0 43 (dk_at dksX1_idle_1 15 rfl rfl)
theorem dX1_idle_42 : decode cX1_idle 42 = .ok (.aload_n 0, 1) := dk_42 (dk_at dksX1_idle_1 18 rfl rfl)
theorem dX1_idle_43 : decode cX1_idle 43 = .ok (.aload_n 0, 1) := dk_42 (dk_at dksX1_idle_1 19 rfl rfl)
theorem dX1_idle_44 : decode cX1_idle 44 = .ok (.getfield 19, 3) := dk_180 0 19 (dk_at dksX1_idle_1 20 rfl rfl)
theorem dX1_idle_47 : decode cX1_idle 47 = .ok (.iload_n 1, 1) := dk_27 (dk_at dksX1_idle_1 23 rfl rfl)
theorem dX1_idle_48 : decode cX1_idle 48 = .ok (.aaload, 1) := dk_50 (dk_at dksX1_idle_2 0 rfl rfl)
theorem dX1_idle_49 : decode cX1_idle 49 = .ok (.iload_n 2, 1) := dk_28 (dk_at dksX1_idle_2 1 rfl rfl)
theorem dX1_idle_50 : decode cX1_idle 50 = .ok (.aload_n 0, 1) := dk_42 (dk_at dksX1_idle_2 2 rfl rfl)
theorem dX1_idle_51 : decode cX1_idle 51 = .ok (.getfield 47, 3) := dk_180 0 47 (dk_at dksX1_idle_2 3 rfl rfl)
theorem dX1_idle_54 : decode cX1_idle 54 = .ok (.invokevirtual 225, 3) := dk_182 0 225 (dk_at dksX1_idle_2 6 rfl rfl)
theorem dX1_idle_57 : decode cX1_idle 57 = .ok (.aload_n 0, 1) := dk_42 (dk_at dksX1_idle_2 9 rfl rfl)
theorem dX1_idle_58 : decode cX1_idle 58 = .ok (.getfield 47, 3) := dk_180 0 47 (dk_at dksX1_idle_2 10 rfl rfl)
theorem dX1_idle_61 : decode cX1_idle 61 = .ok (.aload_n 0, 1) := dk_42 (dk_at dksX1_idle_2 13 rfl rfl)
theorem dX1_idle_62 : decode cX1_idle 62 = .ok (.getfield 44, 3) := dk_180 0 44 (dk_at dksX1_idle_2 14 rfl rfl)
theorem dX1_idle_65 : decode cX1_idle 65 = .ok (.invokevirtual 229, 3) := dk_182 0 229 (dk_at dksX1_idle_2 17 rfl rfl)
theorem dX1_idle_68 : decode cX1_idle 68 = .ok (.ifCond .eq 8, 3) := dk_153 0 8 (dk_at dksX1_idle_2 20 rfl rfl)
theorem dX1_idle_71 : decode cX1_idle 71 = .ok (.aload_n 0, 1) := dk_42 (dk_at dksX1_idle_2 23 rfl rfl)
theorem dX1_idle_72 : decode cX1_idle 72 = .ok (.iload_n 2, 1) := dk_28 (dk_at dksX1_idle_3 0 rfl rfl)
theorem dX1_idle_73 : decode cX1_idle 73 = .ok (.invokevirtual 233, 3) := dk_182 0 233 (dk_at dksX1_idle_3 1 rfl rfl)
theorem dX1_idle_76 : decode cX1_idle 76 = .ok (.iinc 2 1, 3) := dk_132 2 1 (dk_at dksX1_idle_3 4 rfl rfl)
theorem dX1_idle_79 : decode cX1_idle 79 = .ok (.goto (-48), 3) := dk_167 255 208 (dk_at dksX1_idle_3 7 rfl rfl)
theorem dX1_idle_82 : decode cX1_idle 82 = .ok (.aload_n 0, 1) := dk_42 (dk_at dksX1_idle_3 10 rfl rfl)
theorem dX1_idle_83 : decode cX1_idle 83 = .ok (.getfield 222, 3) := dk_180 0 222 (dk_at dksX1_idle_3 11 rfl rfl)
theorem dX1_idle_86 : decode cX1_idle 86 = .ok (.ireturn, 1) := dk_172 (dk_at dksX1_idle_3 14 rfl rfl)
abbrev cX1_runWithout : ByteArray := prog_1_method_26_code
def yX1_runWithout : MethodName := ⟨RX1, "runWithout", "(LPlugHall$Box;ILPlugHall$Outcome;)V"⟩
def dkwX1_runWithout_1 : List UInt8 := [177]
abbrev dktX1_runWithout_1 : List UInt8 := dkwX1_runWithout_1 ++ []
def dkwX1_runWithout_0 : List UInt8 := [42, 180, 0, 33, 42, 180, 0, 26, 28, 43, 180, 0, 133, 3, 43, 180, 0, 127, 16, 40, 45, 182, 0, 173]
abbrev dktX1_runWithout_0 : List UInt8 := dkwX1_runWithout_0 ++ dktX1_runWithout_1
theorem dksX1_runWithout_0 : cX1_runWithout.data.toList.drop 0 = dktX1_runWithout_0 := by decide +kernel
theorem dksX1_runWithout_1 : cX1_runWithout.data.toList.drop 24 = dktX1_runWithout_1 := dk_seg dksX1_runWithout_0 24 rfl rfl
theorem dX1_runWithout_0 : decode cX1_runWithout 0 = .ok (.aload_n 0, 1) := dk_42 (dk_at dksX1_runWithout_0 0 rfl rfl)
theorem dX1_runWithout_1 : decode cX1_runWithout 1 = .ok (.getfield 33, 3) := dk_180 0 33 (dk_at dksX1_runWithout_0 1 rfl rfl)
theorem dX1_runWithout_4 : decode cX1_runWithout 4 = .ok (.aload_n 0, 1) := dk_42 (dk_at dksX1_runWithout_0 4 rfl rfl)
theorem dX1_runWithout_5 : decode cX1_runWithout 5 = .ok (.getfield 26, 3) := dk_180 0 26 (dk_at dksX1_runWithout_0 5 rfl rfl)
theorem dX1_runWithout_8 : decode cX1_runWithout 8 = .ok (.iload_n 2, 1) := dk_28 (dk_at dksX1_runWithout_0 8 rfl rfl)
theorem dX1_runWithout_9 : decode cX1_runWithout 9 = .ok (.aload_n 1, 1) := dk_43 (dk_at dksX1_runWithout_0 9 rfl rfl)
theorem dX1_runWithout_10 : decode cX1_runWithout 10 = .ok (.getfield 133, 3) := dk_180 0 133 (dk_at dksX1_runWithout_0 10 rfl rfl)
theorem dX1_runWithout_13 : decode cX1_runWithout 13 = .ok (.iconst 0, 1) := dk_3 (dk_at dksX1_runWithout_0 13 rfl rfl)
theorem dX1_runWithout_14 : decode cX1_runWithout 14 = .ok (.aload_n 1, 1) := dk_43 (dk_at dksX1_runWithout_0 14 rfl rfl)
theorem dX1_runWithout_15 : decode cX1_runWithout 15 = .ok (.getfield 127, 3) := dk_180 0 127 (dk_at dksX1_runWithout_0 15 rfl rfl)
theorem dX1_runWithout_18 : decode cX1_runWithout 18 = .ok (.bipush 40, 2) := dk_16 40 (dk_at dksX1_runWithout_0 18 rfl rfl)
theorem dX1_runWithout_20 : decode cX1_runWithout 20 = .ok (.aload_n 3, 1) := dk_45 (dk_at dksX1_runWithout_0 20 rfl rfl)
theorem dX1_runWithout_21 : decode cX1_runWithout 21 = .ok (.invokevirtual 173, 3) := dk_182 0 173 (dk_at dksX1_runWithout_0 21 rfl rfl)
theorem dX1_runWithout_24 : decode cX1_runWithout 24 = .ok (.return_, 1) := dk_177 (dk_at dksX1_runWithout_1 0 rfl rfl)
abbrev cX1_find : ByteArray := prog_1_method_25_code
def yX1_find : MethodName := ⟨RX1, "find", "(I)V"⟩
def dkwX1_find_0 : List UInt8 := [42, 180, 0, 50, 42, 180, 0, 222, 27, 79, 42, 89, 180, 0, 222, 4, 96, 181, 0, 222, 177]
abbrev dktX1_find_0 : List UInt8 := dkwX1_find_0 ++ []
theorem dksX1_find_0 : cX1_find.data.toList.drop 0 = dktX1_find_0 := by decide +kernel
theorem dX1_find_0 : decode cX1_find 0 = .ok (.aload_n 0, 1) := dk_42 (dk_at dksX1_find_0 0 rfl rfl)
theorem dX1_find_1 : decode cX1_find 1 = .ok (.getfield 50, 3) := dk_180 0 50 (dk_at dksX1_find_0 1 rfl rfl)
theorem dX1_find_4 : decode cX1_find 4 = .ok (.aload_n 0, 1) := dk_42 (dk_at dksX1_find_0 4 rfl rfl)
theorem dX1_find_5 : decode cX1_find 5 = .ok (.getfield 222, 3) := dk_180 0 222 (dk_at dksX1_find_0 5 rfl rfl)
theorem dX1_find_8 : decode cX1_find 8 = .ok (.iload_n 1, 1) := dk_27 (dk_at dksX1_find_0 8 rfl rfl)
theorem dX1_find_9 : decode cX1_find 9 = .ok (.iastore, 1) := dk_79 (dk_at dksX1_find_0 9 rfl rfl)
theorem dX1_find_10 : decode cX1_find 10 = .ok (.aload_n 0, 1) := dk_42 (dk_at dksX1_find_0 10 rfl rfl)
theorem dX1_find_11 : decode cX1_find 11 = .ok (.dup, 1) := dk_89 (dk_at dksX1_find_0 11 rfl rfl)
theorem dX1_find_12 : decode cX1_find 12 = .ok (.getfield 222, 3) := dk_180 0 222 (dk_at dksX1_find_0 12 rfl rfl)
theorem dX1_find_15 : decode cX1_find 15 = .ok (.iconst 1, 1) := dk_4 (dk_at dksX1_find_0 15 rfl rfl)
theorem dX1_find_16 : decode cX1_find 16 = .ok (.iadd, 1) := dk_96 (dk_at dksX1_find_0 16 rfl rfl)
theorem dX1_find_17 : decode cX1_find 17 = .ok (.putfield 222, 3) := dk_181 0 222 (dk_at dksX1_find_0 17 rfl rfl)
theorem dX1_find_20 : decode cX1_find 20 = .ok (.return_, 1) := dk_177 (dk_at dksX1_find_0 20 rfl rfl)
abbrev cX1_missing : ByteArray := prog_1_method_30_code
def yX1_missing : MethodName := ⟨RX1, "missing", "(I)I"⟩
def dkwX1_missing_3 : List UInt8 := [153, 0, 8, 42, 29, 182, 0, 233, 132, 3, 1, 167, 255, 208, 42, 180, 0, 222, 172]
abbrev dktX1_missing_3 : List UInt8 := dkwX1_missing_3 ++ []
def dkwX1_missing_2 : List UInt8 := [180, 0, 19, 27, 50, 29, 42, 180, 0, 47, 182, 0, 225, 42, 180, 0, 47, 42, 180, 0, 44, 182, 0, 245]
abbrev dktX1_missing_2 : List UInt8 := dkwX1_missing_2 ++ dktX1_missing_3
def dkwX1_missing_1 : List UInt8 := [182, 0, 242, 42, 3, 181, 0, 222, 3, 62, 29, 42, 180, 0, 26, 180, 0, 162, 162, 0, 43, 42, 42]
abbrev dktX1_missing_1 : List UInt8 := dkwX1_missing_1 ++ dktX1_missing_2
def dkwX1_missing_0 : List UInt8 := [42, 182, 0, 119, 61, 27, 184, 0, 123, 153, 0, 11, 42, 28, 182, 0, 239, 154, 0, 5, 2, 172, 42, 28]
abbrev dktX1_missing_0 : List UInt8 := dkwX1_missing_0 ++ dktX1_missing_1
theorem dksX1_missing_0 : cX1_missing.data.toList.drop 0 = dktX1_missing_0 := by decide +kernel
theorem dksX1_missing_1 : cX1_missing.data.toList.drop 24 = dktX1_missing_1 := dk_seg dksX1_missing_0 24 rfl rfl
theorem dksX1_missing_2 : cX1_missing.data.toList.drop 47 = dktX1_missing_2 := dk_seg dksX1_missing_1 23 rfl rfl
theorem dksX1_missing_3 : cX1_missing.data.toList.drop 71 = dktX1_missing_3 := dk_seg dksX1_missing_2 24 rfl rfl
theorem dX1_missing_0 : decode cX1_missing 0 = .ok (.aload_n 0, 1) := dk_42 (dk_at dksX1_missing_0 0 rfl rfl)
theorem dX1_missing_1 : decode cX1_missing 1 = .ok (.invokevirtual 119, 3) := dk_182 0 119 (dk_at dksX1_missing_0 1 rfl rfl)
theorem dX1_missing_4 : decode cX1_missing 4 = .ok (.istore_n 2, 1) := dk_61 (dk_at dksX1_missing_0 4 rfl rfl)
theorem dX1_missing_5 : decode cX1_missing 5 = .ok (.iload_n 1, 1) := dk_27 (dk_at dksX1_missing_0 5 rfl rfl)
theorem dX1_missing_6 : decode cX1_missing 6 = .ok (.invokestatic 123, 3) := dk_184 0 123 (dk_at dksX1_missing_0 6 rfl rfl)
theorem dX1_missing_9 : decode cX1_missing 9 = .ok (.ifCond .eq 11, 3) := dk_153 0 11 (dk_at dksX1_missing_0 9 rfl rfl)
theorem dX1_missing_12 : decode cX1_missing 12 = .ok (.aload_n 0, 1) := dk_42 (dk_at dksX1_missing_0 12 rfl rfl)
theorem dX1_missing_13 : decode cX1_missing 13 = .ok (.iload_n 2, 1) := dk_28 (dk_at dksX1_missing_0 13 rfl rfl)
theorem dX1_missing_14 : decode cX1_missing 14 = .ok (.invokevirtual 239, 3) := dk_182 0 239 (dk_at dksX1_missing_0 14 rfl rfl)
theorem dX1_missing_17 : decode cX1_missing 17 = .ok (.ifCond .ne 5, 3) := dk_154 0 5 (dk_at dksX1_missing_0 17 rfl rfl)
theorem dX1_missing_20 : decode cX1_missing 20 = .ok (.iconst (-1), 1) := dk_2 (dk_at dksX1_missing_0 20 rfl rfl)
theorem dX1_missing_21 : decode cX1_missing 21 = .ok (.ireturn, 1) := dk_172 (dk_at dksX1_missing_0 21 rfl rfl)
theorem dX1_missing_22 : decode cX1_missing 22 = .ok (.aload_n 0, 1) := dk_42 (dk_at dksX1_missing_0 22 rfl rfl)
theorem dX1_missing_23 : decode cX1_missing 23 = .ok (.iload_n 2, 1) := dk_28 (dk_at dksX1_missing_0 23 rfl rfl)
theorem dX1_missing_24 : decode cX1_missing 24 = .ok (.invokevirtual 242, 3) := dk_182 0 242 (dk_at dksX1_missing_1 0 rfl rfl)
theorem dX1_missing_27 : decode cX1_missing 27 = .ok (.aload_n 0, 1) := dk_42 (dk_at dksX1_missing_1 3 rfl rfl)
theorem dX1_missing_28 : decode cX1_missing 28 = .ok (.iconst 0, 1) := dk_3 (dk_at dksX1_missing_1 4 rfl rfl)
theorem dX1_missing_29 : decode cX1_missing 29 = .ok (.putfield 222, 3) := dk_181 0 222 (dk_at dksX1_missing_1 5 rfl rfl)
theorem dX1_missing_32 : decode cX1_missing 32 = .ok (.iconst 0, 1) := dk_3 (dk_at dksX1_missing_1 8 rfl rfl)
theorem dX1_missing_33 : decode cX1_missing 33 = .ok (.istore_n 3, 1) := dk_62 (dk_at dksX1_missing_1 9 rfl rfl)
theorem dX1_missing_34 : decode cX1_missing 34 = .ok (.iload_n 3, 1) := dk_29 (dk_at dksX1_missing_1 10 rfl rfl)
theorem dX1_missing_35 : decode cX1_missing 35 = .ok (.aload_n 0, 1) := dk_42 (dk_at dksX1_missing_1 11 rfl rfl)
theorem dX1_missing_36 : decode cX1_missing 36 = .ok (.getfield 26, 3) := dk_180 0 26 (dk_at dksX1_missing_1 12 rfl rfl)
theorem dX1_missing_39 : decode cX1_missing 39 = .ok (.getfield 162, 3) := dk_180 0 162 (dk_at dksX1_missing_1 15 rfl rfl)
theorem dX1_missing_42 : decode cX1_missing 42 = .ok (.if_icmp .ge 43, 3) := dk_162 0 43 (dk_at dksX1_missing_1 18 rfl rfl)
theorem dX1_missing_45 : decode cX1_missing 45 = .ok (.aload_n 0, 1) := dk_42 (dk_at dksX1_missing_1 21 rfl rfl)
theorem dX1_missing_46 : decode cX1_missing 46 = .ok (.aload_n 0, 1) := dk_42 (dk_at dksX1_missing_1 22 rfl rfl)
theorem dX1_missing_47 : decode cX1_missing 47 = .ok (.getfield 19, 3) := dk_180 0 19 (dk_at dksX1_missing_2 0 rfl rfl)
theorem dX1_missing_50 : decode cX1_missing 50 = .ok (.iload_n 1, 1) := dk_27 (dk_at dksX1_missing_2 3 rfl rfl)
theorem dX1_missing_51 : decode cX1_missing 51 = .ok (.aaload, 1) := dk_50 (dk_at dksX1_missing_2 4 rfl rfl)
theorem dX1_missing_52 : decode cX1_missing 52 = .ok (.iload_n 3, 1) := dk_29 (dk_at dksX1_missing_2 5 rfl rfl)
theorem dX1_missing_53 : decode cX1_missing 53 = .ok (.aload_n 0, 1) := dk_42 (dk_at dksX1_missing_2 6 rfl rfl)
theorem dX1_missing_54 : decode cX1_missing 54 = .ok (.getfield 47, 3) := dk_180 0 47 (dk_at dksX1_missing_2 7 rfl rfl)
theorem dX1_missing_57 : decode cX1_missing 57 = .ok (.invokevirtual 225, 3) := dk_182 0 225 (dk_at dksX1_missing_2 10 rfl rfl)
theorem dX1_missing_60 : decode cX1_missing 60 = .ok (.aload_n 0, 1) := dk_42 (dk_at dksX1_missing_2 13 rfl rfl)
theorem dX1_missing_61 : decode cX1_missing 61 = .ok (.getfield 47, 3) := dk_180 0 47 (dk_at dksX1_missing_2 14 rfl rfl)
theorem dX1_missing_64 : decode cX1_missing 64 = .ok (.aload_n 0, 1) := dk_42 (dk_at dksX1_missing_2 17 rfl rfl)
theorem dX1_missing_65 : decode cX1_missing 65 = .ok (.getfield 44, 3) := dk_180 0 44 (dk_at dksX1_missing_2 18 rfl rfl)
theorem dX1_missing_68 : decode cX1_missing 68 = .ok (.invokevirtual 245, 3) := dk_182 0 245 (dk_at dksX1_missing_2 21 rfl rfl)
theorem dX1_missing_71 : decode cX1_missing 71 = .ok (.ifCond .eq 8, 3) := dk_153 0 8 (dk_at dksX1_missing_3 0 rfl rfl)
theorem dX1_missing_74 : decode cX1_missing 74 = .ok (.aload_n 0, 1) := dk_42 (dk_at dksX1_missing_3 3 rfl rfl)
theorem dX1_missing_75 : decode cX1_missing 75 = .ok (.iload_n 3, 1) := dk_29 (dk_at dksX1_missing_3 4 rfl rfl)
theorem dX1_missing_76 : decode cX1_missing 76 = .ok (.invokevirtual 233, 3) := dk_182 0 233 (dk_at dksX1_missing_3 5 rfl rfl)
theorem dX1_missing_79 : decode cX1_missing 79 = .ok (.iinc 3 1, 3) := dk_132 3 1 (dk_at dksX1_missing_3 8 rfl rfl)
theorem dX1_missing_82 : decode cX1_missing 82 = .ok (.goto (-48), 3) := dk_167 255 208 (dk_at dksX1_missing_3 11 rfl rfl)
theorem dX1_missing_85 : decode cX1_missing 85 = .ok (.aload_n 0, 1) := dk_42 (dk_at dksX1_missing_3 14 rfl rfl)
theorem dX1_missing_86 : decode cX1_missing 86 = .ok (.getfield 222, 3) := dk_180 0 222 (dk_at dksX1_missing_3 15 rfl rfl)
theorem dX1_missing_89 : decode cX1_missing 89 = .ok (.ireturn, 1) := dk_172 (dk_at dksX1_missing_3 18 rfl rfl)
abbrev cX1_areLines : ByteArray := prog_1_method_28_code
def yX1_areLines : MethodName := ⟨RX1, "areLines", "(I)Z"⟩
def dkwX1_areLines_2 : List UInt8 := [172]
abbrev dktX1_areLines_2 : List UInt8 := dkwX1_areLines_2 ++ []
def dkwX1_areLines_1 : List UInt8 := [162, 0, 23, 42, 180, 0, 13, 28, 51, 184, 0, 130, 154, 0, 5, 3, 172, 132, 2, 1, 167, 255, 234, 4]
abbrev dktX1_areLines_1 : List UInt8 := dkwX1_areLines_1 ++ dktX1_areLines_2
def dkwX1_areLines_0 : List UInt8 := [27, 16, 12, 112, 154, 0, 12, 27, 16, 12, 108, 16, 60, 164, 0, 5, 3, 172, 3, 61, 28, 27]
abbrev dktX1_areLines_0 : List UInt8 := dkwX1_areLines_0 ++ dktX1_areLines_1
theorem dksX1_areLines_0 : cX1_areLines.data.toList.drop 0 = dktX1_areLines_0 := by decide +kernel
theorem dksX1_areLines_1 : cX1_areLines.data.toList.drop 22 = dktX1_areLines_1 := dk_seg dksX1_areLines_0 22 rfl rfl
theorem dksX1_areLines_2 : cX1_areLines.data.toList.drop 46 = dktX1_areLines_2 := dk_seg dksX1_areLines_1 24 rfl rfl
theorem dX1_areLines_0 : decode cX1_areLines 0 = .ok (.iload_n 1, 1) := dk_27 (dk_at dksX1_areLines_0 0 rfl rfl)
theorem dX1_areLines_1 : decode cX1_areLines 1 = .ok (.bipush 12, 2) := dk_16 12 (dk_at dksX1_areLines_0 1 rfl rfl)
theorem dX1_areLines_3 : decode cX1_areLines 3 = .ok (.irem, 1) := dk_112 (dk_at dksX1_areLines_0 3 rfl rfl)
theorem dX1_areLines_4 : decode cX1_areLines 4 = .ok (.ifCond .ne 12, 3) := dk_154 0 12 (dk_at dksX1_areLines_0 4 rfl rfl)
theorem dX1_areLines_7 : decode cX1_areLines 7 = .ok (.iload_n 1, 1) := dk_27 (dk_at dksX1_areLines_0 7 rfl rfl)
theorem dX1_areLines_8 : decode cX1_areLines 8 = .ok (.bipush 12, 2) := dk_16 12 (dk_at dksX1_areLines_0 8 rfl rfl)
theorem dX1_areLines_10 : decode cX1_areLines 10 = .ok (.idiv, 1) := dk_108 (dk_at dksX1_areLines_0 10 rfl rfl)
theorem dX1_areLines_11 : decode cX1_areLines 11 = .ok (.bipush 60, 2) := dk_16 60 (dk_at dksX1_areLines_0 11 rfl rfl)
theorem dX1_areLines_13 : decode cX1_areLines 13 = .ok (.if_icmp .le 5, 3) := dk_164 0 5 (dk_at dksX1_areLines_0 13 rfl rfl)
theorem dX1_areLines_16 : decode cX1_areLines 16 = .ok (.iconst 0, 1) := dk_3 (dk_at dksX1_areLines_0 16 rfl rfl)
theorem dX1_areLines_17 : decode cX1_areLines 17 = .ok (.ireturn, 1) := dk_172 (dk_at dksX1_areLines_0 17 rfl rfl)
theorem dX1_areLines_18 : decode cX1_areLines 18 = .ok (.iconst 0, 1) := dk_3 (dk_at dksX1_areLines_0 18 rfl rfl)
theorem dX1_areLines_19 : decode cX1_areLines 19 = .ok (.istore_n 2, 1) := dk_61 (dk_at dksX1_areLines_0 19 rfl rfl)
theorem dX1_areLines_20 : decode cX1_areLines 20 = .ok (.iload_n 2, 1) := dk_28 (dk_at dksX1_areLines_0 20 rfl rfl)
theorem dX1_areLines_21 : decode cX1_areLines 21 = .ok (.iload_n 1, 1) := dk_27 (dk_at dksX1_areLines_0 21 rfl rfl)
theorem dX1_areLines_22 : decode cX1_areLines 22 = .ok (.if_icmp .ge 23, 3) := dk_162 0 23 (dk_at dksX1_areLines_1 0 rfl rfl)
theorem dX1_areLines_25 : decode cX1_areLines 25 = .ok (.aload_n 0, 1) := dk_42 (dk_at dksX1_areLines_1 3 rfl rfl)
theorem dX1_areLines_26 : decode cX1_areLines 26 = .ok (.getfield 13, 3) := dk_180 0 13 (dk_at dksX1_areLines_1 4 rfl rfl)
theorem dX1_areLines_29 : decode cX1_areLines 29 = .ok (.iload_n 2, 1) := dk_28 (dk_at dksX1_areLines_1 7 rfl rfl)
theorem dX1_areLines_30 : decode cX1_areLines 30 = .ok (.baload, 1) := dk_51 (dk_at dksX1_areLines_1 8 rfl rfl)
theorem dX1_areLines_31 : decode cX1_areLines 31 = .ok (.invokestatic 130, 3) := dk_184 0 130 (dk_at dksX1_areLines_1 9 rfl rfl)
theorem dX1_areLines_34 : decode cX1_areLines 34 = .ok (.ifCond .ne 5, 3) := dk_154 0 5 (dk_at dksX1_areLines_1 12 rfl rfl)
theorem dX1_areLines_37 : decode cX1_areLines 37 = .ok (.iconst 0, 1) := dk_3 (dk_at dksX1_areLines_1 15 rfl rfl)
theorem dX1_areLines_38 : decode cX1_areLines 38 = .ok (.ireturn, 1) := dk_172 (dk_at dksX1_areLines_1 16 rfl rfl)
theorem dX1_areLines_39 : decode cX1_areLines 39 = .ok (.iinc 2 1, 3) := dk_132 2 1 (dk_at dksX1_areLines_1 17 rfl rfl)
theorem dX1_areLines_42 : decode cX1_areLines 42 = .ok (.goto (-22), 3) := dk_167 255 234 (dk_at dksX1_areLines_1 20 rfl rfl)
theorem dX1_areLines_45 : decode cX1_areLines 45 = .ok (.iconst 1, 1) := dk_4 (dk_at dksX1_areLines_1 23 rfl rfl)
theorem dX1_areLines_46 : decode cX1_areLines 46 = .ok (.ireturn, 1) := dk_172 (dk_at dksX1_areLines_2 0 rfl rfl)
abbrev cX1_told : ByteArray := prog_1_method_29_code
def yX1_told : MethodName := ⟨RX1, "told", "(I)V"⟩
def dkwX1_told_2 : List UInt8 := [51, 84, 132, 2, 1, 167, 255, 225, 177]
abbrev dktX1_told_2 : List UInt8 := dkwX1_told_2 ++ []
def dkwX1_told_1 : List UInt8 := [162, 0, 32, 42, 180, 0, 44, 180, 0, 208, 28, 16, 12, 108, 50, 28, 16, 12, 112, 42, 180, 0, 13, 28]
abbrev dktX1_told_1 : List UInt8 := dkwX1_told_1 ++ dktX1_told_2
def dkwX1_told_0 : List UInt8 := [42, 180, 0, 44, 182, 0, 236, 42, 180, 0, 44, 27, 16, 12, 108, 181, 0, 196, 3, 61, 28, 27]
abbrev dktX1_told_0 : List UInt8 := dkwX1_told_0 ++ dktX1_told_1
theorem dksX1_told_0 : cX1_told.data.toList.drop 0 = dktX1_told_0 := by decide +kernel
theorem dksX1_told_1 : cX1_told.data.toList.drop 22 = dktX1_told_1 := dk_seg dksX1_told_0 22 rfl rfl
theorem dksX1_told_2 : cX1_told.data.toList.drop 46 = dktX1_told_2 := dk_seg dksX1_told_1 24 rfl rfl
theorem dX1_told_0 : decode cX1_told 0 = .ok (.aload_n 0, 1) := dk_42 (dk_at dksX1_told_0 0 rfl rfl)
theorem dX1_told_1 : decode cX1_told 1 = .ok (.getfield 44, 3) := dk_180 0 44 (dk_at dksX1_told_0 1 rfl rfl)
theorem dX1_told_4 : decode cX1_told 4 = .ok (.invokevirtual 236, 3) := dk_182 0 236 (dk_at dksX1_told_0 4 rfl rfl)
theorem dX1_told_7 : decode cX1_told 7 = .ok (.aload_n 0, 1) := dk_42 (dk_at dksX1_told_0 7 rfl rfl)
theorem dX1_told_8 : decode cX1_told 8 = .ok (.getfield 44, 3) := dk_180 0 44 (dk_at dksX1_told_0 8 rfl rfl)
theorem dX1_told_11 : decode cX1_told 11 = .ok (.iload_n 1, 1) := dk_27 (dk_at dksX1_told_0 11 rfl rfl)
theorem dX1_told_12 : decode cX1_told 12 = .ok (.bipush 12, 2) := dk_16 12 (dk_at dksX1_told_0 12 rfl rfl)
theorem dX1_told_14 : decode cX1_told 14 = .ok (.idiv, 1) := dk_108 (dk_at dksX1_told_0 14 rfl rfl)
theorem dX1_told_15 : decode cX1_told 15 = .ok (.putfield 196, 3) := dk_181 0 196 (dk_at dksX1_told_0 15 rfl rfl)
theorem dX1_told_18 : decode cX1_told 18 = .ok (.iconst 0, 1) := dk_3 (dk_at dksX1_told_0 18 rfl rfl)
theorem dX1_told_19 : decode cX1_told 19 = .ok (.istore_n 2, 1) := dk_61 (dk_at dksX1_told_0 19 rfl rfl)
theorem dX1_told_20 : decode cX1_told 20 = .ok (.iload_n 2, 1) := dk_28 (dk_at dksX1_told_0 20 rfl rfl)
theorem dX1_told_21 : decode cX1_told 21 = .ok (.iload_n 1, 1) := dk_27 (dk_at dksX1_told_0 21 rfl rfl)
theorem dX1_told_22 : decode cX1_told 22 = .ok (.if_icmp .ge 32, 3) := dk_162 0 32 (dk_at dksX1_told_1 0 rfl rfl)
theorem dX1_told_25 : decode cX1_told 25 = .ok (.aload_n 0, 1) := dk_42 (dk_at dksX1_told_1 3 rfl rfl)
theorem dX1_told_26 : decode cX1_told 26 = .ok (.getfield 44, 3) := dk_180 0 44 (dk_at dksX1_told_1 4 rfl rfl)
theorem dX1_told_29 : decode cX1_told 29 = .ok (.getfield 208, 3) := dk_180 0 208 (dk_at dksX1_told_1 7 rfl rfl)
theorem dX1_told_32 : decode cX1_told 32 = .ok (.iload_n 2, 1) := dk_28 (dk_at dksX1_told_1 10 rfl rfl)
theorem dX1_told_33 : decode cX1_told 33 = .ok (.bipush 12, 2) := dk_16 12 (dk_at dksX1_told_1 11 rfl rfl)
theorem dX1_told_35 : decode cX1_told 35 = .ok (.idiv, 1) := dk_108 (dk_at dksX1_told_1 13 rfl rfl)
theorem dX1_told_36 : decode cX1_told 36 = .ok (.aaload, 1) := dk_50 (dk_at dksX1_told_1 14 rfl rfl)
theorem dX1_told_37 : decode cX1_told 37 = .ok (.iload_n 2, 1) := dk_28 (dk_at dksX1_told_1 15 rfl rfl)
theorem dX1_told_38 : decode cX1_told 38 = .ok (.bipush 12, 2) := dk_16 12 (dk_at dksX1_told_1 16 rfl rfl)
theorem dX1_told_40 : decode cX1_told 40 = .ok (.irem, 1) := dk_112 (dk_at dksX1_told_1 18 rfl rfl)
theorem dX1_told_41 : decode cX1_told 41 = .ok (.aload_n 0, 1) := dk_42 (dk_at dksX1_told_1 19 rfl rfl)
theorem dX1_told_42 : decode cX1_told 42 = .ok (.getfield 13, 3) := dk_180 0 13 (dk_at dksX1_told_1 20 rfl rfl)
theorem dX1_told_45 : decode cX1_told 45 = .ok (.iload_n 2, 1) := dk_28 (dk_at dksX1_told_1 23 rfl rfl)
theorem dX1_told_46 : decode cX1_told 46 = .ok (.baload, 1) := dk_51 (dk_at dksX1_told_2 0 rfl rfl)
theorem dX1_told_47 : decode cX1_told 47 = .ok (.bastore, 1) := dk_84 (dk_at dksX1_told_2 1 rfl rfl)
theorem dX1_told_48 : decode cX1_told 48 = .ok (.iinc 2 1, 3) := dk_132 2 1 (dk_at dksX1_told_2 2 rfl rfl)
theorem dX1_told_51 : decode cX1_told 51 = .ok (.goto (-31), 3) := dk_167 255 225 (dk_at dksX1_told_2 5 rfl rfl)
theorem dX1_told_54 : decode cX1_told 54 = .ok (.return_, 1) := dk_177 (dk_at dksX1_told_2 8 rfl rfl)
abbrev cX1_wire : ByteArray := prog_1_method_31_code
def yX1_wire : MethodName := ⟨RX1, "wire", "(I)I"⟩
def dkwX1_wire_1 : List UInt8 := [172]
abbrev dktX1_wire_1 : List UInt8 := dkwX1_wire_1 ++ []
def dkwX1_wire_0 : List UInt8 := [27, 3, 42, 180, 0, 222, 4, 100, 184, 0, 3, 153, 0, 12, 42, 180, 0, 50, 27, 46, 167, 0, 4, 2]
abbrev dktX1_wire_0 : List UInt8 := dkwX1_wire_0 ++ dktX1_wire_1
theorem dksX1_wire_0 : cX1_wire.data.toList.drop 0 = dktX1_wire_0 := by decide +kernel
theorem dksX1_wire_1 : cX1_wire.data.toList.drop 24 = dktX1_wire_1 := dk_seg dksX1_wire_0 24 rfl rfl
theorem dX1_wire_0 : decode cX1_wire 0 = .ok (.iload_n 1, 1) := dk_27 (dk_at dksX1_wire_0 0 rfl rfl)
theorem dX1_wire_1 : decode cX1_wire 1 = .ok (.iconst 0, 1) := dk_3 (dk_at dksX1_wire_0 1 rfl rfl)
theorem dX1_wire_2 : decode cX1_wire 2 = .ok (.aload_n 0, 1) := dk_42 (dk_at dksX1_wire_0 2 rfl rfl)
theorem dX1_wire_3 : decode cX1_wire 3 = .ok (.getfield 222, 3) := dk_180 0 222 (dk_at dksX1_wire_0 3 rfl rfl)
theorem dX1_wire_6 : decode cX1_wire 6 = .ok (.iconst 1, 1) := dk_4 (dk_at dksX1_wire_0 6 rfl rfl)
theorem dX1_wire_7 : decode cX1_wire 7 = .ok (.isub, 1) := dk_100 (dk_at dksX1_wire_0 7 rfl rfl)
theorem dX1_wire_8 : decode cX1_wire 8 = .ok (.invokestatic 3, 3) := dk_184 0 3 (dk_at dksX1_wire_0 8 rfl rfl)
theorem dX1_wire_11 : decode cX1_wire 11 = .ok (.ifCond .eq 12, 3) := dk_153 0 12 (dk_at dksX1_wire_0 11 rfl rfl)
theorem dX1_wire_14 : decode cX1_wire 14 = .ok (.aload_n 0, 1) := dk_42 (dk_at dksX1_wire_0 14 rfl rfl)
theorem dX1_wire_15 : decode cX1_wire 15 = .ok (.getfield 50, 3) := dk_180 0 50 (dk_at dksX1_wire_0 15 rfl rfl)
theorem dX1_wire_18 : decode cX1_wire 18 = .ok (.iload_n 1, 1) := dk_27 (dk_at dksX1_wire_0 18 rfl rfl)
theorem dX1_wire_19 : decode cX1_wire 19 = .ok (.iaload, 1) := dk_46 (dk_at dksX1_wire_0 19 rfl rfl)
theorem dX1_wire_20 : decode cX1_wire 20 = .ok (.goto 4, 3) := dk_167 0 4 (dk_at dksX1_wire_0 20 rfl rfl)
theorem dX1_wire_23 : decode cX1_wire 23 = .ok (.iconst (-1), 1) := dk_2 (dk_at dksX1_wire_0 23 rfl rfl)
theorem dX1_wire_24 : decode cX1_wire 24 = .ok (.ireturn, 1) := dk_172 (dk_at dksX1_wire_1 0 rfl rfl)
abbrev cX1_tests : ByteArray := prog_1_method_32_code
def yX1_tests : MethodName := ⟨RX1, "tests", "(I)I"⟩
def dkwX1_tests_11 : List UInt8 := [167, 255, 170, 42, 22, 5, 184, 1, 1, 181, 1, 5, 21, 7, 172]
abbrev dktX1_tests_11 : List UInt8 := dkwX1_tests_11 ++ []
def dkwX1_tests_10 : List UInt8 := [21, 11, 21, 7, 161, 0, 6, 167, 0, 13, 21, 11, 54, 7, 42, 21, 8, 181, 0, 254, 132, 8, 1]
abbrev dktX1_tests_10 : List UInt8 := dkwX1_tests_10 ++ dktX1_tests_11
def dkwX1_tests_9 : List UInt8 := [21, 12, 47, 129, 55, 9, 132, 11, 1, 132, 12, 1, 167, 255, 221, 22, 9, 22, 5, 148, 154, 0, 23]
abbrev dktX1_tests_9 : List UInt8 := dkwX1_tests_9 ++ dktX1_tests_10
def dkwX1_tests_8 : List UInt8 := [21, 12, 29, 162, 0, 35, 21, 8, 21, 12, 122, 4, 126, 154, 0, 6, 167, 0, 16, 22, 9, 25, 4]
abbrev dktX1_tests_8 : List UInt8 := dkwX1_tests_8 ++ dktX1_tests_9
def dkwX1_tests_7 : List UInt8 := [16, 11, 54, 7, 3, 54, 8, 21, 8, 4, 29, 120, 162, 0, 84, 9, 55, 9, 3, 54, 11, 3, 54, 12]
abbrev dktX1_tests_7 : List UInt8 := dkwX1_tests_7 ++ dktX1_tests_8
def dkwX1_tests_6 : List UInt8 := [129, 80, 132, 8, 1, 167, 255, 186, 22, 5, 25, 4, 21, 7, 47, 129, 55, 5, 132, 7, 1, 167, 255, 133]
abbrev dktX1_tests_6 : List UInt8 := dkwX1_tests_6 ++ dktX1_tests_7
def dkwX1_tests_5 : List UInt8 := [42, 180, 0, 47, 42, 180, 0, 44, 182, 0, 229, 154, 0, 15, 25, 4, 21, 7, 92, 47, 10, 21, 8, 121]
abbrev dktX1_tests_5 : List UInt8 := dkwX1_tests_5 ++ dktX1_tests_6
def dkwX1_tests_4 : List UInt8 := [180, 0, 26, 21, 8, 44, 180, 0, 133, 21, 7, 21, 7, 4, 96, 16, 40, 42, 180, 0, 47, 182, 0, 173]
abbrev dktX1_tests_4 : List UInt8 := dkwX1_tests_4 ++ dktX1_tests_5
def dkwX1_tests_3 : List UInt8 := [182, 0, 173, 3, 54, 8, 21, 8, 42, 180, 0, 26, 180, 0, 162, 162, 0, 64, 42, 180, 0, 33, 42]
abbrev dktX1_tests_3 : List UInt8 := dkwX1_tests_3 ++ dktX1_tests_4
def dkwX1_tests_2 : List UInt8 := [180, 0, 33, 42, 180, 0, 26, 2, 44, 180, 0, 133, 21, 7, 21, 7, 4, 96, 16, 40, 42, 180, 0, 44]
abbrev dktX1_tests_2 : List UInt8 := dkwX1_tests_2 ++ dktX1_tests_3
def dkwX1_tests_1 : List UInt8 := [184, 0, 248, 62, 16, 10, 188, 11, 58, 4, 9, 55, 5, 3, 54, 7, 21, 7, 29, 162, 0, 123, 42]
abbrev dktX1_tests_1 : List UInt8 := dkwX1_tests_1 ++ dktX1_tests_2
def dkwX1_tests_0 : List UInt8 := [27, 184, 0, 123, 154, 0, 5, 2, 172, 42, 180, 0, 19, 27, 50, 77, 16, 10, 44, 180, 0, 127]
abbrev dktX1_tests_0 : List UInt8 := dkwX1_tests_0 ++ dktX1_tests_1
theorem dksX1_tests_0 : cX1_tests.data.toList.drop 0 = dktX1_tests_0 := by decide +kernel
theorem dksX1_tests_1 : cX1_tests.data.toList.drop 22 = dktX1_tests_1 := dk_seg dksX1_tests_0 22 rfl rfl
theorem dksX1_tests_2 : cX1_tests.data.toList.drop 45 = dktX1_tests_2 := dk_seg dksX1_tests_1 23 rfl rfl
theorem dksX1_tests_3 : cX1_tests.data.toList.drop 69 = dktX1_tests_3 := dk_seg dksX1_tests_2 24 rfl rfl
theorem dksX1_tests_4 : cX1_tests.data.toList.drop 92 = dktX1_tests_4 := dk_seg dksX1_tests_3 23 rfl rfl
theorem dksX1_tests_5 : cX1_tests.data.toList.drop 116 = dktX1_tests_5 := dk_seg dksX1_tests_4 24 rfl rfl
theorem dksX1_tests_6 : cX1_tests.data.toList.drop 140 = dktX1_tests_6 := dk_seg dksX1_tests_5 24 rfl rfl
theorem dksX1_tests_7 : cX1_tests.data.toList.drop 164 = dktX1_tests_7 := dk_seg dksX1_tests_6 24 rfl rfl
theorem dksX1_tests_8 : cX1_tests.data.toList.drop 188 = dktX1_tests_8 := dk_seg dksX1_tests_7 24 rfl rfl
theorem dksX1_tests_9 : cX1_tests.data.toList.drop 211 = dktX1_tests_9 := dk_seg dksX1_tests_8 23 rfl rfl
theorem dksX1_tests_10 : cX1_tests.data.toList.drop 234 = dktX1_tests_10 := dk_seg dksX1_tests_9 23 rfl rfl
theorem dksX1_tests_11 : cX1_tests.data.toList.drop 257 = dktX1_tests_11 := dk_seg dksX1_tests_10 23 rfl rfl
theorem dX1_tests_0 : decode cX1_tests 0 = .ok (.iload_n 1, 1) := dk_27 (dk_at dksX1_tests_0 0 rfl rfl)
theorem dX1_tests_1 : decode cX1_tests 1 = .ok (.invokestatic 123, 3) := dk_184 0 123 (dk_at dksX1_tests_0 1 rfl rfl)
theorem dX1_tests_4 : decode cX1_tests 4 = .ok (.ifCond .ne 5, 3) := dk_154 0 5 (dk_at dksX1_tests_0 4 rfl rfl)
theorem dX1_tests_7 : decode cX1_tests 7 = .ok (.iconst (-1), 1) := dk_2 (dk_at dksX1_tests_0 7 rfl rfl)
theorem dX1_tests_8 : decode cX1_tests 8 = .ok (.ireturn, 1) := dk_172 (dk_at dksX1_tests_0 8 rfl rfl)
theorem dX1_tests_9 : decode cX1_tests 9 = .ok (.aload_n 0, 1) := dk_42 (dk_at dksX1_tests_0 9 rfl rfl)
theorem dX1_tests_10 : decode cX1_tests 10 = .ok (.getfield 19, 3) := dk_180 0 19 (dk_at dksX1_tests_0 10 rfl rfl)
theorem dX1_tests_13 : decode cX1_tests 13 = .ok (.iload_n 1, 1) := dk_27 (dk_at dksX1_tests_0 13 rfl rfl)
theorem dX1_tests_14 : decode cX1_tests 14 = .ok (.aaload, 1) := dk_50 (dk_at dksX1_tests_0 14 rfl rfl)
theorem dX1_tests_15 : decode cX1_tests 15 = .ok (.astore_n 2, 1) := dk_77 (dk_at dksX1_tests_0 15 rfl rfl)
theorem dX1_tests_16 : decode cX1_tests 16 = .ok (.bipush 10, 2) := dk_16 10 (dk_at dksX1_tests_0 16 rfl rfl)
theorem dX1_tests_18 : decode cX1_tests 18 = .ok (.aload_n 2, 1) := dk_44 (dk_at dksX1_tests_0 18 rfl rfl)
theorem dX1_tests_19 : decode cX1_tests 19 = .ok (.getfield 127, 3) := dk_180 0 127 (dk_at dksX1_tests_0 19 rfl rfl)
theorem dX1_tests_22 : decode cX1_tests 22 = .ok (.invokestatic 248, 3) := dk_184 0 248 (dk_at dksX1_tests_1 0 rfl rfl)
theorem dX1_tests_25 : decode cX1_tests 25 = .ok (.istore_n 3, 1) := dk_62 (dk_at dksX1_tests_1 3 rfl rfl)
theorem dX1_tests_26 : decode cX1_tests 26 = .ok (.bipush 10, 2) := dk_16 10 (dk_at dksX1_tests_1 4 rfl rfl)
theorem dX1_tests_28 : decode cX1_tests 28 = .ok (.newarray .long, 2) := dk_188_11 (dk_at dksX1_tests_1 6 rfl rfl)
theorem dX1_tests_30 : decode cX1_tests 30 = .ok (.astore 4, 2) := dk_58 4 (dk_at dksX1_tests_1 8 rfl rfl)
theorem dX1_tests_32 : decode cX1_tests 32 = .ok (.lconst 0, 1) := dk_9 (dk_at dksX1_tests_1 10 rfl rfl)
theorem dX1_tests_33 : decode cX1_tests 33 = .ok (.lstore 5, 2) := dk_55 5 (dk_at dksX1_tests_1 11 rfl rfl)
theorem dX1_tests_35 : decode cX1_tests 35 = .ok (.iconst 0, 1) := dk_3 (dk_at dksX1_tests_1 13 rfl rfl)
theorem dX1_tests_36 : decode cX1_tests 36 = .ok (.istore 7, 2) := dk_54 7 (dk_at dksX1_tests_1 14 rfl rfl)
theorem dX1_tests_38 : decode cX1_tests 38 = .ok (.iload 7, 2) := dk_21 7 (dk_at dksX1_tests_1 16 rfl rfl)
theorem dX1_tests_40 : decode cX1_tests 40 = .ok (.iload_n 3, 1) := dk_29 (dk_at dksX1_tests_1 18 rfl rfl)
theorem dX1_tests_41 : decode cX1_tests 41 = .ok (.if_icmp .ge 123, 3) := dk_162 0 123 (dk_at dksX1_tests_1 19 rfl rfl)
theorem dX1_tests_44 : decode cX1_tests 44 = .ok (.aload_n 0, 1) := dk_42 (dk_at dksX1_tests_1 22 rfl rfl)
theorem dX1_tests_45 : decode cX1_tests 45 = .ok (.getfield 33, 3) := dk_180 0 33 (dk_at dksX1_tests_2 0 rfl rfl)
theorem dX1_tests_48 : decode cX1_tests 48 = .ok (.aload_n 0, 1) := dk_42 (dk_at dksX1_tests_2 3 rfl rfl)
theorem dX1_tests_49 : decode cX1_tests 49 = .ok (.getfield 26, 3) := dk_180 0 26 (dk_at dksX1_tests_2 4 rfl rfl)
theorem dX1_tests_52 : decode cX1_tests 52 = .ok (.iconst (-1), 1) := dk_2 (dk_at dksX1_tests_2 7 rfl rfl)
theorem dX1_tests_53 : decode cX1_tests 53 = .ok (.aload_n 2, 1) := dk_44 (dk_at dksX1_tests_2 8 rfl rfl)
theorem dX1_tests_54 : decode cX1_tests 54 = .ok (.getfield 133, 3) := dk_180 0 133 (dk_at dksX1_tests_2 9 rfl rfl)
theorem dX1_tests_57 : decode cX1_tests 57 = .ok (.iload 7, 2) := dk_21 7 (dk_at dksX1_tests_2 12 rfl rfl)
theorem dX1_tests_59 : decode cX1_tests 59 = .ok (.iload 7, 2) := dk_21 7 (dk_at dksX1_tests_2 14 rfl rfl)
theorem dX1_tests_61 : decode cX1_tests 61 = .ok (.iconst 1, 1) := dk_4 (dk_at dksX1_tests_2 16 rfl rfl)
theorem dX1_tests_62 : decode cX1_tests 62 = .ok (.iadd, 1) := dk_96 (dk_at dksX1_tests_2 17 rfl rfl)
theorem dX1_tests_63 : decode cX1_tests 63 = .ok (.bipush 40, 2) := dk_16 40 (dk_at dksX1_tests_2 18 rfl rfl)
theorem dX1_tests_65 : decode cX1_tests 65 = .ok (.aload_n 0, 1) := dk_42 (dk_at dksX1_tests_2 20 rfl rfl)
theorem dX1_tests_66 : decode cX1_tests 66 = .ok (.getfield 44, 3) := dk_180 0 44 (dk_at dksX1_tests_2 21 rfl rfl)
theorem dX1_tests_69 : decode cX1_tests 69 = .ok (.invokevirtual 173, 3) := dk_182 0 173 (dk_at dksX1_tests_3 0 rfl rfl)
theorem dX1_tests_72 : decode cX1_tests 72 = .ok (.iconst 0, 1) := dk_3 (dk_at dksX1_tests_3 3 rfl rfl)
theorem dX1_tests_73 : decode cX1_tests 73 = .ok (.istore 8, 2) := dk_54 8 (dk_at dksX1_tests_3 4 rfl rfl)
theorem dX1_tests_75 : decode cX1_tests 75 = .ok (.iload 8, 2) := dk_21 8 (dk_at dksX1_tests_3 6 rfl rfl)
theorem dX1_tests_77 : decode cX1_tests 77 = .ok (.aload_n 0, 1) := dk_42 (dk_at dksX1_tests_3 8 rfl rfl)
theorem dX1_tests_78 : decode cX1_tests 78 = .ok (.getfield 26, 3) := dk_180 0 26 (dk_at dksX1_tests_3 9 rfl rfl)
theorem dX1_tests_81 : decode cX1_tests 81 = .ok (.getfield 162, 3) := dk_180 0 162 (dk_at dksX1_tests_3 12 rfl rfl)
theorem dX1_tests_84 : decode cX1_tests 84 = .ok (.if_icmp .ge 64, 3) := dk_162 0 64 (dk_at dksX1_tests_3 15 rfl rfl)
theorem dX1_tests_87 : decode cX1_tests 87 = .ok (.aload_n 0, 1) := dk_42 (dk_at dksX1_tests_3 18 rfl rfl)
theorem dX1_tests_88 : decode cX1_tests 88 = .ok (.getfield 33, 3) := dk_180 0 33 (dk_at dksX1_tests_3 19 rfl rfl)
theorem dX1_tests_91 : decode cX1_tests 91 = .ok (.aload_n 0, 1) := dk_42 (dk_at dksX1_tests_3 22 rfl rfl)
theorem dX1_tests_92 : decode cX1_tests 92 = .ok (.getfield 26, 3) := dk_180 0 26 (dk_at dksX1_tests_4 0 rfl rfl)
theorem dX1_tests_95 : decode cX1_tests 95 = .ok (.iload 8, 2) := dk_21 8 (dk_at dksX1_tests_4 3 rfl rfl)
theorem dX1_tests_97 : decode cX1_tests 97 = .ok (.aload_n 2, 1) := dk_44 (dk_at dksX1_tests_4 5 rfl rfl)
theorem dX1_tests_98 : decode cX1_tests 98 = .ok (.getfield 133, 3) := dk_180 0 133 (dk_at dksX1_tests_4 6 rfl rfl)
theorem dX1_tests_101 : decode cX1_tests 101 = .ok (.iload 7, 2) := dk_21 7 (dk_at dksX1_tests_4 9 rfl rfl)
theorem dX1_tests_103 : decode cX1_tests 103 = .ok (.iload 7, 2) := dk_21 7 (dk_at dksX1_tests_4 11 rfl rfl)
theorem dX1_tests_105 : decode cX1_tests 105 = .ok (.iconst 1, 1) := dk_4 (dk_at dksX1_tests_4 13 rfl rfl)
theorem dX1_tests_106 : decode cX1_tests 106 = .ok (.iadd, 1) := dk_96 (dk_at dksX1_tests_4 14 rfl rfl)
theorem dX1_tests_107 : decode cX1_tests 107 = .ok (.bipush 40, 2) := dk_16 40 (dk_at dksX1_tests_4 15 rfl rfl)
theorem dX1_tests_109 : decode cX1_tests 109 = .ok (.aload_n 0, 1) := dk_42 (dk_at dksX1_tests_4 17 rfl rfl)
theorem dX1_tests_110 : decode cX1_tests 110 = .ok (.getfield 47, 3) := dk_180 0 47 (dk_at dksX1_tests_4 18 rfl rfl)
theorem dX1_tests_113 : decode cX1_tests 113 = .ok (.invokevirtual 173, 3) := dk_182 0 173 (dk_at dksX1_tests_4 21 rfl rfl)
theorem dX1_tests_116 : decode cX1_tests 116 = .ok (.aload_n 0, 1) := dk_42 (dk_at dksX1_tests_5 0 rfl rfl)
theorem dX1_tests_117 : decode cX1_tests 117 = .ok (.getfield 47, 3) := dk_180 0 47 (dk_at dksX1_tests_5 1 rfl rfl)
theorem dX1_tests_120 : decode cX1_tests 120 = .ok (.aload_n 0, 1) := dk_42 (dk_at dksX1_tests_5 4 rfl rfl)
theorem dX1_tests_121 : decode cX1_tests 121 = .ok (.getfield 44, 3) := dk_180 0 44 (dk_at dksX1_tests_5 5 rfl rfl)
theorem dX1_tests_124 : decode cX1_tests 124 = .ok (.invokevirtual 229, 3) := dk_182 0 229 (dk_at dksX1_tests_5 8 rfl rfl)
theorem dX1_tests_127 : decode cX1_tests 127 = .ok (.ifCond .ne 15, 3) := dk_154 0 15 (dk_at dksX1_tests_5 11 rfl rfl)
theorem dX1_tests_130 : decode cX1_tests 130 = .ok (.aload 4, 2) := dk_25 4 (dk_at dksX1_tests_5 14 rfl rfl)
theorem dX1_tests_132 : decode cX1_tests 132 = .ok (.iload 7, 2) := dk_21 7 (dk_at dksX1_tests_5 16 rfl rfl)
theorem dX1_tests_134 : decode cX1_tests 134 = .ok (.dup2, 1) := dk_92 (dk_at dksX1_tests_5 18 rfl rfl)
theorem dX1_tests_135 : decode cX1_tests 135 = .ok (.laload, 1) := dk_47 (dk_at dksX1_tests_5 19 rfl rfl)
theorem dX1_tests_136 : decode cX1_tests 136 = .ok (.lconst 1, 1) := dk_10 (dk_at dksX1_tests_5 20 rfl rfl)
theorem dX1_tests_137 : decode cX1_tests 137 = .ok (.iload 8, 2) := dk_21 8 (dk_at dksX1_tests_5 21 rfl rfl)
theorem dX1_tests_139 : decode cX1_tests 139 = .ok (.lshl, 1) := dk_121 (dk_at dksX1_tests_5 23 rfl rfl)
theorem dX1_tests_140 : decode cX1_tests 140 = .ok (.lor, 1) := dk_129 (dk_at dksX1_tests_6 0 rfl rfl)
theorem dX1_tests_141 : decode cX1_tests 141 = .ok (.lastore, 1) := dk_80 (dk_at dksX1_tests_6 1 rfl rfl)
theorem dX1_tests_142 : decode cX1_tests 142 = .ok (.iinc 8 1, 3) := dk_132 8 1 (dk_at dksX1_tests_6 2 rfl rfl)
theorem dX1_tests_145 : decode cX1_tests 145 = .ok (.goto (-70), 3) := dk_167 255 186 (dk_at dksX1_tests_6 5 rfl rfl)
theorem dX1_tests_148 : decode cX1_tests 148 = .ok (.lload 5, 2) := dk_22 5 (dk_at dksX1_tests_6 8 rfl rfl)
theorem dX1_tests_150 : decode cX1_tests 150 = .ok (.aload 4, 2) := dk_25 4 (dk_at dksX1_tests_6 10 rfl rfl)
theorem dX1_tests_152 : decode cX1_tests 152 = .ok (.iload 7, 2) := dk_21 7 (dk_at dksX1_tests_6 12 rfl rfl)
theorem dX1_tests_154 : decode cX1_tests 154 = .ok (.laload, 1) := dk_47 (dk_at dksX1_tests_6 14 rfl rfl)
theorem dX1_tests_155 : decode cX1_tests 155 = .ok (.lor, 1) := dk_129 (dk_at dksX1_tests_6 15 rfl rfl)
theorem dX1_tests_156 : decode cX1_tests 156 = .ok (.lstore 5, 2) := dk_55 5 (dk_at dksX1_tests_6 16 rfl rfl)
theorem dX1_tests_158 : decode cX1_tests 158 = .ok (.iinc 7 1, 3) := dk_132 7 1 (dk_at dksX1_tests_6 18 rfl rfl)
theorem dX1_tests_161 : decode cX1_tests 161 = .ok (.goto (-123), 3) := dk_167 255 133 (dk_at dksX1_tests_6 21 rfl rfl)
theorem dX1_tests_164 : decode cX1_tests 164 = .ok (.bipush 11, 2) := dk_16 11 (dk_at dksX1_tests_7 0 rfl rfl)
theorem dX1_tests_166 : decode cX1_tests 166 = .ok (.istore 7, 2) := dk_54 7 (dk_at dksX1_tests_7 2 rfl rfl)
theorem dX1_tests_168 : decode cX1_tests 168 = .ok (.iconst 0, 1) := dk_3 (dk_at dksX1_tests_7 4 rfl rfl)
theorem dX1_tests_169 : decode cX1_tests 169 = .ok (.istore 8, 2) := dk_54 8 (dk_at dksX1_tests_7 5 rfl rfl)
theorem dX1_tests_171 : decode cX1_tests 171 = .ok (.iload 8, 2) := dk_21 8 (dk_at dksX1_tests_7 7 rfl rfl)
theorem dX1_tests_173 : decode cX1_tests 173 = .ok (.iconst 1, 1) := dk_4 (dk_at dksX1_tests_7 9 rfl rfl)
theorem dX1_tests_174 : decode cX1_tests 174 = .ok (.iload_n 3, 1) := dk_29 (dk_at dksX1_tests_7 10 rfl rfl)
theorem dX1_tests_175 : decode cX1_tests 175 = .ok (.ishl, 1) := dk_120 (dk_at dksX1_tests_7 11 rfl rfl)
theorem dX1_tests_176 : decode cX1_tests 176 = .ok (.if_icmp .ge 84, 3) := dk_162 0 84 (dk_at dksX1_tests_7 12 rfl rfl)
theorem dX1_tests_179 : decode cX1_tests 179 = .ok (.lconst 0, 1) := dk_9 (dk_at dksX1_tests_7 15 rfl rfl)
theorem dX1_tests_180 : decode cX1_tests 180 = .ok (.lstore 9, 2) := dk_55 9 (dk_at dksX1_tests_7 16 rfl rfl)
theorem dX1_tests_182 : decode cX1_tests 182 = .ok (.iconst 0, 1) := dk_3 (dk_at dksX1_tests_7 18 rfl rfl)
theorem dX1_tests_183 : decode cX1_tests 183 = .ok (.istore 11, 2) := dk_54 11 (dk_at dksX1_tests_7 19 rfl rfl)
theorem dX1_tests_185 : decode cX1_tests 185 = .ok (.iconst 0, 1) := dk_3 (dk_at dksX1_tests_7 21 rfl rfl)
theorem dX1_tests_186 : decode cX1_tests 186 = .ok (.istore 12, 2) := dk_54 12 (dk_at dksX1_tests_7 22 rfl rfl)
theorem dX1_tests_188 : decode cX1_tests 188 = .ok (.iload 12, 2) := dk_21 12 (dk_at dksX1_tests_8 0 rfl rfl)
theorem dX1_tests_190 : decode cX1_tests 190 = .ok (.iload_n 3, 1) := dk_29 (dk_at dksX1_tests_8 2 rfl rfl)
theorem dX1_tests_191 : decode cX1_tests 191 = .ok (.if_icmp .ge 35, 3) := dk_162 0 35 (dk_at dksX1_tests_8 3 rfl rfl)
theorem dX1_tests_194 : decode cX1_tests 194 = .ok (.iload 8, 2) := dk_21 8 (dk_at dksX1_tests_8 6 rfl rfl)
theorem dX1_tests_196 : decode cX1_tests 196 = .ok (.iload 12, 2) := dk_21 12 (dk_at dksX1_tests_8 8 rfl rfl)
theorem dX1_tests_198 : decode cX1_tests 198 = .ok (.ishr, 1) := dk_122 (dk_at dksX1_tests_8 10 rfl rfl)
theorem dX1_tests_199 : decode cX1_tests 199 = .ok (.iconst 1, 1) := dk_4 (dk_at dksX1_tests_8 11 rfl rfl)
theorem dX1_tests_200 : decode cX1_tests 200 = .ok (.iand, 1) := dk_126 (dk_at dksX1_tests_8 12 rfl rfl)
theorem dX1_tests_201 : decode cX1_tests 201 = .ok (.ifCond .ne 6, 3) := dk_154 0 6 (dk_at dksX1_tests_8 13 rfl rfl)
theorem dX1_tests_204 : decode cX1_tests 204 = .ok (.goto 16, 3) := dk_167 0 16 (dk_at dksX1_tests_8 16 rfl rfl)
theorem dX1_tests_207 : decode cX1_tests 207 = .ok (.lload 9, 2) := dk_22 9 (dk_at dksX1_tests_8 19 rfl rfl)
theorem dX1_tests_209 : decode cX1_tests 209 = .ok (.aload 4, 2) := dk_25 4 (dk_at dksX1_tests_8 21 rfl rfl)
theorem dX1_tests_211 : decode cX1_tests 211 = .ok (.iload 12, 2) := dk_21 12 (dk_at dksX1_tests_9 0 rfl rfl)
theorem dX1_tests_213 : decode cX1_tests 213 = .ok (.laload, 1) := dk_47 (dk_at dksX1_tests_9 2 rfl rfl)
theorem dX1_tests_214 : decode cX1_tests 214 = .ok (.lor, 1) := dk_129 (dk_at dksX1_tests_9 3 rfl rfl)
theorem dX1_tests_215 : decode cX1_tests 215 = .ok (.lstore 9, 2) := dk_55 9 (dk_at dksX1_tests_9 4 rfl rfl)
theorem dX1_tests_217 : decode cX1_tests 217 = .ok (.iinc 11 1, 3) := dk_132 11 1 (dk_at dksX1_tests_9 6 rfl rfl)
theorem dX1_tests_220 : decode cX1_tests 220 = .ok (.iinc 12 1, 3) := dk_132 12 1 (dk_at dksX1_tests_9 9 rfl rfl)
theorem dX1_tests_223 : decode cX1_tests 223 = .ok (.goto (-35), 3) := dk_167 255 221 (dk_at dksX1_tests_9 12 rfl rfl)
theorem dX1_tests_226 : decode cX1_tests 226 = .ok (.lload 9, 2) := dk_22 9 (dk_at dksX1_tests_9 15 rfl rfl)
theorem dX1_tests_228 : decode cX1_tests 228 = .ok (.lload 5, 2) := dk_22 5 (dk_at dksX1_tests_9 17 rfl rfl)
theorem dX1_tests_230 : decode cX1_tests 230 = .ok (.lcmp, 1) := dk_148 (dk_at dksX1_tests_9 19 rfl rfl)
theorem dX1_tests_231 : decode cX1_tests 231 = .ok (.ifCond .ne 23, 3) := dk_154 0 23 (dk_at dksX1_tests_9 20 rfl rfl)
theorem dX1_tests_234 : decode cX1_tests 234 = .ok (.iload 11, 2) := dk_21 11 (dk_at dksX1_tests_10 0 rfl rfl)
theorem dX1_tests_236 : decode cX1_tests 236 = .ok (.iload 7, 2) := dk_21 7 (dk_at dksX1_tests_10 2 rfl rfl)
theorem dX1_tests_238 : decode cX1_tests 238 = .ok (.if_icmp .lt 6, 3) := dk_161 0 6 (dk_at dksX1_tests_10 4 rfl rfl)
theorem dX1_tests_241 : decode cX1_tests 241 = .ok (.goto 13, 3) := dk_167 0 13 (dk_at dksX1_tests_10 7 rfl rfl)
theorem dX1_tests_244 : decode cX1_tests 244 = .ok (.iload 11, 2) := dk_21 11 (dk_at dksX1_tests_10 10 rfl rfl)
theorem dX1_tests_246 : decode cX1_tests 246 = .ok (.istore 7, 2) := dk_54 7 (dk_at dksX1_tests_10 12 rfl rfl)
theorem dX1_tests_248 : decode cX1_tests 248 = .ok (.aload_n 0, 1) := dk_42 (dk_at dksX1_tests_10 14 rfl rfl)
theorem dX1_tests_249 : decode cX1_tests 249 = .ok (.iload 8, 2) := dk_21 8 (dk_at dksX1_tests_10 15 rfl rfl)
theorem dX1_tests_251 : decode cX1_tests 251 = .ok (.putfield 254, 3) := dk_181 0 254 (dk_at dksX1_tests_10 17 rfl rfl)
theorem dX1_tests_254 : decode cX1_tests 254 = .ok (.iinc 8 1, 3) := dk_132 8 1 (dk_at dksX1_tests_10 20 rfl rfl)
theorem dX1_tests_257 : decode cX1_tests 257 = .ok (.goto (-86), 3) := dk_167 255 170 (dk_at dksX1_tests_11 0 rfl rfl)
theorem dX1_tests_260 : decode cX1_tests 260 = .ok (.aload_n 0, 1) := dk_42 (dk_at dksX1_tests_11 3 rfl rfl)
theorem dX1_tests_261 : decode cX1_tests 261 = .ok (.lload 5, 2) := dk_22 5 (dk_at dksX1_tests_11 4 rfl rfl)
theorem dX1_tests_263 : decode cX1_tests 263 = .ok (.invokestatic 257, 3) := dk_184 1 1 (dk_at dksX1_tests_11 6 rfl rfl)
theorem dX1_tests_266 : decode cX1_tests 266 = .ok (.putfield 261, 3) := dk_181 1 5 (dk_at dksX1_tests_11 9 rfl rfl)
theorem dX1_tests_269 : decode cX1_tests 269 = .ok (.iload 7, 2) := dk_21 7 (dk_at dksX1_tests_11 12 rfl rfl)
theorem dX1_tests_271 : decode cX1_tests 271 = .ok (.ireturn, 1) := dk_172 (dk_at dksX1_tests_11 14 rfl rfl)
abbrev cX1_bits : ByteArray := prog_1_method_2_code
def yX1_bits : MethodName := ⟨RX1, "bits", "(J)I"⟩
def dkwX1_bits_0 : List UInt8 := [3, 61, 30, 66, 33, 9, 148, 153, 0, 15, 132, 2, 1, 33, 33, 10, 101, 127, 66, 167, 255, 241, 28, 172]
abbrev dktX1_bits_0 : List UInt8 := dkwX1_bits_0 ++ []
theorem dksX1_bits_0 : cX1_bits.data.toList.drop 0 = dktX1_bits_0 := by decide +kernel
theorem dX1_bits_0 : decode cX1_bits 0 = .ok (.iconst 0, 1) := dk_3 (dk_at dksX1_bits_0 0 rfl rfl)
theorem dX1_bits_1 : decode cX1_bits 1 = .ok (.istore_n 2, 1) := dk_61 (dk_at dksX1_bits_0 1 rfl rfl)
theorem dX1_bits_2 : decode cX1_bits 2 = .ok (.lload_n 0, 1) := dk_30 (dk_at dksX1_bits_0 2 rfl rfl)
theorem dX1_bits_3 : decode cX1_bits 3 = .ok (.lstore_n 3, 1) := dk_66 (dk_at dksX1_bits_0 3 rfl rfl)
theorem dX1_bits_4 : decode cX1_bits 4 = .ok (.lload_n 3, 1) := dk_33 (dk_at dksX1_bits_0 4 rfl rfl)
theorem dX1_bits_5 : decode cX1_bits 5 = .ok (.lconst 0, 1) := dk_9 (dk_at dksX1_bits_0 5 rfl rfl)
theorem dX1_bits_6 : decode cX1_bits 6 = .ok (.lcmp, 1) := dk_148 (dk_at dksX1_bits_0 6 rfl rfl)
theorem dX1_bits_7 : decode cX1_bits 7 = .ok (.ifCond .eq 15, 3) := dk_153 0 15 (dk_at dksX1_bits_0 7 rfl rfl)
theorem dX1_bits_10 : decode cX1_bits 10 = .ok (.iinc 2 1, 3) := dk_132 2 1 (dk_at dksX1_bits_0 10 rfl rfl)
theorem dX1_bits_13 : decode cX1_bits 13 = .ok (.lload_n 3, 1) := dk_33 (dk_at dksX1_bits_0 13 rfl rfl)
theorem dX1_bits_14 : decode cX1_bits 14 = .ok (.lload_n 3, 1) := dk_33 (dk_at dksX1_bits_0 14 rfl rfl)
theorem dX1_bits_15 : decode cX1_bits 15 = .ok (.lconst 1, 1) := dk_10 (dk_at dksX1_bits_0 15 rfl rfl)
theorem dX1_bits_16 : decode cX1_bits 16 = .ok (.lsub, 1) := dk_101 (dk_at dksX1_bits_0 16 rfl rfl)
theorem dX1_bits_17 : decode cX1_bits 17 = .ok (.land, 1) := dk_127 (dk_at dksX1_bits_0 17 rfl rfl)
theorem dX1_bits_18 : decode cX1_bits 18 = .ok (.lstore_n 3, 1) := dk_66 (dk_at dksX1_bits_0 18 rfl rfl)
theorem dX1_bits_19 : decode cX1_bits 19 = .ok (.goto (-15), 3) := dk_167 255 241 (dk_at dksX1_bits_0 19 rfl rfl)
theorem dX1_bits_22 : decode cX1_bits 22 = .ok (.iload_n 2, 1) := dk_28 (dk_at dksX1_bits_0 22 rfl rfl)
theorem dX1_bits_23 : decode cX1_bits 23 = .ok (.ireturn, 1) := dk_172 (dk_at dksX1_bits_0 23 rfl rfl)
abbrev cX1_testSet : ByteArray := prog_1_method_33_code
def yX1_testSet : MethodName := ⟨RX1, "testSet", "()I"⟩
theorem dX1_testSet_0 : decode cX1_testSet 0 = .ok (.aload_n 0, 1) := by decide +kernel
theorem dX1_testSet_1 : decode cX1_testSet 1 = .ok (.getfield 254, 3) := by decide +kernel
theorem dX1_testSet_4 : decode cX1_testSet 4 = .ok (.ireturn, 1) := by decide +kernel
abbrev cX1_shown : ByteArray := prog_1_method_34_code
def yX1_shown : MethodName := ⟨RX1, "shown", "()I"⟩
theorem dX1_shown_0 : decode cX1_shown 0 = .ok (.aload_n 0, 1) := by decide +kernel
theorem dX1_shown_1 : decode cX1_shown 1 = .ok (.getfield 261, 3) := by decide +kernel
theorem dX1_shown_4 : decode cX1_shown 4 = .ok (.ireturn, 1) := by decide +kernel
abbrev cX1_job : ByteArray := prog_1_method_35_code
def yX1_job : MethodName := ⟨RX1, "job", "()I"⟩
def dkwX1_job_2 : List UInt8 := [181, 0, 150, 2, 44, 180, 0, 170, 100, 172]
abbrev dktX1_job_2 : List UInt8 := dkwX1_job_2 ++ []
def dkwX1_job_1 : List UInt8 := [182, 1, 11, 181, 0, 57, 42, 182, 1, 14, 42, 180, 0, 57, 180, 1, 17, 172, 77, 42, 44, 180, 0, 167]
abbrev dktX1_job_1 : List UInt8 := dkwX1_job_1 ++ dktX1_job_2
def dkwX1_job_0 : List UInt8 := [42, 182, 0, 119, 60, 42, 3, 181, 0, 150, 42, 187, 1, 8, 89, 42, 180, 0, 13, 27, 183, 1, 10]
abbrev dktX1_job_0 : List UInt8 := dkwX1_job_0 ++ dktX1_job_1
theorem dksX1_job_0 : cX1_job.data.toList.drop 0 = dktX1_job_0 := by decide +kernel
theorem dksX1_job_1 : cX1_job.data.toList.drop 23 = dktX1_job_1 := dk_seg dksX1_job_0 23 rfl rfl
theorem dksX1_job_2 : cX1_job.data.toList.drop 47 = dktX1_job_2 := dk_seg dksX1_job_1 24 rfl rfl
theorem dX1_job_0 : decode cX1_job 0 = .ok (.aload_n 0, 1) := dk_42 (dk_at dksX1_job_0 0 rfl rfl)
theorem dX1_job_1 : decode cX1_job 1 = .ok (.invokevirtual 119, 3) := dk_182 0 119 (dk_at dksX1_job_0 1 rfl rfl)
theorem dX1_job_4 : decode cX1_job 4 = .ok (.istore_n 1, 1) := dk_60 (dk_at dksX1_job_0 4 rfl rfl)
theorem dX1_job_5 : decode cX1_job 5 = .ok (.aload_n 0, 1) := dk_42 (dk_at dksX1_job_0 5 rfl rfl)
theorem dX1_job_6 : decode cX1_job 6 = .ok (.iconst 0, 1) := dk_3 (dk_at dksX1_job_0 6 rfl rfl)
theorem dX1_job_7 : decode cX1_job 7 = .ok (.putfield 150, 3) := dk_181 0 150 (dk_at dksX1_job_0 7 rfl rfl)
theorem dX1_job_10 : decode cX1_job 10 = .ok (.aload_n 0, 1) := dk_42 (dk_at dksX1_job_0 10 rfl rfl)
theorem dX1_job_11 : decode cX1_job 11 = .ok (.new 264, 3) := dk_187 1 8 (dk_at dksX1_job_0 11 rfl rfl)
theorem dX1_job_14 : decode cX1_job 14 = .ok (.dup, 1) := dk_89 (dk_at dksX1_job_0 14 rfl rfl)
theorem dX1_job_15 : decode cX1_job 15 = .ok (.aload_n 0, 1) := dk_42 (dk_at dksX1_job_0 15 rfl rfl)
theorem dX1_job_16 : decode cX1_job 16 = .ok (.getfield 13, 3) := dk_180 0 13 (dk_at dksX1_job_0 16 rfl rfl)
theorem dX1_job_19 : decode cX1_job 19 = .ok (.iload_n 1, 1) := dk_27 (dk_at dksX1_job_0 19 rfl rfl)
theorem dX1_job_20 : decode cX1_job 20 = .ok (.invokespecial 266, 3) := dk_183 1 10 (dk_at dksX1_job_0 20 rfl rfl)
theorem dX1_job_23 : decode cX1_job 23 = .ok (.invokevirtual 267, 3) := dk_182 1 11 (dk_at dksX1_job_1 0 rfl rfl)
theorem dX1_job_26 : decode cX1_job 26 = .ok (.putfield 57, 3) := dk_181 0 57 (dk_at dksX1_job_1 3 rfl rfl)
theorem dX1_job_29 : decode cX1_job 29 = .ok (.aload_n 0, 1) := dk_42 (dk_at dksX1_job_1 6 rfl rfl)
theorem dX1_job_30 : decode cX1_job 30 = .ok (.invokevirtual 270, 3) := dk_182 1 14 (dk_at dksX1_job_1 7 rfl rfl)
theorem dX1_job_33 : decode cX1_job 33 = .ok (.aload_n 0, 1) := dk_42 (dk_at dksX1_job_1 10 rfl rfl)
theorem dX1_job_34 : decode cX1_job 34 = .ok (.getfield 57, 3) := dk_180 0 57 (dk_at dksX1_job_1 11 rfl rfl)
theorem dX1_job_37 : decode cX1_job 37 = .ok (.getfield 273, 3) := dk_180 1 17 (dk_at dksX1_job_1 14 rfl rfl)
theorem dX1_job_40 : decode cX1_job 40 = .ok (.ireturn, 1) := dk_172 (dk_at dksX1_job_1 17 rfl rfl)
theorem dX1_job_41 : decode cX1_job 41 = .ok (.astore_n 2, 1) := dk_77 (dk_at dksX1_job_1 18 rfl rfl)
theorem dX1_job_42 : decode cX1_job 42 = .ok (.aload_n 0, 1) := dk_42 (dk_at dksX1_job_1 19 rfl rfl)
theorem dX1_job_43 : decode cX1_job 43 = .ok (.aload_n 2, 1) := dk_44 (dk_at dksX1_job_1 20 rfl rfl)
theorem dX1_job_44 : decode cX1_job 44 = .ok (.getfield 167, 3) := dk_180 0 167 (dk_at dksX1_job_1 21 rfl rfl)
theorem dX1_job_47 : decode cX1_job 47 = .ok (.putfield 150, 3) := dk_181 0 150 (dk_at dksX1_job_2 0 rfl rfl)
theorem dX1_job_50 : decode cX1_job 50 = .ok (.iconst (-1), 1) := dk_2 (dk_at dksX1_job_2 3 rfl rfl)
theorem dX1_job_51 : decode cX1_job 51 = .ok (.aload_n 2, 1) := dk_44 (dk_at dksX1_job_2 4 rfl rfl)
theorem dX1_job_52 : decode cX1_job 52 = .ok (.getfield 170, 3) := dk_180 0 170 (dk_at dksX1_job_2 5 rfl rfl)
theorem dX1_job_55 : decode cX1_job 55 = .ok (.isub, 1) := dk_100 (dk_at dksX1_job_2 8 rfl rfl)
theorem dX1_job_56 : decode cX1_job 56 = .ok (.ireturn, 1) := dk_172 (dk_at dksX1_job_2 9 rfl rfl)
abbrev cX1_part : ByteArray := prog_1_method_36_code
def yX1_part : MethodName := ⟨RX1, "part", "()V"⟩
def dkwX1_part_7 : List UInt8 := [126, 61, 167, 255, 212, 177]
abbrev dktX1_part_7 : List UInt8 := dkwX1_part_7 ++ []
def dkwX1_part_6 : List UInt8 := [42, 89, 180, 1, 20, 4, 96, 181, 1, 20, 28, 42, 180, 0, 64, 42, 180, 1, 20, 4, 100, 46, 2, 130]
abbrev dktX1_part_6 : List UInt8 := dkwX1_part_6 ++ dktX1_part_7
def dkwX1_part_5 : List UInt8 := [181, 1, 20, 177, 27, 61, 28, 158, 0, 46, 42, 180, 0, 64, 42, 180, 1, 20, 42, 28, 182, 1, 32, 79]
abbrev dktX1_part_5 : List UInt8 := dkwX1_part_5 ++ dktX1_part_6
def dkwX1_part_4 : List UInt8 := [2, 130, 126, 46, 96, 79, 132, 2, 1, 167, 255, 178, 42, 180, 0, 61, 27, 46, 2, 160, 0, 9, 42, 2]
abbrev dktX1_part_4 : List UInt8 := dkwX1_part_4 ++ dktX1_part_5
def dkwX1_part_3 : List UInt8 := [182, 1, 32, 62, 42, 180, 0, 61, 28, 29, 154, 0, 7, 2, 167, 0, 15, 4, 42, 180, 0, 61, 28, 29]
abbrev dktX1_part_3 : List UInt8 := dkwX1_part_3 ++ dktX1_part_4
def dkwX1_part_2 : List UInt8 := [89, 42, 180, 0, 57, 183, 1, 25, 28, 182, 1, 28, 198, 0, 7, 4, 167, 0, 4, 3, 84, 42, 28]
abbrev dktX1_part_2 : List UInt8 := dkwX1_part_2 ++ dktX1_part_3
def dkwX1_part_1 : List UInt8 := [4, 61, 28, 27, 163, 0, 79, 42, 180, 0, 67, 28, 28, 133, 184, 1, 1, 7, 163, 0, 25, 187, 1, 23]
abbrev dktX1_part_1 : List UInt8 := dkwX1_part_1 ++ dktX1_part_2
def dkwX1_part_0 : List UInt8 := [4, 42, 180, 0, 57, 180, 1, 17, 120, 4, 100, 60, 42, 3, 181, 1, 20, 42, 180, 0, 61, 3, 3, 79]
abbrev dktX1_part_0 : List UInt8 := dkwX1_part_0 ++ dktX1_part_1
theorem dksX1_part_0 : cX1_part.data.toList.drop 0 = dktX1_part_0 := by decide +kernel
theorem dksX1_part_1 : cX1_part.data.toList.drop 24 = dktX1_part_1 := dk_seg dksX1_part_0 24 rfl rfl
theorem dksX1_part_2 : cX1_part.data.toList.drop 48 = dktX1_part_2 := dk_seg dksX1_part_1 24 rfl rfl
theorem dksX1_part_3 : cX1_part.data.toList.drop 71 = dktX1_part_3 := dk_seg dksX1_part_2 23 rfl rfl
theorem dksX1_part_4 : cX1_part.data.toList.drop 95 = dktX1_part_4 := dk_seg dksX1_part_3 24 rfl rfl
theorem dksX1_part_5 : cX1_part.data.toList.drop 119 = dktX1_part_5 := dk_seg dksX1_part_4 24 rfl rfl
theorem dksX1_part_6 : cX1_part.data.toList.drop 143 = dktX1_part_6 := dk_seg dksX1_part_5 24 rfl rfl
theorem dksX1_part_7 : cX1_part.data.toList.drop 167 = dktX1_part_7 := dk_seg dksX1_part_6 24 rfl rfl
theorem dX1_part_0 : decode cX1_part 0 = .ok (.iconst 1, 1) := dk_4 (dk_at dksX1_part_0 0 rfl rfl)
theorem dX1_part_1 : decode cX1_part 1 = .ok (.aload_n 0, 1) := dk_42 (dk_at dksX1_part_0 1 rfl rfl)
theorem dX1_part_2 : decode cX1_part 2 = .ok (.getfield 57, 3) := dk_180 0 57 (dk_at dksX1_part_0 2 rfl rfl)
theorem dX1_part_5 : decode cX1_part 5 = .ok (.getfield 273, 3) := dk_180 1 17 (dk_at dksX1_part_0 5 rfl rfl)
theorem dX1_part_8 : decode cX1_part 8 = .ok (.ishl, 1) := dk_120 (dk_at dksX1_part_0 8 rfl rfl)
theorem dX1_part_9 : decode cX1_part 9 = .ok (.iconst 1, 1) := dk_4 (dk_at dksX1_part_0 9 rfl rfl)
theorem dX1_part_10 : decode cX1_part 10 = .ok (.isub, 1) := dk_100 (dk_at dksX1_part_0 10 rfl rfl)
theorem dX1_part_11 : decode cX1_part 11 = .ok (.istore_n 1, 1) := dk_60 (dk_at dksX1_part_0 11 rfl rfl)
theorem dX1_part_12 : decode cX1_part 12 = .ok (.aload_n 0, 1) := dk_42 (dk_at dksX1_part_0 12 rfl rfl)
theorem dX1_part_13 : decode cX1_part 13 = .ok (.iconst 0, 1) := dk_3 (dk_at dksX1_part_0 13 rfl rfl)
theorem dX1_part_14 : decode cX1_part 14 = .ok (.putfield 276, 3) := dk_181 1 20 (dk_at dksX1_part_0 14 rfl rfl)
theorem dX1_part_17 : decode cX1_part 17 = .ok (.aload_n 0, 1) := dk_42 (dk_at dksX1_part_0 17 rfl rfl)
theorem dX1_part_18 : decode cX1_part 18 = .ok (.getfield 61, 3) := dk_180 0 61 (dk_at dksX1_part_0 18 rfl rfl)
theorem dX1_part_21 : decode cX1_part 21 = .ok (.iconst 0, 1) := dk_3 (dk_at dksX1_part_0 21 rfl rfl)
theorem dX1_part_22 : decode cX1_part 22 = .ok (.iconst 0, 1) := dk_3 (dk_at dksX1_part_0 22 rfl rfl)
theorem dX1_part_23 : decode cX1_part 23 = .ok (.iastore, 1) := dk_79 (dk_at dksX1_part_0 23 rfl rfl)
theorem dX1_part_24 : decode cX1_part 24 = .ok (.iconst 1, 1) := dk_4 (dk_at dksX1_part_1 0 rfl rfl)
theorem dX1_part_25 : decode cX1_part 25 = .ok (.istore_n 2, 1) := dk_61 (dk_at dksX1_part_1 1 rfl rfl)
theorem dX1_part_26 : decode cX1_part 26 = .ok (.iload_n 2, 1) := dk_28 (dk_at dksX1_part_1 2 rfl rfl)
theorem dX1_part_27 : decode cX1_part 27 = .ok (.iload_n 1, 1) := dk_27 (dk_at dksX1_part_1 3 rfl rfl)
theorem dX1_part_28 : decode cX1_part 28 = .ok (.if_icmp .gt 79, 3) := dk_163 0 79 (dk_at dksX1_part_1 4 rfl rfl)
theorem dX1_part_31 : decode cX1_part 31 = .ok (.aload_n 0, 1) := dk_42 (dk_at dksX1_part_1 7 rfl rfl)
theorem dX1_part_32 : decode cX1_part 32 = .ok (.getfield 67, 3) := dk_180 0 67 (dk_at dksX1_part_1 8 rfl rfl)
theorem dX1_part_35 : decode cX1_part 35 = .ok (.iload_n 2, 1) := dk_28 (dk_at dksX1_part_1 11 rfl rfl)
theorem dX1_part_36 : decode cX1_part 36 = .ok (.iload_n 2, 1) := dk_28 (dk_at dksX1_part_1 12 rfl rfl)
theorem dX1_part_37 : decode cX1_part 37 = .ok (.i2l, 1) := dk_133 (dk_at dksX1_part_1 13 rfl rfl)
theorem dX1_part_38 : decode cX1_part 38 = .ok (.invokestatic 257, 3) := dk_184 1 1 (dk_at dksX1_part_1 14 rfl rfl)
theorem dX1_part_41 : decode cX1_part 41 = .ok (.iconst 4, 1) := dk_7 (dk_at dksX1_part_1 17 rfl rfl)
theorem dX1_part_42 : decode cX1_part 42 = .ok (.if_icmp .gt 25, 3) := dk_163 0 25 (dk_at dksX1_part_1 18 rfl rfl)
theorem dX1_part_45 : decode cX1_part 45 = .ok (.new 279, 3) := dk_187 1 23 (dk_at dksX1_part_1 21 rfl rfl)
theorem dX1_part_48 : decode cX1_part 48 = .ok (.dup, 1) := dk_89 (dk_at dksX1_part_2 0 rfl rfl)
theorem dX1_part_49 : decode cX1_part 49 = .ok (.aload_n 0, 1) := dk_42 (dk_at dksX1_part_2 1 rfl rfl)
theorem dX1_part_50 : decode cX1_part 50 = .ok (.getfield 57, 3) := dk_180 0 57 (dk_at dksX1_part_2 2 rfl rfl)
theorem dX1_part_53 : decode cX1_part 53 = .ok (.invokespecial 281, 3) := dk_183 1 25 (dk_at dksX1_part_2 5 rfl rfl)
theorem dX1_part_56 : decode cX1_part 56 = .ok (.iload_n 2, 1) := dk_28 (dk_at dksX1_part_2 8 rfl rfl)
theorem dX1_part_57 : decode cX1_part 57 = .ok (.invokevirtual 284, 3) := dk_182 1 28 (dk_at dksX1_part_2 9 rfl rfl)
theorem dX1_part_60 : decode cX1_part 60 = .ok (.ifnull 7, 3) := dk_198 0 7 (dk_at dksX1_part_2 12 rfl rfl)
theorem dX1_part_63 : decode cX1_part 63 = .ok (.iconst 1, 1) := dk_4 (dk_at dksX1_part_2 15 rfl rfl)
theorem dX1_part_64 : decode cX1_part 64 = .ok (.goto 4, 3) := dk_167 0 4 (dk_at dksX1_part_2 16 rfl rfl)
theorem dX1_part_67 : decode cX1_part 67 = .ok (.iconst 0, 1) := dk_3 (dk_at dksX1_part_2 19 rfl rfl)
theorem dX1_part_68 : decode cX1_part 68 = .ok (.bastore, 1) := dk_84 (dk_at dksX1_part_2 20 rfl rfl)
theorem dX1_part_69 : decode cX1_part 69 = .ok (.aload_n 0, 1) := dk_42 (dk_at dksX1_part_2 21 rfl rfl)
theorem dX1_part_70 : decode cX1_part 70 = .ok (.iload_n 2, 1) := dk_28 (dk_at dksX1_part_2 22 rfl rfl)
theorem dX1_part_71 : decode cX1_part 71 = .ok (.invokevirtual 288, 3) := dk_182 1 32 (dk_at dksX1_part_3 0 rfl rfl)
theorem dX1_part_74 : decode cX1_part 74 = .ok (.istore_n 3, 1) := dk_62 (dk_at dksX1_part_3 3 rfl rfl)
theorem dX1_part_75 : decode cX1_part 75 = .ok (.aload_n 0, 1) := dk_42 (dk_at dksX1_part_3 4 rfl rfl)
theorem dX1_part_76 : decode cX1_part 76 = .ok (.getfield 61, 3) := dk_180 0 61 (dk_at dksX1_part_3 5 rfl rfl)
theorem dX1_part_79 : decode cX1_part 79 = .ok (.iload_n 2, 1) := dk_28 (dk_at dksX1_part_3 8 rfl rfl)
theorem dX1_part_80 : decode cX1_part 80 = .ok (.iload_n 3, 1) := dk_29 (dk_at dksX1_part_3 9 rfl rfl)
theorem dX1_part_81 : decode cX1_part 81 = .ok (.ifCond .ne 7, 3) := dk_154 0 7 (dk_at dksX1_part_3 10 rfl rfl)
theorem dX1_part_84 : decode cX1_part 84 = .ok (.iconst (-1), 1) := dk_2 (dk_at dksX1_part_3 13 rfl rfl)
theorem dX1_part_85 : decode cX1_part 85 = .ok (.goto 15, 3) := dk_167 0 15 (dk_at dksX1_part_3 14 rfl rfl)
theorem dX1_part_88 : decode cX1_part 88 = .ok (.iconst 1, 1) := dk_4 (dk_at dksX1_part_3 17 rfl rfl)
theorem dX1_part_89 : decode cX1_part 89 = .ok (.aload_n 0, 1) := dk_42 (dk_at dksX1_part_3 18 rfl rfl)
theorem dX1_part_90 : decode cX1_part 90 = .ok (.getfield 61, 3) := dk_180 0 61 (dk_at dksX1_part_3 19 rfl rfl)
theorem dX1_part_93 : decode cX1_part 93 = .ok (.iload_n 2, 1) := dk_28 (dk_at dksX1_part_3 22 rfl rfl)
theorem dX1_part_94 : decode cX1_part 94 = .ok (.iload_n 3, 1) := dk_29 (dk_at dksX1_part_3 23 rfl rfl)
theorem dX1_part_95 : decode cX1_part 95 = .ok (.iconst (-1), 1) := dk_2 (dk_at dksX1_part_4 0 rfl rfl)
theorem dX1_part_96 : decode cX1_part 96 = .ok (.ixor, 1) := dk_130 (dk_at dksX1_part_4 1 rfl rfl)
theorem dX1_part_97 : decode cX1_part 97 = .ok (.iand, 1) := dk_126 (dk_at dksX1_part_4 2 rfl rfl)
theorem dX1_part_98 : decode cX1_part 98 = .ok (.iaload, 1) := dk_46 (dk_at dksX1_part_4 3 rfl rfl)
theorem dX1_part_99 : decode cX1_part 99 = .ok (.iadd, 1) := dk_96 (dk_at dksX1_part_4 4 rfl rfl)
theorem dX1_part_100 : decode cX1_part 100 = .ok (.iastore, 1) := dk_79 (dk_at dksX1_part_4 5 rfl rfl)
theorem dX1_part_101 : decode cX1_part 101 = .ok (.iinc 2 1, 3) := dk_132 2 1 (dk_at dksX1_part_4 6 rfl rfl)
theorem dX1_part_104 : decode cX1_part 104 = .ok (.goto (-78), 3) := dk_167 255 178 (dk_at dksX1_part_4 9 rfl rfl)
theorem dX1_part_107 : decode cX1_part 107 = .ok (.aload_n 0, 1) := dk_42 (dk_at dksX1_part_4 12 rfl rfl)
theorem dX1_part_108 : decode cX1_part 108 = .ok (.getfield 61, 3) := dk_180 0 61 (dk_at dksX1_part_4 13 rfl rfl)
theorem dX1_part_111 : decode cX1_part 111 = .ok (.iload_n 1, 1) := dk_27 (dk_at dksX1_part_4 16 rfl rfl)
theorem dX1_part_112 : decode cX1_part 112 = .ok (.iaload, 1) := dk_46 (dk_at dksX1_part_4 17 rfl rfl)
theorem dX1_part_113 : decode cX1_part 113 = .ok (.iconst (-1), 1) := dk_2 (dk_at dksX1_part_4 18 rfl rfl)
theorem dX1_part_114 : decode cX1_part 114 = .ok (.if_icmp .ne 9, 3) := dk_160 0 9 (dk_at dksX1_part_4 19 rfl rfl)
theorem dX1_part_117 : decode cX1_part 117 = .ok (.aload_n 0, 1) := dk_42 (dk_at dksX1_part_4 22 rfl rfl)
theorem dX1_part_118 : decode cX1_part 118 = .ok (.iconst (-1), 1) := dk_2 (dk_at dksX1_part_4 23 rfl rfl)
theorem dX1_part_119 : decode cX1_part 119 = .ok (.putfield 276, 3) := dk_181 1 20 (dk_at dksX1_part_5 0 rfl rfl)
theorem dX1_part_122 : decode cX1_part 122 = .ok (.return_, 1) := dk_177 (dk_at dksX1_part_5 3 rfl rfl)
theorem dX1_part_123 : decode cX1_part 123 = .ok (.iload_n 1, 1) := dk_27 (dk_at dksX1_part_5 4 rfl rfl)
theorem dX1_part_124 : decode cX1_part 124 = .ok (.istore_n 2, 1) := dk_61 (dk_at dksX1_part_5 5 rfl rfl)
theorem dX1_part_125 : decode cX1_part 125 = .ok (.iload_n 2, 1) := dk_28 (dk_at dksX1_part_5 6 rfl rfl)
theorem dX1_part_126 : decode cX1_part 126 = .ok (.ifCond .le 46, 3) := dk_158 0 46 (dk_at dksX1_part_5 7 rfl rfl)
theorem dX1_part_129 : decode cX1_part 129 = .ok (.aload_n 0, 1) := dk_42 (dk_at dksX1_part_5 10 rfl rfl)
theorem dX1_part_130 : decode cX1_part 130 = .ok (.getfield 64, 3) := dk_180 0 64 (dk_at dksX1_part_5 11 rfl rfl)
theorem dX1_part_133 : decode cX1_part 133 = .ok (.aload_n 0, 1) := dk_42 (dk_at dksX1_part_5 14 rfl rfl)
theorem dX1_part_134 : decode cX1_part 134 = .ok (.getfield 276, 3) := dk_180 1 20 (dk_at dksX1_part_5 15 rfl rfl)
theorem dX1_part_137 : decode cX1_part 137 = .ok (.aload_n 0, 1) := dk_42 (dk_at dksX1_part_5 18 rfl rfl)
theorem dX1_part_138 : decode cX1_part 138 = .ok (.iload_n 2, 1) := dk_28 (dk_at dksX1_part_5 19 rfl rfl)
theorem dX1_part_139 : decode cX1_part 139 = .ok (.invokevirtual 288, 3) := dk_182 1 32 (dk_at dksX1_part_5 20 rfl rfl)
theorem dX1_part_142 : decode cX1_part 142 = .ok (.iastore, 1) := dk_79 (dk_at dksX1_part_5 23 rfl rfl)
theorem dX1_part_143 : decode cX1_part 143 = .ok (.aload_n 0, 1) := dk_42 (dk_at dksX1_part_6 0 rfl rfl)
theorem dX1_part_144 : decode cX1_part 144 = .ok (.dup, 1) := dk_89 (dk_at dksX1_part_6 1 rfl rfl)
theorem dX1_part_145 : decode cX1_part 145 = .ok (.getfield 276, 3) := dk_180 1 20 (dk_at dksX1_part_6 2 rfl rfl)
theorem dX1_part_148 : decode cX1_part 148 = .ok (.iconst 1, 1) := dk_4 (dk_at dksX1_part_6 5 rfl rfl)
theorem dX1_part_149 : decode cX1_part 149 = .ok (.iadd, 1) := dk_96 (dk_at dksX1_part_6 6 rfl rfl)
theorem dX1_part_150 : decode cX1_part 150 = .ok (.putfield 276, 3) := dk_181 1 20 (dk_at dksX1_part_6 7 rfl rfl)
theorem dX1_part_153 : decode cX1_part 153 = .ok (.iload_n 2, 1) := dk_28 (dk_at dksX1_part_6 10 rfl rfl)
theorem dX1_part_154 : decode cX1_part 154 = .ok (.aload_n 0, 1) := dk_42 (dk_at dksX1_part_6 11 rfl rfl)
theorem dX1_part_155 : decode cX1_part 155 = .ok (.getfield 64, 3) := dk_180 0 64 (dk_at dksX1_part_6 12 rfl rfl)
theorem dX1_part_158 : decode cX1_part 158 = .ok (.aload_n 0, 1) := dk_42 (dk_at dksX1_part_6 15 rfl rfl)
theorem dX1_part_159 : decode cX1_part 159 = .ok (.getfield 276, 3) := dk_180 1 20 (dk_at dksX1_part_6 16 rfl rfl)
theorem dX1_part_162 : decode cX1_part 162 = .ok (.iconst 1, 1) := dk_4 (dk_at dksX1_part_6 19 rfl rfl)
theorem dX1_part_163 : decode cX1_part 163 = .ok (.isub, 1) := dk_100 (dk_at dksX1_part_6 20 rfl rfl)
theorem dX1_part_164 : decode cX1_part 164 = .ok (.iaload, 1) := dk_46 (dk_at dksX1_part_6 21 rfl rfl)
theorem dX1_part_165 : decode cX1_part 165 = .ok (.iconst (-1), 1) := dk_2 (dk_at dksX1_part_6 22 rfl rfl)
theorem dX1_part_166 : decode cX1_part 166 = .ok (.ixor, 1) := dk_130 (dk_at dksX1_part_6 23 rfl rfl)
theorem dX1_part_167 : decode cX1_part 167 = .ok (.iand, 1) := dk_126 (dk_at dksX1_part_7 0 rfl rfl)
theorem dX1_part_168 : decode cX1_part 168 = .ok (.istore_n 2, 1) := dk_61 (dk_at dksX1_part_7 1 rfl rfl)
theorem dX1_part_169 : decode cX1_part 169 = .ok (.goto (-44), 3) := dk_167 255 212 (dk_at dksX1_part_7 2 rfl rfl)
theorem dX1_part_172 : decode cX1_part 172 = .ok (.return_, 1) := dk_177 (dk_at dksX1_part_7 5 rfl rfl)
abbrev cX1_firstRun : ByteArray := prog_1_method_37_code
def yX1_firstRun : MethodName := ⟨RX1, "firstRun", "(I)I"⟩
def dkwX1_firstRun_4 : List UInt8 := [132, 4, 1, 167, 255, 172, 29, 172]
abbrev dktX1_firstRun_4 : List UInt8 := dkwX1_firstRun_4 ++ []
def dkwX1_firstRun_3 : List UInt8 := [21, 4, 2, 130, 126, 46, 42, 180, 0, 61, 27, 29, 2, 130, 126, 46, 162, 0, 6, 21, 4, 62]
abbrev dktX1_firstRun_3 : List UInt8 := dkwX1_firstRun_3 ++ dktX1_firstRun_4
def dkwX1_firstRun_2 : List UInt8 := [27, 21, 4, 2, 130, 126, 46, 2, 160, 0, 6, 167, 0, 34, 29, 153, 0, 27, 42, 180, 0, 61, 27]
abbrev dktX1_firstRun_2 : List UInt8 := dkwX1_firstRun_2 ++ dktX1_firstRun_3
def dkwX1_firstRun_1 : List UInt8 := [154, 0, 69, 21, 4, 28, 126, 153, 0, 62, 42, 180, 0, 67, 21, 4, 51, 153, 0, 52, 42, 180, 0, 61]
abbrev dktX1_firstRun_1 : List UInt8 := dkwX1_firstRun_1 ++ dktX1_firstRun_2
def dkwX1_firstRun_0 : List UInt8 := [27, 27, 116, 126, 61, 3, 62, 4, 54, 4, 21, 4, 27, 163, 0, 84, 21, 4, 27, 2, 130, 126]
abbrev dktX1_firstRun_0 : List UInt8 := dkwX1_firstRun_0 ++ dktX1_firstRun_1
theorem dksX1_firstRun_0 : cX1_firstRun.data.toList.drop 0 = dktX1_firstRun_0 := by decide +kernel
theorem dksX1_firstRun_1 : cX1_firstRun.data.toList.drop 22 = dktX1_firstRun_1 := dk_seg dksX1_firstRun_0 22 rfl rfl
theorem dksX1_firstRun_2 : cX1_firstRun.data.toList.drop 46 = dktX1_firstRun_2 := dk_seg dksX1_firstRun_1 24 rfl rfl
theorem dksX1_firstRun_3 : cX1_firstRun.data.toList.drop 69 = dktX1_firstRun_3 := dk_seg dksX1_firstRun_2 23 rfl rfl
theorem dksX1_firstRun_4 : cX1_firstRun.data.toList.drop 91 = dktX1_firstRun_4 := dk_seg dksX1_firstRun_3 22 rfl rfl
theorem dX1_firstRun_0 : decode cX1_firstRun 0 = .ok (.iload_n 1, 1) := dk_27 (dk_at dksX1_firstRun_0 0 rfl rfl)
theorem dX1_firstRun_1 : decode cX1_firstRun 1 = .ok (.iload_n 1, 1) := dk_27 (dk_at dksX1_firstRun_0 1 rfl rfl)
theorem dX1_firstRun_2 : decode cX1_firstRun 2 = .ok (.ineg, 1) := dk_116 (dk_at dksX1_firstRun_0 2 rfl rfl)
theorem dX1_firstRun_3 : decode cX1_firstRun 3 = .ok (.iand, 1) := dk_126 (dk_at dksX1_firstRun_0 3 rfl rfl)
theorem dX1_firstRun_4 : decode cX1_firstRun 4 = .ok (.istore_n 2, 1) := dk_61 (dk_at dksX1_firstRun_0 4 rfl rfl)
theorem dX1_firstRun_5 : decode cX1_firstRun 5 = .ok (.iconst 0, 1) := dk_3 (dk_at dksX1_firstRun_0 5 rfl rfl)
theorem dX1_firstRun_6 : decode cX1_firstRun 6 = .ok (.istore_n 3, 1) := dk_62 (dk_at dksX1_firstRun_0 6 rfl rfl)
theorem dX1_firstRun_7 : decode cX1_firstRun 7 = .ok (.iconst 1, 1) := dk_4 (dk_at dksX1_firstRun_0 7 rfl rfl)
theorem dX1_firstRun_8 : decode cX1_firstRun 8 = .ok (.istore 4, 2) := dk_54 4 (dk_at dksX1_firstRun_0 8 rfl rfl)
theorem dX1_firstRun_10 : decode cX1_firstRun 10 = .ok (.iload 4, 2) := dk_21 4 (dk_at dksX1_firstRun_0 10 rfl rfl)
theorem dX1_firstRun_12 : decode cX1_firstRun 12 = .ok (.iload_n 1, 1) := dk_27 (dk_at dksX1_firstRun_0 12 rfl rfl)
theorem dX1_firstRun_13 : decode cX1_firstRun 13 = .ok (.if_icmp .gt 84, 3) := dk_163 0 84 (dk_at dksX1_firstRun_0 13 rfl rfl)
theorem dX1_firstRun_16 : decode cX1_firstRun 16 = .ok (.iload 4, 2) := dk_21 4 (dk_at dksX1_firstRun_0 16 rfl rfl)
theorem dX1_firstRun_18 : decode cX1_firstRun 18 = .ok (.iload_n 1, 1) := dk_27 (dk_at dksX1_firstRun_0 18 rfl rfl)
theorem dX1_firstRun_19 : decode cX1_firstRun 19 = .ok (.iconst (-1), 1) := dk_2 (dk_at dksX1_firstRun_0 19 rfl rfl)
theorem dX1_firstRun_20 : decode cX1_firstRun 20 = .ok (.ixor, 1) := dk_130 (dk_at dksX1_firstRun_0 20 rfl rfl)
theorem dX1_firstRun_21 : decode cX1_firstRun 21 = .ok (.iand, 1) := dk_126 (dk_at dksX1_firstRun_0 21 rfl rfl)
theorem dX1_firstRun_22 : decode cX1_firstRun 22 = .ok (.ifCond .ne 69, 3) := dk_154 0 69 (dk_at dksX1_firstRun_1 0 rfl rfl)
theorem dX1_firstRun_25 : decode cX1_firstRun 25 = .ok (.iload 4, 2) := dk_21 4 (dk_at dksX1_firstRun_1 3 rfl rfl)
theorem dX1_firstRun_27 : decode cX1_firstRun 27 = .ok (.iload_n 2, 1) := dk_28 (dk_at dksX1_firstRun_1 5 rfl rfl)
theorem dX1_firstRun_28 : decode cX1_firstRun 28 = .ok (.iand, 1) := dk_126 (dk_at dksX1_firstRun_1 6 rfl rfl)
theorem dX1_firstRun_29 : decode cX1_firstRun 29 = .ok (.ifCond .eq 62, 3) := dk_153 0 62 (dk_at dksX1_firstRun_1 7 rfl rfl)
theorem dX1_firstRun_32 : decode cX1_firstRun 32 = .ok (.aload_n 0, 1) := dk_42 (dk_at dksX1_firstRun_1 10 rfl rfl)
theorem dX1_firstRun_33 : decode cX1_firstRun 33 = .ok (.getfield 67, 3) := dk_180 0 67 (dk_at dksX1_firstRun_1 11 rfl rfl)
theorem dX1_firstRun_36 : decode cX1_firstRun 36 = .ok (.iload 4, 2) := dk_21 4 (dk_at dksX1_firstRun_1 14 rfl rfl)
theorem dX1_firstRun_38 : decode cX1_firstRun 38 = .ok (.baload, 1) := dk_51 (dk_at dksX1_firstRun_1 16 rfl rfl)
theorem dX1_firstRun_39 : decode cX1_firstRun 39 = .ok (.ifCond .eq 52, 3) := dk_153 0 52 (dk_at dksX1_firstRun_1 17 rfl rfl)
theorem dX1_firstRun_42 : decode cX1_firstRun 42 = .ok (.aload_n 0, 1) := dk_42 (dk_at dksX1_firstRun_1 20 rfl rfl)
theorem dX1_firstRun_43 : decode cX1_firstRun 43 = .ok (.getfield 61, 3) := dk_180 0 61 (dk_at dksX1_firstRun_1 21 rfl rfl)
theorem dX1_firstRun_46 : decode cX1_firstRun 46 = .ok (.iload_n 1, 1) := dk_27 (dk_at dksX1_firstRun_2 0 rfl rfl)
theorem dX1_firstRun_47 : decode cX1_firstRun 47 = .ok (.iload 4, 2) := dk_21 4 (dk_at dksX1_firstRun_2 1 rfl rfl)
theorem dX1_firstRun_49 : decode cX1_firstRun 49 = .ok (.iconst (-1), 1) := dk_2 (dk_at dksX1_firstRun_2 3 rfl rfl)
theorem dX1_firstRun_50 : decode cX1_firstRun 50 = .ok (.ixor, 1) := dk_130 (dk_at dksX1_firstRun_2 4 rfl rfl)
theorem dX1_firstRun_51 : decode cX1_firstRun 51 = .ok (.iand, 1) := dk_126 (dk_at dksX1_firstRun_2 5 rfl rfl)
theorem dX1_firstRun_52 : decode cX1_firstRun 52 = .ok (.iaload, 1) := dk_46 (dk_at dksX1_firstRun_2 6 rfl rfl)
theorem dX1_firstRun_53 : decode cX1_firstRun 53 = .ok (.iconst (-1), 1) := dk_2 (dk_at dksX1_firstRun_2 7 rfl rfl)
theorem dX1_firstRun_54 : decode cX1_firstRun 54 = .ok (.if_icmp .ne 6, 3) := dk_160 0 6 (dk_at dksX1_firstRun_2 8 rfl rfl)
theorem dX1_firstRun_57 : decode cX1_firstRun 57 = .ok (.goto 34, 3) := dk_167 0 34 (dk_at dksX1_firstRun_2 11 rfl rfl)
theorem dX1_firstRun_60 : decode cX1_firstRun 60 = .ok (.iload_n 3, 1) := dk_29 (dk_at dksX1_firstRun_2 14 rfl rfl)
theorem dX1_firstRun_61 : decode cX1_firstRun 61 = .ok (.ifCond .eq 27, 3) := dk_153 0 27 (dk_at dksX1_firstRun_2 15 rfl rfl)
theorem dX1_firstRun_64 : decode cX1_firstRun 64 = .ok (.aload_n 0, 1) := dk_42 (dk_at dksX1_firstRun_2 18 rfl rfl)
theorem dX1_firstRun_65 : decode cX1_firstRun 65 = .ok (.getfield 61, 3) := dk_180 0 61 (dk_at dksX1_firstRun_2 19 rfl rfl)
theorem dX1_firstRun_68 : decode cX1_firstRun 68 = .ok (.iload_n 1, 1) := dk_27 (dk_at dksX1_firstRun_2 22 rfl rfl)
theorem dX1_firstRun_69 : decode cX1_firstRun 69 = .ok (.iload 4, 2) := dk_21 4 (dk_at dksX1_firstRun_3 0 rfl rfl)
theorem dX1_firstRun_71 : decode cX1_firstRun 71 = .ok (.iconst (-1), 1) := dk_2 (dk_at dksX1_firstRun_3 2 rfl rfl)
theorem dX1_firstRun_72 : decode cX1_firstRun 72 = .ok (.ixor, 1) := dk_130 (dk_at dksX1_firstRun_3 3 rfl rfl)
theorem dX1_firstRun_73 : decode cX1_firstRun 73 = .ok (.iand, 1) := dk_126 (dk_at dksX1_firstRun_3 4 rfl rfl)
theorem dX1_firstRun_74 : decode cX1_firstRun 74 = .ok (.iaload, 1) := dk_46 (dk_at dksX1_firstRun_3 5 rfl rfl)
theorem dX1_firstRun_75 : decode cX1_firstRun 75 = .ok (.aload_n 0, 1) := dk_42 (dk_at dksX1_firstRun_3 6 rfl rfl)
theorem dX1_firstRun_76 : decode cX1_firstRun 76 = .ok (.getfield 61, 3) := dk_180 0 61 (dk_at dksX1_firstRun_3 7 rfl rfl)
theorem dX1_firstRun_79 : decode cX1_firstRun 79 = .ok (.iload_n 1, 1) := dk_27 (dk_at dksX1_firstRun_3 10 rfl rfl)
theorem dX1_firstRun_80 : decode cX1_firstRun 80 = .ok (.iload_n 3, 1) := dk_29 (dk_at dksX1_firstRun_3 11 rfl rfl)
theorem dX1_firstRun_81 : decode cX1_firstRun 81 = .ok (.iconst (-1), 1) := dk_2 (dk_at dksX1_firstRun_3 12 rfl rfl)
theorem dX1_firstRun_82 : decode cX1_firstRun 82 = .ok (.ixor, 1) := dk_130 (dk_at dksX1_firstRun_3 13 rfl rfl)
theorem dX1_firstRun_83 : decode cX1_firstRun 83 = .ok (.iand, 1) := dk_126 (dk_at dksX1_firstRun_3 14 rfl rfl)
theorem dX1_firstRun_84 : decode cX1_firstRun 84 = .ok (.iaload, 1) := dk_46 (dk_at dksX1_firstRun_3 15 rfl rfl)
theorem dX1_firstRun_85 : decode cX1_firstRun 85 = .ok (.if_icmp .ge 6, 3) := dk_162 0 6 (dk_at dksX1_firstRun_3 16 rfl rfl)
theorem dX1_firstRun_88 : decode cX1_firstRun 88 = .ok (.iload 4, 2) := dk_21 4 (dk_at dksX1_firstRun_3 19 rfl rfl)
theorem dX1_firstRun_90 : decode cX1_firstRun 90 = .ok (.istore_n 3, 1) := dk_62 (dk_at dksX1_firstRun_3 21 rfl rfl)
theorem dX1_firstRun_91 : decode cX1_firstRun 91 = .ok (.iinc 4 1, 3) := dk_132 4 1 (dk_at dksX1_firstRun_4 0 rfl rfl)
theorem dX1_firstRun_94 : decode cX1_firstRun 94 = .ok (.goto (-84), 3) := dk_167 255 172 (dk_at dksX1_firstRun_4 3 rfl rfl)
theorem dX1_firstRun_97 : decode cX1_firstRun 97 = .ok (.iload_n 3, 1) := dk_29 (dk_at dksX1_firstRun_4 6 rfl rfl)
theorem dX1_firstRun_98 : decode cX1_firstRun 98 = .ok (.ireturn, 1) := dk_172 (dk_at dksX1_firstRun_4 7 rfl rfl)
abbrev cX1_runs : ByteArray := prog_1_method_38_code
def yX1_runs : MethodName := ⟨RX1, "runs", "()I"⟩
theorem dX1_runs_0 : decode cX1_runs 0 = .ok (.aload_n 0, 1) := by decide +kernel
theorem dX1_runs_1 : decode cX1_runs 1 = .ok (.getfield 276, 3) := by decide +kernel
theorem dX1_runs_4 : decode cX1_runs 4 = .ok (.ireturn, 1) := by decide +kernel
abbrev cX1_wants : ByteArray := prog_1_method_40_code
def yX1_wants : MethodName := ⟨RX1, "wants", "(I)I"⟩
def dkwX1_wants_0 : List UInt8 := [42, 27, 182, 1, 36, 153, 0, 12, 42, 180, 0, 64, 27, 46, 167, 0, 4, 2, 172]
abbrev dktX1_wants_0 : List UInt8 := dkwX1_wants_0 ++ []
theorem dksX1_wants_0 : cX1_wants.data.toList.drop 0 = dktX1_wants_0 := by decide +kernel
theorem dX1_wants_0 : decode cX1_wants 0 = .ok (.aload_n 0, 1) := dk_42 (dk_at dksX1_wants_0 0 rfl rfl)
theorem dX1_wants_1 : decode cX1_wants 1 = .ok (.iload_n 1, 1) := dk_27 (dk_at dksX1_wants_0 1 rfl rfl)
theorem dX1_wants_2 : decode cX1_wants 2 = .ok (.invokevirtual 292, 3) := dk_182 1 36 (dk_at dksX1_wants_0 2 rfl rfl)
theorem dX1_wants_5 : decode cX1_wants 5 = .ok (.ifCond .eq 12, 3) := dk_153 0 12 (dk_at dksX1_wants_0 5 rfl rfl)
theorem dX1_wants_8 : decode cX1_wants 8 = .ok (.aload_n 0, 1) := dk_42 (dk_at dksX1_wants_0 8 rfl rfl)
theorem dX1_wants_9 : decode cX1_wants 9 = .ok (.getfield 64, 3) := dk_180 0 64 (dk_at dksX1_wants_0 9 rfl rfl)
theorem dX1_wants_12 : decode cX1_wants 12 = .ok (.iload_n 1, 1) := dk_27 (dk_at dksX1_wants_0 12 rfl rfl)
theorem dX1_wants_13 : decode cX1_wants 13 = .ok (.iaload, 1) := dk_46 (dk_at dksX1_wants_0 13 rfl rfl)
theorem dX1_wants_14 : decode cX1_wants 14 = .ok (.goto 4, 3) := dk_167 0 4 (dk_at dksX1_wants_0 14 rfl rfl)
theorem dX1_wants_17 : decode cX1_wants 17 = .ok (.iconst (-1), 1) := dk_2 (dk_at dksX1_wants_0 17 rfl rfl)
theorem dX1_wants_18 : decode cX1_wants 18 = .ok (.ireturn, 1) := dk_172 (dk_at dksX1_wants_0 18 rfl rfl)
abbrev cX1_isRun : ByteArray := prog_1_method_39_code
def yX1_isRun : MethodName := ⟨RX1, "isRun", "(I)Z"⟩
def dkwX1_isRun_0 : List UInt8 := [27, 3, 42, 180, 1, 20, 4, 100, 184, 0, 3, 172]
abbrev dktX1_isRun_0 : List UInt8 := dkwX1_isRun_0 ++ []
theorem dksX1_isRun_0 : cX1_isRun.data.toList.drop 0 = dktX1_isRun_0 := by decide +kernel
theorem dX1_isRun_0 : decode cX1_isRun 0 = .ok (.iload_n 1, 1) := dk_27 (dk_at dksX1_isRun_0 0 rfl rfl)
theorem dX1_isRun_1 : decode cX1_isRun 1 = .ok (.iconst 0, 1) := dk_3 (dk_at dksX1_isRun_0 1 rfl rfl)
theorem dX1_isRun_2 : decode cX1_isRun 2 = .ok (.aload_n 0, 1) := dk_42 (dk_at dksX1_isRun_0 2 rfl rfl)
theorem dX1_isRun_3 : decode cX1_isRun 3 = .ok (.getfield 276, 3) := dk_180 1 20 (dk_at dksX1_isRun_0 3 rfl rfl)
theorem dX1_isRun_6 : decode cX1_isRun 6 = .ok (.iconst 1, 1) := dk_4 (dk_at dksX1_isRun_0 6 rfl rfl)
theorem dX1_isRun_7 : decode cX1_isRun 7 = .ok (.isub, 1) := dk_100 (dk_at dksX1_isRun_0 7 rfl rfl)
theorem dX1_isRun_8 : decode cX1_isRun 8 = .ok (.invokestatic 3, 3) := dk_184 0 3 (dk_at dksX1_isRun_0 8 rfl rfl)
theorem dX1_isRun_11 : decode cX1_isRun 11 = .ok (.ireturn, 1) := dk_172 (dk_at dksX1_isRun_0 11 rfl rfl)
abbrev cX1_make : ByteArray := prog_1_method_41_code
def yX1_make : MethodName := ⟨RX1, "make", "(I)I"⟩
def dkwX1_make_1 : List UInt8 := [180, 0, 64, 27, 46, 182, 1, 28, 181, 0, 26, 42, 180, 0, 26, 180, 0, 162, 172]
abbrev dktX1_make_1 : List UInt8 := dkwX1_make_1 ++ []
def dkwX1_make_0 : List UInt8 := [42, 27, 182, 1, 36, 154, 0, 5, 2, 172, 42, 187, 1, 23, 89, 42, 180, 0, 57, 183, 1, 25, 42]
abbrev dktX1_make_0 : List UInt8 := dkwX1_make_0 ++ dktX1_make_1
theorem dksX1_make_0 : cX1_make.data.toList.drop 0 = dktX1_make_0 := by decide +kernel
theorem dksX1_make_1 : cX1_make.data.toList.drop 23 = dktX1_make_1 := dk_seg dksX1_make_0 23 rfl rfl
theorem dX1_make_0 : decode cX1_make 0 = .ok (.aload_n 0, 1) := dk_42 (dk_at dksX1_make_0 0 rfl rfl)
theorem dX1_make_1 : decode cX1_make 1 = .ok (.iload_n 1, 1) := dk_27 (dk_at dksX1_make_0 1 rfl rfl)
theorem dX1_make_2 : decode cX1_make 2 = .ok (.invokevirtual 292, 3) := dk_182 1 36 (dk_at dksX1_make_0 2 rfl rfl)
theorem dX1_make_5 : decode cX1_make 5 = .ok (.ifCond .ne 5, 3) := dk_154 0 5 (dk_at dksX1_make_0 5 rfl rfl)
theorem dX1_make_8 : decode cX1_make 8 = .ok (.iconst (-1), 1) := dk_2 (dk_at dksX1_make_0 8 rfl rfl)
theorem dX1_make_9 : decode cX1_make 9 = .ok (.ireturn, 1) := dk_172 (dk_at dksX1_make_0 9 rfl rfl)
theorem dX1_make_10 : decode cX1_make 10 = .ok (.aload_n 0, 1) := dk_42 (dk_at dksX1_make_0 10 rfl rfl)
theorem dX1_make_11 : decode cX1_make 11 = .ok (.new 279, 3) := dk_187 1 23 (dk_at dksX1_make_0 11 rfl rfl)
theorem dX1_make_14 : decode cX1_make 14 = .ok (.dup, 1) := dk_89 (dk_at dksX1_make_0 14 rfl rfl)
theorem dX1_make_15 : decode cX1_make 15 = .ok (.aload_n 0, 1) := dk_42 (dk_at dksX1_make_0 15 rfl rfl)
theorem dX1_make_16 : decode cX1_make 16 = .ok (.getfield 57, 3) := dk_180 0 57 (dk_at dksX1_make_0 16 rfl rfl)
theorem dX1_make_19 : decode cX1_make 19 = .ok (.invokespecial 281, 3) := dk_183 1 25 (dk_at dksX1_make_0 19 rfl rfl)
theorem dX1_make_22 : decode cX1_make 22 = .ok (.aload_n 0, 1) := dk_42 (dk_at dksX1_make_0 22 rfl rfl)
theorem dX1_make_23 : decode cX1_make 23 = .ok (.getfield 64, 3) := dk_180 0 64 (dk_at dksX1_make_1 0 rfl rfl)
theorem dX1_make_26 : decode cX1_make 26 = .ok (.iload_n 1, 1) := dk_27 (dk_at dksX1_make_1 3 rfl rfl)
theorem dX1_make_27 : decode cX1_make 27 = .ok (.iaload, 1) := dk_46 (dk_at dksX1_make_1 4 rfl rfl)
theorem dX1_make_28 : decode cX1_make 28 = .ok (.invokevirtual 284, 3) := dk_182 1 28 (dk_at dksX1_make_1 5 rfl rfl)
theorem dX1_make_31 : decode cX1_make 31 = .ok (.putfield 26, 3) := dk_181 0 26 (dk_at dksX1_make_1 8 rfl rfl)
theorem dX1_make_34 : decode cX1_make 34 = .ok (.aload_n 0, 1) := dk_42 (dk_at dksX1_make_1 11 rfl rfl)
theorem dX1_make_35 : decode cX1_make 35 = .ok (.getfield 26, 3) := dk_180 0 26 (dk_at dksX1_make_1 12 rfl rfl)
theorem dX1_make_38 : decode cX1_make 38 = .ok (.getfield 162, 3) := dk_180 0 162 (dk_at dksX1_make_1 15 rfl rfl)
theorem dX1_make_41 : decode cX1_make 41 = .ok (.ireturn, 1) := dk_172 (dk_at dksX1_make_1 18 rfl rfl)
abbrev cX1_wanted : ByteArray := prog_1_method_44_code
def yX1_wanted : MethodName := ⟨RX1, "wanted", "(II)I"⟩
def dkwX1_wanted_2 : List UInt8 := [42, 180, 0, 74, 172]
abbrev dktX1_wanted_2 : List UInt8 := dkwX1_wanted_2 ++ []
def dkwX1_wanted_1 : List UInt8 := [28, 42, 180, 0, 71, 182, 1, 71, 42, 16, 60, 42, 180, 0, 71, 180, 0, 196, 184, 0, 248, 181, 0, 74]
abbrev dktX1_wanted_1 : List UInt8 := dkwX1_wanted_1 ++ dktX1_wanted_2
def dkwX1_wanted_0 : List UInt8 := [27, 184, 0, 123, 153, 0, 11, 42, 28, 182, 1, 36, 154, 0, 5, 2, 172, 42, 42, 180, 0, 19, 27, 50]
abbrev dktX1_wanted_0 : List UInt8 := dkwX1_wanted_0 ++ dktX1_wanted_1
theorem dksX1_wanted_0 : cX1_wanted.data.toList.drop 0 = dktX1_wanted_0 := by decide +kernel
theorem dksX1_wanted_1 : cX1_wanted.data.toList.drop 24 = dktX1_wanted_1 := dk_seg dksX1_wanted_0 24 rfl rfl
theorem dksX1_wanted_2 : cX1_wanted.data.toList.drop 48 = dktX1_wanted_2 := dk_seg dksX1_wanted_1 24 rfl rfl
theorem dX1_wanted_0 : decode cX1_wanted 0 = .ok (.iload_n 1, 1) := dk_27 (dk_at dksX1_wanted_0 0 rfl rfl)
theorem dX1_wanted_1 : decode cX1_wanted 1 = .ok (.invokestatic 123, 3) := dk_184 0 123 (dk_at dksX1_wanted_0 1 rfl rfl)
theorem dX1_wanted_4 : decode cX1_wanted 4 = .ok (.ifCond .eq 11, 3) := dk_153 0 11 (dk_at dksX1_wanted_0 4 rfl rfl)
theorem dX1_wanted_7 : decode cX1_wanted 7 = .ok (.aload_n 0, 1) := dk_42 (dk_at dksX1_wanted_0 7 rfl rfl)
theorem dX1_wanted_8 : decode cX1_wanted 8 = .ok (.iload_n 2, 1) := dk_28 (dk_at dksX1_wanted_0 8 rfl rfl)
theorem dX1_wanted_9 : decode cX1_wanted 9 = .ok (.invokevirtual 292, 3) := dk_182 1 36 (dk_at dksX1_wanted_0 9 rfl rfl)
theorem dX1_wanted_12 : decode cX1_wanted 12 = .ok (.ifCond .ne 5, 3) := dk_154 0 5 (dk_at dksX1_wanted_0 12 rfl rfl)
theorem dX1_wanted_15 : decode cX1_wanted 15 = .ok (.iconst (-1), 1) := dk_2 (dk_at dksX1_wanted_0 15 rfl rfl)
theorem dX1_wanted_16 : decode cX1_wanted 16 = .ok (.ireturn, 1) := dk_172 (dk_at dksX1_wanted_0 16 rfl rfl)
theorem dX1_wanted_17 : decode cX1_wanted 17 = .ok (.aload_n 0, 1) := dk_42 (dk_at dksX1_wanted_0 17 rfl rfl)
theorem dX1_wanted_18 : decode cX1_wanted 18 = .ok (.aload_n 0, 1) := dk_42 (dk_at dksX1_wanted_0 18 rfl rfl)
theorem dX1_wanted_19 : decode cX1_wanted 19 = .ok (.getfield 19, 3) := dk_180 0 19 (dk_at dksX1_wanted_0 19 rfl rfl)
theorem dX1_wanted_22 : decode cX1_wanted 22 = .ok (.iload_n 1, 1) := dk_27 (dk_at dksX1_wanted_0 22 rfl rfl)
theorem dX1_wanted_23 : decode cX1_wanted 23 = .ok (.aaload, 1) := dk_50 (dk_at dksX1_wanted_0 23 rfl rfl)
theorem dX1_wanted_24 : decode cX1_wanted 24 = .ok (.iload_n 2, 1) := dk_28 (dk_at dksX1_wanted_1 0 rfl rfl)
theorem dX1_wanted_25 : decode cX1_wanted 25 = .ok (.aload_n 0, 1) := dk_42 (dk_at dksX1_wanted_1 1 rfl rfl)
theorem dX1_wanted_26 : decode cX1_wanted 26 = .ok (.getfield 71, 3) := dk_180 0 71 (dk_at dksX1_wanted_1 2 rfl rfl)
theorem dX1_wanted_29 : decode cX1_wanted 29 = .ok (.invokevirtual 327, 3) := dk_182 1 71 (dk_at dksX1_wanted_1 5 rfl rfl)
theorem dX1_wanted_32 : decode cX1_wanted 32 = .ok (.aload_n 0, 1) := dk_42 (dk_at dksX1_wanted_1 8 rfl rfl)
theorem dX1_wanted_33 : decode cX1_wanted 33 = .ok (.bipush 60, 2) := dk_16 60 (dk_at dksX1_wanted_1 9 rfl rfl)
theorem dX1_wanted_35 : decode cX1_wanted 35 = .ok (.aload_n 0, 1) := dk_42 (dk_at dksX1_wanted_1 11 rfl rfl)
theorem dX1_wanted_36 : decode cX1_wanted 36 = .ok (.getfield 71, 3) := dk_180 0 71 (dk_at dksX1_wanted_1 12 rfl rfl)
theorem dX1_wanted_39 : decode cX1_wanted 39 = .ok (.getfield 196, 3) := dk_180 0 196 (dk_at dksX1_wanted_1 15 rfl rfl)
theorem dX1_wanted_42 : decode cX1_wanted 42 = .ok (.invokestatic 248, 3) := dk_184 0 248 (dk_at dksX1_wanted_1 18 rfl rfl)
theorem dX1_wanted_45 : decode cX1_wanted 45 = .ok (.putfield 74, 3) := dk_181 0 74 (dk_at dksX1_wanted_1 21 rfl rfl)
theorem dX1_wanted_48 : decode cX1_wanted 48 = .ok (.aload_n 0, 1) := dk_42 (dk_at dksX1_wanted_2 0 rfl rfl)
theorem dX1_wanted_49 : decode cX1_wanted 49 = .ok (.getfield 74, 3) := dk_180 0 74 (dk_at dksX1_wanted_2 1 rfl rfl)
theorem dX1_wanted_52 : decode cX1_wanted 52 = .ok (.ireturn, 1) := dk_172 (dk_at dksX1_wanted_2 4 rfl rfl)
abbrev cX1_want : ByteArray := prog_1_method_42_code
def yX1_want : MethodName := ⟨RX1, "want", "(LPlugHall$Box;ILPlugHall$Outcome;)V"⟩
def dkwX1_want_6 : List UInt8 := [132, 5, 1, 167, 255, 126, 177]
abbrev dktX1_want_6 : List UInt8 := dkwX1_want_6 ++ []
def dkwX1_want_5 : List UInt8 := [21, 7, 21, 6, 163, 0, 19, 42, 21, 7, 28, 25, 4, 45, 182, 1, 48, 132, 7, 1, 167, 255, 236]
abbrev dktX1_want_5 : List UInt8 := dkwX1_want_5 ++ dktX1_want_6
def dkwX1_want_4 : List UInt8 := [162, 0, 15, 43, 180, 0, 133, 21, 5, 4, 96, 50, 167, 0, 4, 1, 182, 1, 44, 54, 6, 4, 54, 7]
abbrev dktX1_want_4 : List UInt8 := dkwX1_want_4 ++ dktX1_want_5
def dkwX1_want_3 : List UInt8 := [167, 255, 210, 42, 180, 0, 57, 43, 180, 0, 133, 21, 5, 50, 21, 5, 4, 96, 43, 180, 0, 127]
abbrev dktX1_want_3 : List UInt8 := dkwX1_want_3 ++ dktX1_want_4
def dkwX1_want_2 : List UInt8 := [180, 0, 57, 21, 6, 43, 180, 0, 133, 21, 5, 50, 182, 1, 39, 96, 19, 1, 43, 112, 79, 132, 6, 1]
abbrev dktX1_want_2 : List UInt8 := dkwX1_want_2 ++ dktX1_want_3
def dkwX1_want_1 : List UInt8 := [54, 6, 21, 6, 42, 180, 0, 57, 180, 1, 17, 162, 0, 40, 25, 4, 21, 6, 25, 4, 21, 6, 46, 42]
abbrev dktX1_want_1 : List UInt8 := dkwX1_want_1 ++ dktX1_want_2
def dkwX1_want_0 : List UInt8 := [45, 182, 0, 236, 16, 8, 188, 10, 58, 4, 3, 54, 5, 21, 5, 43, 180, 0, 127, 162, 0, 127, 3]
abbrev dktX1_want_0 : List UInt8 := dkwX1_want_0 ++ dktX1_want_1
theorem dksX1_want_0 : cX1_want.data.toList.drop 0 = dktX1_want_0 := by decide +kernel
theorem dksX1_want_1 : cX1_want.data.toList.drop 23 = dktX1_want_1 := dk_seg dksX1_want_0 23 rfl rfl
theorem dksX1_want_2 : cX1_want.data.toList.drop 47 = dktX1_want_2 := dk_seg dksX1_want_1 24 rfl rfl
theorem dksX1_want_3 : cX1_want.data.toList.drop 71 = dktX1_want_3 := dk_seg dksX1_want_2 24 rfl rfl
theorem dksX1_want_4 : cX1_want.data.toList.drop 93 = dktX1_want_4 := dk_seg dksX1_want_3 22 rfl rfl
theorem dksX1_want_5 : cX1_want.data.toList.drop 117 = dktX1_want_5 := dk_seg dksX1_want_4 24 rfl rfl
theorem dksX1_want_6 : cX1_want.data.toList.drop 140 = dktX1_want_6 := dk_seg dksX1_want_5 23 rfl rfl
theorem dX1_want_0 : decode cX1_want 0 = .ok (.aload_n 3, 1) := dk_45 (dk_at dksX1_want_0 0 rfl rfl)
theorem dX1_want_1 : decode cX1_want 1 = .ok (.invokevirtual 236, 3) := dk_182 0 236 (dk_at dksX1_want_0 1 rfl rfl)
theorem dX1_want_4 : decode cX1_want 4 = .ok (.bipush 8, 2) := dk_16 8 (dk_at dksX1_want_0 4 rfl rfl)
theorem dX1_want_6 : decode cX1_want 6 = .ok (.newarray .int, 2) := dk_188_10 (dk_at dksX1_want_0 6 rfl rfl)
theorem dX1_want_8 : decode cX1_want 8 = .ok (.astore 4, 2) := dk_58 4 (dk_at dksX1_want_0 8 rfl rfl)
theorem dX1_want_10 : decode cX1_want 10 = .ok (.iconst 0, 1) := dk_3 (dk_at dksX1_want_0 10 rfl rfl)
theorem dX1_want_11 : decode cX1_want 11 = .ok (.istore 5, 2) := dk_54 5 (dk_at dksX1_want_0 11 rfl rfl)
theorem dX1_want_13 : decode cX1_want 13 = .ok (.iload 5, 2) := dk_21 5 (dk_at dksX1_want_0 13 rfl rfl)
theorem dX1_want_15 : decode cX1_want 15 = .ok (.aload_n 1, 1) := dk_43 (dk_at dksX1_want_0 15 rfl rfl)
theorem dX1_want_16 : decode cX1_want 16 = .ok (.getfield 127, 3) := dk_180 0 127 (dk_at dksX1_want_0 16 rfl rfl)
theorem dX1_want_19 : decode cX1_want 19 = .ok (.if_icmp .ge 127, 3) := dk_162 0 127 (dk_at dksX1_want_0 19 rfl rfl)
theorem dX1_want_22 : decode cX1_want 22 = .ok (.iconst 0, 1) := dk_3 (dk_at dksX1_want_0 22 rfl rfl)
theorem dX1_want_23 : decode cX1_want 23 = .ok (.istore 6, 2) := dk_54 6 (dk_at dksX1_want_1 0 rfl rfl)
theorem dX1_want_25 : decode cX1_want 25 = .ok (.iload 6, 2) := dk_21 6 (dk_at dksX1_want_1 2 rfl rfl)
theorem dX1_want_27 : decode cX1_want 27 = .ok (.aload_n 0, 1) := dk_42 (dk_at dksX1_want_1 4 rfl rfl)
theorem dX1_want_28 : decode cX1_want 28 = .ok (.getfield 57, 3) := dk_180 0 57 (dk_at dksX1_want_1 5 rfl rfl)
theorem dX1_want_31 : decode cX1_want 31 = .ok (.getfield 273, 3) := dk_180 1 17 (dk_at dksX1_want_1 8 rfl rfl)
theorem dX1_want_34 : decode cX1_want 34 = .ok (.if_icmp .ge 40, 3) := dk_162 0 40 (dk_at dksX1_want_1 11 rfl rfl)
theorem dX1_want_37 : decode cX1_want 37 = .ok (.aload 4, 2) := dk_25 4 (dk_at dksX1_want_1 14 rfl rfl)
theorem dX1_want_39 : decode cX1_want 39 = .ok (.iload 6, 2) := dk_21 6 (dk_at dksX1_want_1 16 rfl rfl)
theorem dX1_want_41 : decode cX1_want 41 = .ok (.aload 4, 2) := dk_25 4 (dk_at dksX1_want_1 18 rfl rfl)
theorem dX1_want_43 : decode cX1_want 43 = .ok (.iload 6, 2) := dk_21 6 (dk_at dksX1_want_1 20 rfl rfl)
theorem dX1_want_45 : decode cX1_want 45 = .ok (.iaload, 1) := dk_46 (dk_at dksX1_want_1 22 rfl rfl)
theorem dX1_want_46 : decode cX1_want 46 = .ok (.aload_n 0, 1) := dk_42 (dk_at dksX1_want_1 23 rfl rfl)
theorem dX1_want_47 : decode cX1_want 47 = .ok (.getfield 57, 3) := dk_180 0 57 (dk_at dksX1_want_2 0 rfl rfl)
theorem dX1_want_50 : decode cX1_want 50 = .ok (.iload 6, 2) := dk_21 6 (dk_at dksX1_want_2 3 rfl rfl)
theorem dX1_want_52 : decode cX1_want 52 = .ok (.aload_n 1, 1) := dk_43 (dk_at dksX1_want_2 5 rfl rfl)
theorem dX1_want_53 : decode cX1_want 53 = .ok (.getfield 133, 3) := dk_180 0 133 (dk_at dksX1_want_2 6 rfl rfl)
theorem dX1_want_56 : decode cX1_want 56 = .ok (.iload 5, 2) := dk_21 5 (dk_at dksX1_want_2 9 rfl rfl)
theorem dX1_want_58 : decode cX1_want 58 = .ok (.aaload, 1) := dk_50 (dk_at dksX1_want_2 11 rfl rfl)
theorem dX1_want_59 : decode cX1_want 59 = .ok (.invokevirtual 295, 3) := dk_182 1 39 (dk_at dksX1_want_2 12 rfl rfl)
theorem dX1_want_62 : decode cX1_want 62 = .ok (.iadd, 1) := dk_96 (dk_at dksX1_want_2 15 rfl rfl)
theorem dX1_want_63 : decode cX1_want 63 = .ok (.ldc_w 299, 3) := dk_19 1 43 (dk_at dksX1_want_2 16 rfl rfl)
theorem dX1_want_66 : decode cX1_want 66 = .ok (.irem, 1) := dk_112 (dk_at dksX1_want_2 19 rfl rfl)
theorem dX1_want_67 : decode cX1_want 67 = .ok (.iastore, 1) := dk_79 (dk_at dksX1_want_2 20 rfl rfl)
theorem dX1_want_68 : decode cX1_want 68 = .ok (.iinc 6 1, 3) := dk_132 6 1 (dk_at dksX1_want_2 21 rfl rfl)
theorem dX1_want_71 : decode cX1_want 71 = .ok (.goto (-46), 3) := dk_167 255 210 (dk_at dksX1_want_3 0 rfl rfl)
theorem dX1_want_74 : decode cX1_want 74 = .ok (.aload_n 0, 1) := dk_42 (dk_at dksX1_want_3 3 rfl rfl)
theorem dX1_want_75 : decode cX1_want 75 = .ok (.getfield 57, 3) := dk_180 0 57 (dk_at dksX1_want_3 4 rfl rfl)
theorem dX1_want_78 : decode cX1_want 78 = .ok (.aload_n 1, 1) := dk_43 (dk_at dksX1_want_3 7 rfl rfl)
theorem dX1_want_79 : decode cX1_want 79 = .ok (.getfield 133, 3) := dk_180 0 133 (dk_at dksX1_want_3 8 rfl rfl)
theorem dX1_want_82 : decode cX1_want 82 = .ok (.iload 5, 2) := dk_21 5 (dk_at dksX1_want_3 11 rfl rfl)
theorem dX1_want_84 : decode cX1_want 84 = .ok (.aaload, 1) := dk_50 (dk_at dksX1_want_3 13 rfl rfl)
theorem dX1_want_85 : decode cX1_want 85 = .ok (.iload 5, 2) := dk_21 5 (dk_at dksX1_want_3 14 rfl rfl)
theorem dX1_want_87 : decode cX1_want 87 = .ok (.iconst 1, 1) := dk_4 (dk_at dksX1_want_3 16 rfl rfl)
theorem dX1_want_88 : decode cX1_want 88 = .ok (.iadd, 1) := dk_96 (dk_at dksX1_want_3 17 rfl rfl)
theorem dX1_want_89 : decode cX1_want 89 = .ok (.aload_n 1, 1) := dk_43 (dk_at dksX1_want_3 18 rfl rfl)
theorem dX1_want_90 : decode cX1_want 90 = .ok (.getfield 127, 3) := dk_180 0 127 (dk_at dksX1_want_3 19 rfl rfl)
theorem dX1_want_93 : decode cX1_want 93 = .ok (.if_icmp .ge 15, 3) := dk_162 0 15 (dk_at dksX1_want_4 0 rfl rfl)
theorem dX1_want_96 : decode cX1_want 96 = .ok (.aload_n 1, 1) := dk_43 (dk_at dksX1_want_4 3 rfl rfl)
theorem dX1_want_97 : decode cX1_want 97 = .ok (.getfield 133, 3) := dk_180 0 133 (dk_at dksX1_want_4 4 rfl rfl)
theorem dX1_want_100 : decode cX1_want 100 = .ok (.iload 5, 2) := dk_21 5 (dk_at dksX1_want_4 7 rfl rfl)
theorem dX1_want_102 : decode cX1_want 102 = .ok (.iconst 1, 1) := dk_4 (dk_at dksX1_want_4 9 rfl rfl)
theorem dX1_want_103 : decode cX1_want 103 = .ok (.iadd, 1) := dk_96 (dk_at dksX1_want_4 10 rfl rfl)
theorem dX1_want_104 : decode cX1_want 104 = .ok (.aaload, 1) := dk_50 (dk_at dksX1_want_4 11 rfl rfl)
theorem dX1_want_105 : decode cX1_want 105 = .ok (.goto 4, 3) := dk_167 0 4 (dk_at dksX1_want_4 12 rfl rfl)
theorem dX1_want_108 : decode cX1_want 108 = .ok (.aconst_null, 1) := dk_1 (dk_at dksX1_want_4 15 rfl rfl)
theorem dX1_want_109 : decode cX1_want 109 = .ok (.invokevirtual 300, 3) := dk_182 1 44 (dk_at dksX1_want_4 16 rfl rfl)
theorem dX1_want_112 : decode cX1_want 112 = .ok (.istore 6, 2) := dk_54 6 (dk_at dksX1_want_4 19 rfl rfl)
theorem dX1_want_114 : decode cX1_want 114 = .ok (.iconst 1, 1) := dk_4 (dk_at dksX1_want_4 21 rfl rfl)
theorem dX1_want_115 : decode cX1_want 115 = .ok (.istore 7, 2) := dk_54 7 (dk_at dksX1_want_4 22 rfl rfl)
theorem dX1_want_117 : decode cX1_want 117 = .ok (.iload 7, 2) := dk_21 7 (dk_at dksX1_want_5 0 rfl rfl)
theorem dX1_want_119 : decode cX1_want 119 = .ok (.iload 6, 2) := dk_21 6 (dk_at dksX1_want_5 2 rfl rfl)
theorem dX1_want_121 : decode cX1_want 121 = .ok (.if_icmp .gt 19, 3) := dk_163 0 19 (dk_at dksX1_want_5 4 rfl rfl)
theorem dX1_want_124 : decode cX1_want 124 = .ok (.aload_n 0, 1) := dk_42 (dk_at dksX1_want_5 7 rfl rfl)
theorem dX1_want_125 : decode cX1_want 125 = .ok (.iload 7, 2) := dk_21 7 (dk_at dksX1_want_5 8 rfl rfl)
theorem dX1_want_127 : decode cX1_want 127 = .ok (.iload_n 2, 1) := dk_28 (dk_at dksX1_want_5 10 rfl rfl)
theorem dX1_want_128 : decode cX1_want 128 = .ok (.aload 4, 2) := dk_25 4 (dk_at dksX1_want_5 11 rfl rfl)
theorem dX1_want_130 : decode cX1_want 130 = .ok (.aload_n 3, 1) := dk_45 (dk_at dksX1_want_5 13 rfl rfl)
theorem dX1_want_131 : decode cX1_want 131 = .ok (.invokevirtual 304, 3) := dk_182 1 48 (dk_at dksX1_want_5 14 rfl rfl)
theorem dX1_want_134 : decode cX1_want 134 = .ok (.iinc 7 1, 3) := dk_132 7 1 (dk_at dksX1_want_5 17 rfl rfl)
theorem dX1_want_137 : decode cX1_want 137 = .ok (.goto (-20), 3) := dk_167 255 236 (dk_at dksX1_want_5 20 rfl rfl)
theorem dX1_want_140 : decode cX1_want 140 = .ok (.iinc 5 1, 3) := dk_132 5 1 (dk_at dksX1_want_6 0 rfl rfl)
theorem dX1_want_143 : decode cX1_want 143 = .ok (.goto (-130), 3) := dk_167 255 126 (dk_at dksX1_want_6 3 rfl rfl)
theorem dX1_want_146 : decode cX1_want 146 = .ok (.return_, 1) := dk_177 (dk_at dksX1_want_6 6 rfl rfl)
abbrev cX1_total : ByteArray := prog_1_method_43_code
def yX1_total : MethodName := ⟨RX1, "total", "(II[ILPlugHall$Outcome;)V"⟩
def dkwX1_total_8 : List UInt8 := [3, 16, 12, 184, 1, 65, 25, 4, 89, 180, 0, 196, 4, 96, 181, 0, 196, 177]
abbrev dktX1_total_8 : List UInt8 := dkwX1_total_8 ++ []
def dkwX1_total_7 : List UInt8 := [25, 4, 180, 0, 196, 16, 60, 162, 0, 23, 25, 6, 3, 25, 4, 180, 0, 208, 25, 4, 180, 0, 196, 50]
abbrev dktX1_total_7 : List UInt8 := dkwX1_total_7 ++ dktX1_total_8
def dkwX1_total_6 : List UInt8 := [180, 0, 57, 180, 1, 62, 21, 8, 46, 96, 54, 7, 132, 8, 1, 167, 255, 120, 21, 5, 154, 0, 4, 177]
abbrev dktX1_total_6 : List UInt8 := dkwX1_total_6 ++ dktX1_total_7
def dkwX1_total_5 : List UInt8 := [112, 145, 84, 21, 9, 16, 10, 108, 54, 9, 132, 10, 1, 167, 255, 204, 45, 21, 8, 3, 79, 21, 7, 42]
abbrev dktX1_total_5 : List UInt8 := dkwX1_total_5 ++ dktX1_total_6
def dkwX1_total_4 : List UInt8 := [25, 6, 21, 7, 42, 180, 0, 57, 180, 1, 62, 21, 8, 46, 96, 4, 100, 21, 10, 100, 21, 9, 16, 10]
abbrev dktX1_total_4 : List UInt8 := dkwX1_total_4 ++ dktX1_total_5
def dkwX1_total_3 : List UInt8 := [184, 1, 59, 54, 9, 3, 54, 10, 21, 10, 42, 180, 0, 57, 180, 1, 62, 21, 8, 46, 162, 0, 43]
abbrev dktX1_total_3 : List UInt8 := dkwX1_total_3 ++ dktX1_total_4
def dkwX1_total_2 : List UInt8 := [167, 0, 107, 42, 180, 0, 57, 180, 1, 56, 21, 8, 46, 27, 160, 0, 78, 4, 54, 5, 45, 21, 8, 46]
abbrev dktX1_total_2 : List UInt8 := dkwX1_total_2 ++ dktX1_total_3
def dkwX1_total_1 : List UInt8 := [42, 180, 0, 57, 180, 1, 17, 162, 0, 130, 42, 180, 0, 64, 28, 46, 21, 8, 122, 4, 126, 154, 0, 6]
abbrev dktX1_total_1 : List UInt8 := dkwX1_total_1 ++ dktX1_total_2
def dkwX1_total_0 : List UInt8 := [3, 54, 5, 16, 12, 188, 8, 58, 6, 25, 6, 16, 15, 184, 1, 52, 3, 54, 7, 3, 54, 8, 21, 8]
abbrev dktX1_total_0 : List UInt8 := dkwX1_total_0 ++ dktX1_total_1
theorem dksX1_total_0 : cX1_total.data.toList.drop 0 = dktX1_total_0 := by decide +kernel
theorem dksX1_total_1 : cX1_total.data.toList.drop 24 = dktX1_total_1 := dk_seg dksX1_total_0 24 rfl rfl
theorem dksX1_total_2 : cX1_total.data.toList.drop 48 = dktX1_total_2 := dk_seg dksX1_total_1 24 rfl rfl
theorem dksX1_total_3 : cX1_total.data.toList.drop 72 = dktX1_total_3 := dk_seg dksX1_total_2 24 rfl rfl
theorem dksX1_total_4 : cX1_total.data.toList.drop 95 = dktX1_total_4 := dk_seg dksX1_total_3 23 rfl rfl
theorem dksX1_total_5 : cX1_total.data.toList.drop 119 = dktX1_total_5 := dk_seg dksX1_total_4 24 rfl rfl
theorem dksX1_total_6 : cX1_total.data.toList.drop 143 = dktX1_total_6 := dk_seg dksX1_total_5 24 rfl rfl
theorem dksX1_total_7 : cX1_total.data.toList.drop 167 = dktX1_total_7 := dk_seg dksX1_total_6 24 rfl rfl
theorem dksX1_total_8 : cX1_total.data.toList.drop 191 = dktX1_total_8 := dk_seg dksX1_total_7 24 rfl rfl
theorem dX1_total_0 : decode cX1_total 0 = .ok (.iconst 0, 1) := dk_3 (dk_at dksX1_total_0 0 rfl rfl)
theorem dX1_total_1 : decode cX1_total 1 = .ok (.istore 5, 2) := dk_54 5 (dk_at dksX1_total_0 1 rfl rfl)
theorem dX1_total_3 : decode cX1_total 3 = .ok (.bipush 12, 2) := dk_16 12 (dk_at dksX1_total_0 3 rfl rfl)
theorem dX1_total_5 : decode cX1_total 5 = .ok (.newarray .byte, 2) := dk_188_8 (dk_at dksX1_total_0 5 rfl rfl)
theorem dX1_total_7 : decode cX1_total 7 = .ok (.astore 6, 2) := dk_58 6 (dk_at dksX1_total_0 7 rfl rfl)
theorem dX1_total_9 : decode cX1_total 9 = .ok (.aload 6, 2) := dk_25 6 (dk_at dksX1_total_0 9 rfl rfl)
theorem dX1_total_11 : decode cX1_total 11 = .ok (.bipush 15, 2) := dk_16 15 (dk_at dksX1_total_0 11 rfl rfl)
theorem dX1_total_13 : decode cX1_total 13 = .ok (.invokestatic 308, 3) := dk_184 1 52 (dk_at dksX1_total_0 13 rfl rfl)
theorem dX1_total_16 : decode cX1_total 16 = .ok (.iconst 0, 1) := dk_3 (dk_at dksX1_total_0 16 rfl rfl)
theorem dX1_total_17 : decode cX1_total 17 = .ok (.istore 7, 2) := dk_54 7 (dk_at dksX1_total_0 17 rfl rfl)
theorem dX1_total_19 : decode cX1_total 19 = .ok (.iconst 0, 1) := dk_3 (dk_at dksX1_total_0 19 rfl rfl)
theorem dX1_total_20 : decode cX1_total 20 = .ok (.istore 8, 2) := dk_54 8 (dk_at dksX1_total_0 20 rfl rfl)
theorem dX1_total_22 : decode cX1_total 22 = .ok (.iload 8, 2) := dk_21 8 (dk_at dksX1_total_0 22 rfl rfl)
theorem dX1_total_24 : decode cX1_total 24 = .ok (.aload_n 0, 1) := dk_42 (dk_at dksX1_total_1 0 rfl rfl)
theorem dX1_total_25 : decode cX1_total 25 = .ok (.getfield 57, 3) := dk_180 0 57 (dk_at dksX1_total_1 1 rfl rfl)
theorem dX1_total_28 : decode cX1_total 28 = .ok (.getfield 273, 3) := dk_180 1 17 (dk_at dksX1_total_1 4 rfl rfl)
theorem dX1_total_31 : decode cX1_total 31 = .ok (.if_icmp .ge 130, 3) := dk_162 0 130 (dk_at dksX1_total_1 7 rfl rfl)
theorem dX1_total_34 : decode cX1_total 34 = .ok (.aload_n 0, 1) := dk_42 (dk_at dksX1_total_1 10 rfl rfl)
theorem dX1_total_35 : decode cX1_total 35 = .ok (.getfield 64, 3) := dk_180 0 64 (dk_at dksX1_total_1 11 rfl rfl)
theorem dX1_total_38 : decode cX1_total 38 = .ok (.iload_n 2, 1) := dk_28 (dk_at dksX1_total_1 14 rfl rfl)
theorem dX1_total_39 : decode cX1_total 39 = .ok (.iaload, 1) := dk_46 (dk_at dksX1_total_1 15 rfl rfl)
theorem dX1_total_40 : decode cX1_total 40 = .ok (.iload 8, 2) := dk_21 8 (dk_at dksX1_total_1 16 rfl rfl)
theorem dX1_total_42 : decode cX1_total 42 = .ok (.ishr, 1) := dk_122 (dk_at dksX1_total_1 18 rfl rfl)
theorem dX1_total_43 : decode cX1_total 43 = .ok (.iconst 1, 1) := dk_4 (dk_at dksX1_total_1 19 rfl rfl)
theorem dX1_total_44 : decode cX1_total 44 = .ok (.iand, 1) := dk_126 (dk_at dksX1_total_1 20 rfl rfl)
theorem dX1_total_45 : decode cX1_total 45 = .ok (.ifCond .ne 6, 3) := dk_154 0 6 (dk_at dksX1_total_1 21 rfl rfl)
theorem dX1_total_48 : decode cX1_total 48 = .ok (.goto 107, 3) := dk_167 0 107 (dk_at dksX1_total_2 0 rfl rfl)
theorem dX1_total_51 : decode cX1_total 51 = .ok (.aload_n 0, 1) := dk_42 (dk_at dksX1_total_2 3 rfl rfl)
theorem dX1_total_52 : decode cX1_total 52 = .ok (.getfield 57, 3) := dk_180 0 57 (dk_at dksX1_total_2 4 rfl rfl)
theorem dX1_total_55 : decode cX1_total 55 = .ok (.getfield 312, 3) := dk_180 1 56 (dk_at dksX1_total_2 7 rfl rfl)
theorem dX1_total_58 : decode cX1_total 58 = .ok (.iload 8, 2) := dk_21 8 (dk_at dksX1_total_2 10 rfl rfl)
theorem dX1_total_60 : decode cX1_total 60 = .ok (.iaload, 1) := dk_46 (dk_at dksX1_total_2 12 rfl rfl)
theorem dX1_total_61 : decode cX1_total 61 = .ok (.iload_n 1, 1) := dk_27 (dk_at dksX1_total_2 13 rfl rfl)
theorem dX1_total_62 : decode cX1_total 62 = .ok (.if_icmp .ne 78, 3) := dk_160 0 78 (dk_at dksX1_total_2 14 rfl rfl)
theorem dX1_total_65 : decode cX1_total 65 = .ok (.iconst 1, 1) := dk_4 (dk_at dksX1_total_2 17 rfl rfl)
theorem dX1_total_66 : decode cX1_total 66 = .ok (.istore 5, 2) := dk_54 5 (dk_at dksX1_total_2 18 rfl rfl)
theorem dX1_total_68 : decode cX1_total 68 = .ok (.aload_n 3, 1) := dk_45 (dk_at dksX1_total_2 20 rfl rfl)
theorem dX1_total_69 : decode cX1_total 69 = .ok (.iload 8, 2) := dk_21 8 (dk_at dksX1_total_2 21 rfl rfl)
theorem dX1_total_71 : decode cX1_total 71 = .ok (.iaload, 1) := dk_46 (dk_at dksX1_total_2 23 rfl rfl)
theorem dX1_total_72 : decode cX1_total 72 = .ok (.invokestatic 315, 3) := dk_184 1 59 (dk_at dksX1_total_3 0 rfl rfl)
theorem dX1_total_75 : decode cX1_total 75 = .ok (.istore 9, 2) := dk_54 9 (dk_at dksX1_total_3 3 rfl rfl)
theorem dX1_total_77 : decode cX1_total 77 = .ok (.iconst 0, 1) := dk_3 (dk_at dksX1_total_3 5 rfl rfl)
theorem dX1_total_78 : decode cX1_total 78 = .ok (.istore 10, 2) := dk_54 10 (dk_at dksX1_total_3 6 rfl rfl)
theorem dX1_total_80 : decode cX1_total 80 = .ok (.iload 10, 2) := dk_21 10 (dk_at dksX1_total_3 8 rfl rfl)
theorem dX1_total_82 : decode cX1_total 82 = .ok (.aload_n 0, 1) := dk_42 (dk_at dksX1_total_3 10 rfl rfl)
theorem dX1_total_83 : decode cX1_total 83 = .ok (.getfield 57, 3) := dk_180 0 57 (dk_at dksX1_total_3 11 rfl rfl)
theorem dX1_total_86 : decode cX1_total 86 = .ok (.getfield 318, 3) := dk_180 1 62 (dk_at dksX1_total_3 14 rfl rfl)
theorem dX1_total_89 : decode cX1_total 89 = .ok (.iload 8, 2) := dk_21 8 (dk_at dksX1_total_3 17 rfl rfl)
theorem dX1_total_91 : decode cX1_total 91 = .ok (.iaload, 1) := dk_46 (dk_at dksX1_total_3 19 rfl rfl)
theorem dX1_total_92 : decode cX1_total 92 = .ok (.if_icmp .ge 43, 3) := dk_162 0 43 (dk_at dksX1_total_3 20 rfl rfl)
theorem dX1_total_95 : decode cX1_total 95 = .ok (.aload 6, 2) := dk_25 6 (dk_at dksX1_total_4 0 rfl rfl)
theorem dX1_total_97 : decode cX1_total 97 = .ok (.iload 7, 2) := dk_21 7 (dk_at dksX1_total_4 2 rfl rfl)
theorem dX1_total_99 : decode cX1_total 99 = .ok (.aload_n 0, 1) := dk_42 (dk_at dksX1_total_4 4 rfl rfl)
theorem dX1_total_100 : decode cX1_total 100 = .ok (.getfield 57, 3) := dk_180 0 57 (dk_at dksX1_total_4 5 rfl rfl)
theorem dX1_total_103 : decode cX1_total 103 = .ok (.getfield 318, 3) := dk_180 1 62 (dk_at dksX1_total_4 8 rfl rfl)
theorem dX1_total_106 : decode cX1_total 106 = .ok (.iload 8, 2) := dk_21 8 (dk_at dksX1_total_4 11 rfl rfl)
theorem dX1_total_108 : decode cX1_total 108 = .ok (.iaload, 1) := dk_46 (dk_at dksX1_total_4 13 rfl rfl)
theorem dX1_total_109 : decode cX1_total 109 = .ok (.iadd, 1) := dk_96 (dk_at dksX1_total_4 14 rfl rfl)
theorem dX1_total_110 : decode cX1_total 110 = .ok (.iconst 1, 1) := dk_4 (dk_at dksX1_total_4 15 rfl rfl)
theorem dX1_total_111 : decode cX1_total 111 = .ok (.isub, 1) := dk_100 (dk_at dksX1_total_4 16 rfl rfl)
theorem dX1_total_112 : decode cX1_total 112 = .ok (.iload 10, 2) := dk_21 10 (dk_at dksX1_total_4 17 rfl rfl)
theorem dX1_total_114 : decode cX1_total 114 = .ok (.isub, 1) := dk_100 (dk_at dksX1_total_4 19 rfl rfl)
theorem dX1_total_115 : decode cX1_total 115 = .ok (.iload 9, 2) := dk_21 9 (dk_at dksX1_total_4 20 rfl rfl)
theorem dX1_total_117 : decode cX1_total 117 = .ok (.bipush 10, 2) := dk_16 10 (dk_at dksX1_total_4 22 rfl rfl)
theorem dX1_total_119 : decode cX1_total 119 = .ok (.irem, 1) := dk_112 (dk_at dksX1_total_5 0 rfl rfl)
theorem dX1_total_120 : decode cX1_total 120 = .ok (.i2b, 1) := dk_145 (dk_at dksX1_total_5 1 rfl rfl)
theorem dX1_total_121 : decode cX1_total 121 = .ok (.bastore, 1) := dk_84 (dk_at dksX1_total_5 2 rfl rfl)
theorem dX1_total_122 : decode cX1_total 122 = .ok (.iload 9, 2) := dk_21 9 (dk_at dksX1_total_5 3 rfl rfl)
theorem dX1_total_124 : decode cX1_total 124 = .ok (.bipush 10, 2) := dk_16 10 (dk_at dksX1_total_5 5 rfl rfl)
theorem dX1_total_126 : decode cX1_total 126 = .ok (.idiv, 1) := dk_108 (dk_at dksX1_total_5 7 rfl rfl)
theorem dX1_total_127 : decode cX1_total 127 = .ok (.istore 9, 2) := dk_54 9 (dk_at dksX1_total_5 8 rfl rfl)
theorem dX1_total_129 : decode cX1_total 129 = .ok (.iinc 10 1, 3) := dk_132 10 1 (dk_at dksX1_total_5 10 rfl rfl)
theorem dX1_total_132 : decode cX1_total 132 = .ok (.goto (-52), 3) := dk_167 255 204 (dk_at dksX1_total_5 13 rfl rfl)
theorem dX1_total_135 : decode cX1_total 135 = .ok (.aload_n 3, 1) := dk_45 (dk_at dksX1_total_5 16 rfl rfl)
theorem dX1_total_136 : decode cX1_total 136 = .ok (.iload 8, 2) := dk_21 8 (dk_at dksX1_total_5 17 rfl rfl)
theorem dX1_total_138 : decode cX1_total 138 = .ok (.iconst 0, 1) := dk_3 (dk_at dksX1_total_5 19 rfl rfl)
theorem dX1_total_139 : decode cX1_total 139 = .ok (.iastore, 1) := dk_79 (dk_at dksX1_total_5 20 rfl rfl)
theorem dX1_total_140 : decode cX1_total 140 = .ok (.iload 7, 2) := dk_21 7 (dk_at dksX1_total_5 21 rfl rfl)
theorem dX1_total_142 : decode cX1_total 142 = .ok (.aload_n 0, 1) := dk_42 (dk_at dksX1_total_5 23 rfl rfl)
theorem dX1_total_143 : decode cX1_total 143 = .ok (.getfield 57, 3) := dk_180 0 57 (dk_at dksX1_total_6 0 rfl rfl)
theorem dX1_total_146 : decode cX1_total 146 = .ok (.getfield 318, 3) := dk_180 1 62 (dk_at dksX1_total_6 3 rfl rfl)
theorem dX1_total_149 : decode cX1_total 149 = .ok (.iload 8, 2) := dk_21 8 (dk_at dksX1_total_6 6 rfl rfl)
theorem dX1_total_151 : decode cX1_total 151 = .ok (.iaload, 1) := dk_46 (dk_at dksX1_total_6 8 rfl rfl)
theorem dX1_total_152 : decode cX1_total 152 = .ok (.iadd, 1) := dk_96 (dk_at dksX1_total_6 9 rfl rfl)
theorem dX1_total_153 : decode cX1_total 153 = .ok (.istore 7, 2) := dk_54 7 (dk_at dksX1_total_6 10 rfl rfl)
theorem dX1_total_155 : decode cX1_total 155 = .ok (.iinc 8 1, 3) := dk_132 8 1 (dk_at dksX1_total_6 12 rfl rfl)
theorem dX1_total_158 : decode cX1_total 158 = .ok (.goto (-136), 3) := dk_167 255 120 (dk_at dksX1_total_6 15 rfl rfl)
theorem dX1_total_161 : decode cX1_total 161 = .ok (.iload 5, 2) := dk_21 5 (dk_at dksX1_total_6 18 rfl rfl)
theorem dX1_total_163 : decode cX1_total 163 = .ok (.ifCond .ne 4, 3) := dk_154 0 4 (dk_at dksX1_total_6 20 rfl rfl)
theorem dX1_total_166 : decode cX1_total 166 = .ok (.return_, 1) := dk_177 (dk_at dksX1_total_6 23 rfl rfl)
theorem dX1_total_167 : decode cX1_total 167 = .ok (.aload 4, 2) := dk_25 4 (dk_at dksX1_total_7 0 rfl rfl)
theorem dX1_total_169 : decode cX1_total 169 = .ok (.getfield 196, 3) := dk_180 0 196 (dk_at dksX1_total_7 2 rfl rfl)
theorem dX1_total_172 : decode cX1_total 172 = .ok (.bipush 60, 2) := dk_16 60 (dk_at dksX1_total_7 5 rfl rfl)
theorem dX1_total_174 : decode cX1_total 174 = .ok (.if_icmp .ge 23, 3) := dk_162 0 23 (dk_at dksX1_total_7 7 rfl rfl)
theorem dX1_total_177 : decode cX1_total 177 = .ok (.aload 6, 2) := dk_25 6 (dk_at dksX1_total_7 10 rfl rfl)
theorem dX1_total_179 : decode cX1_total 179 = .ok (.iconst 0, 1) := dk_3 (dk_at dksX1_total_7 12 rfl rfl)
theorem dX1_total_180 : decode cX1_total 180 = .ok (.aload 4, 2) := dk_25 4 (dk_at dksX1_total_7 13 rfl rfl)
theorem dX1_total_182 : decode cX1_total 182 = .ok (.getfield 208, 3) := dk_180 0 208 (dk_at dksX1_total_7 15 rfl rfl)
theorem dX1_total_185 : decode cX1_total 185 = .ok (.aload 4, 2) := dk_25 4 (dk_at dksX1_total_7 18 rfl rfl)
theorem dX1_total_187 : decode cX1_total 187 = .ok (.getfield 196, 3) := dk_180 0 196 (dk_at dksX1_total_7 20 rfl rfl)
theorem dX1_total_190 : decode cX1_total 190 = .ok (.aaload, 1) := dk_50 (dk_at dksX1_total_7 23 rfl rfl)
theorem dX1_total_191 : decode cX1_total 191 = .ok (.iconst 0, 1) := dk_3 (dk_at dksX1_total_8 0 rfl rfl)
theorem dX1_total_192 : decode cX1_total 192 = .ok (.bipush 12, 2) := dk_16 12 (dk_at dksX1_total_8 1 rfl rfl)
theorem dX1_total_194 : decode cX1_total 194 = .ok (.invokestatic 321, 3) := dk_184 1 65 (dk_at dksX1_total_8 3 rfl rfl)
theorem dX1_total_197 : decode cX1_total 197 = .ok (.aload 4, 2) := dk_25 4 (dk_at dksX1_total_8 6 rfl rfl)
theorem dX1_total_199 : decode cX1_total 199 = .ok (.dup, 1) := dk_89 (dk_at dksX1_total_8 8 rfl rfl)
theorem dX1_total_200 : decode cX1_total 200 = .ok (.getfield 196, 3) := dk_180 0 196 (dk_at dksX1_total_8 9 rfl rfl)
theorem dX1_total_203 : decode cX1_total 203 = .ok (.iconst 1, 1) := dk_4 (dk_at dksX1_total_8 12 rfl rfl)
theorem dX1_total_204 : decode cX1_total 204 = .ok (.iadd, 1) := dk_96 (dk_at dksX1_total_8 13 rfl rfl)
theorem dX1_total_205 : decode cX1_total 205 = .ok (.putfield 196, 3) := dk_181 0 196 (dk_at dksX1_total_8 14 rfl rfl)
theorem dX1_total_208 : decode cX1_total 208 = .ok (.return_, 1) := dk_177 (dk_at dksX1_total_8 17 rfl rfl)
abbrev cX1_same : ByteArray := prog_1_method_46_code
def yX1_same : MethodName := ⟨RX1, "same", "(II)I"⟩
def dkwX1_same_3 : List UInt8 := [167, 0, 4, 3, 172]
abbrev dktX1_same_3 : List UInt8 := dkwX1_same_3 ++ []
def dkwX1_same_2 : List UInt8 := [180, 0, 47, 180, 0, 187, 154, 0, 21, 42, 180, 0, 47, 42, 180, 0, 44, 182, 0, 245, 153, 0, 7, 4]
abbrev dktX1_same_2 : List UInt8 := dkwX1_same_2 ++ dktX1_same_3
def dkwX1_same_1 : List UInt8 := [28, 42, 180, 0, 44, 182, 1, 71, 42, 42, 180, 0, 19, 27, 50, 2, 42, 180, 0, 47, 182, 0, 225, 42]
abbrev dktX1_same_1 : List UInt8 := dkwX1_same_1 ++ dktX1_same_2
def dkwX1_same_0 : List UInt8 := [27, 184, 0, 123, 153, 0, 11, 42, 28, 182, 1, 36, 154, 0, 5, 2, 172, 42, 42, 180, 0, 19, 27, 50]
abbrev dktX1_same_0 : List UInt8 := dkwX1_same_0 ++ dktX1_same_1
theorem dksX1_same_0 : cX1_same.data.toList.drop 0 = dktX1_same_0 := by decide +kernel
theorem dksX1_same_1 : cX1_same.data.toList.drop 24 = dktX1_same_1 := dk_seg dksX1_same_0 24 rfl rfl
theorem dksX1_same_2 : cX1_same.data.toList.drop 48 = dktX1_same_2 := dk_seg dksX1_same_1 24 rfl rfl
theorem dksX1_same_3 : cX1_same.data.toList.drop 72 = dktX1_same_3 := dk_seg dksX1_same_2 24 rfl rfl
theorem dX1_same_0 : decode cX1_same 0 = .ok (.iload_n 1, 1) := dk_27 (dk_at dksX1_same_0 0 rfl rfl)
theorem dX1_same_1 : decode cX1_same 1 = .ok (.invokestatic 123, 3) := dk_184 0 123 (dk_at dksX1_same_0 1 rfl rfl)
theorem dX1_same_4 : decode cX1_same 4 = .ok (.ifCond .eq 11, 3) := dk_153 0 11 (dk_at dksX1_same_0 4 rfl rfl)
theorem dX1_same_7 : decode cX1_same 7 = .ok (.aload_n 0, 1) := dk_42 (dk_at dksX1_same_0 7 rfl rfl)
theorem dX1_same_8 : decode cX1_same 8 = .ok (.iload_n 2, 1) := dk_28 (dk_at dksX1_same_0 8 rfl rfl)
theorem dX1_same_9 : decode cX1_same 9 = .ok (.invokevirtual 292, 3) := dk_182 1 36 (dk_at dksX1_same_0 9 rfl rfl)
theorem dX1_same_12 : decode cX1_same 12 = .ok (.ifCond .ne 5, 3) := dk_154 0 5 (dk_at dksX1_same_0 12 rfl rfl)
theorem dX1_same_15 : decode cX1_same 15 = .ok (.iconst (-1), 1) := dk_2 (dk_at dksX1_same_0 15 rfl rfl)
theorem dX1_same_16 : decode cX1_same 16 = .ok (.ireturn, 1) := dk_172 (dk_at dksX1_same_0 16 rfl rfl)
theorem dX1_same_17 : decode cX1_same 17 = .ok (.aload_n 0, 1) := dk_42 (dk_at dksX1_same_0 17 rfl rfl)
theorem dX1_same_18 : decode cX1_same 18 = .ok (.aload_n 0, 1) := dk_42 (dk_at dksX1_same_0 18 rfl rfl)
theorem dX1_same_19 : decode cX1_same 19 = .ok (.getfield 19, 3) := dk_180 0 19 (dk_at dksX1_same_0 19 rfl rfl)
theorem dX1_same_22 : decode cX1_same 22 = .ok (.iload_n 1, 1) := dk_27 (dk_at dksX1_same_0 22 rfl rfl)
theorem dX1_same_23 : decode cX1_same 23 = .ok (.aaload, 1) := dk_50 (dk_at dksX1_same_0 23 rfl rfl)
theorem dX1_same_24 : decode cX1_same 24 = .ok (.iload_n 2, 1) := dk_28 (dk_at dksX1_same_1 0 rfl rfl)
theorem dX1_same_25 : decode cX1_same 25 = .ok (.aload_n 0, 1) := dk_42 (dk_at dksX1_same_1 1 rfl rfl)
theorem dX1_same_26 : decode cX1_same 26 = .ok (.getfield 44, 3) := dk_180 0 44 (dk_at dksX1_same_1 2 rfl rfl)
theorem dX1_same_29 : decode cX1_same 29 = .ok (.invokevirtual 327, 3) := dk_182 1 71 (dk_at dksX1_same_1 5 rfl rfl)
theorem dX1_same_32 : decode cX1_same 32 = .ok (.aload_n 0, 1) := dk_42 (dk_at dksX1_same_1 8 rfl rfl)
theorem dX1_same_33 : decode cX1_same 33 = .ok (.aload_n 0, 1) := dk_42 (dk_at dksX1_same_1 9 rfl rfl)
theorem dX1_same_34 : decode cX1_same 34 = .ok (.getfield 19, 3) := dk_180 0 19 (dk_at dksX1_same_1 10 rfl rfl)
theorem dX1_same_37 : decode cX1_same 37 = .ok (.iload_n 1, 1) := dk_27 (dk_at dksX1_same_1 13 rfl rfl)
theorem dX1_same_38 : decode cX1_same 38 = .ok (.aaload, 1) := dk_50 (dk_at dksX1_same_1 14 rfl rfl)
theorem dX1_same_39 : decode cX1_same 39 = .ok (.iconst (-1), 1) := dk_2 (dk_at dksX1_same_1 15 rfl rfl)
theorem dX1_same_40 : decode cX1_same 40 = .ok (.aload_n 0, 1) := dk_42 (dk_at dksX1_same_1 16 rfl rfl)
theorem dX1_same_41 : decode cX1_same 41 = .ok (.getfield 47, 3) := dk_180 0 47 (dk_at dksX1_same_1 17 rfl rfl)
theorem dX1_same_44 : decode cX1_same 44 = .ok (.invokevirtual 225, 3) := dk_182 0 225 (dk_at dksX1_same_1 20 rfl rfl)
theorem dX1_same_47 : decode cX1_same 47 = .ok (.aload_n 0, 1) := dk_42 (dk_at dksX1_same_1 23 rfl rfl)
theorem dX1_same_48 : decode cX1_same 48 = .ok (.getfield 47, 3) := dk_180 0 47 (dk_at dksX1_same_2 0 rfl rfl)
theorem dX1_same_51 : decode cX1_same 51 = .ok (.getfield 187, 3) := dk_180 0 187 (dk_at dksX1_same_2 3 rfl rfl)
theorem dX1_same_54 : decode cX1_same 54 = .ok (.ifCond .ne 21, 3) := dk_154 0 21 (dk_at dksX1_same_2 6 rfl rfl)
theorem dX1_same_57 : decode cX1_same 57 = .ok (.aload_n 0, 1) := dk_42 (dk_at dksX1_same_2 9 rfl rfl)
theorem dX1_same_58 : decode cX1_same 58 = .ok (.getfield 47, 3) := dk_180 0 47 (dk_at dksX1_same_2 10 rfl rfl)
theorem dX1_same_61 : decode cX1_same 61 = .ok (.aload_n 0, 1) := dk_42 (dk_at dksX1_same_2 13 rfl rfl)
theorem dX1_same_62 : decode cX1_same 62 = .ok (.getfield 44, 3) := dk_180 0 44 (dk_at dksX1_same_2 14 rfl rfl)
theorem dX1_same_65 : decode cX1_same 65 = .ok (.invokevirtual 245, 3) := dk_182 0 245 (dk_at dksX1_same_2 17 rfl rfl)
theorem dX1_same_68 : decode cX1_same 68 = .ok (.ifCond .eq 7, 3) := dk_153 0 7 (dk_at dksX1_same_2 20 rfl rfl)
theorem dX1_same_71 : decode cX1_same 71 = .ok (.iconst 1, 1) := dk_4 (dk_at dksX1_same_2 23 rfl rfl)
theorem dX1_same_72 : decode cX1_same 72 = .ok (.goto 4, 3) := dk_167 0 4 (dk_at dksX1_same_3 0 rfl rfl)
theorem dX1_same_75 : decode cX1_same 75 = .ok (.iconst 0, 1) := dk_3 (dk_at dksX1_same_3 3 rfl rfl)
theorem dX1_same_76 : decode cX1_same 76 = .ok (.ireturn, 1) := dk_172 (dk_at dksX1_same_3 4 rfl rfl)
abbrev cX1_needed : ByteArray := prog_1_method_47_code
def yX1_needed : MethodName := ⟨RX1, "needed", "(I)I"⟩
def dkwX1_needed_4 : List UInt8 := [167, 0, 16, 21, 4, 133, 184, 1, 1, 62, 42, 21, 4, 181, 1, 78, 132, 4, 1, 167, 255, 203, 29, 172]
abbrev dktX1_needed_4 : List UInt8 := dkwX1_needed_4 ++ []
def dkwX1_needed_3 : List UInt8 := [184, 1, 1, 29, 162, 0, 35, 42, 42, 180, 0, 19, 27, 50, 28, 21, 4, 182, 1, 74, 154, 0, 6]
abbrev dktX1_needed_3 : List UInt8 := dkwX1_needed_3 ++ dktX1_needed_4
def dkwX1_needed_2 : List UInt8 := [132, 3, 1, 167, 255, 231, 28, 4, 96, 62, 3, 54, 4, 21, 4, 4, 28, 120, 162, 0, 51, 21, 4, 133]
abbrev dktX1_needed_2 : List UInt8 := dkwX1_needed_2 ++ dktX1_needed_3
def dkwX1_needed_1 : List UInt8 := [3, 62, 29, 28, 162, 0, 26, 42, 180, 0, 13, 29, 51, 4, 16, 20, 184, 0, 3, 154, 0, 5, 2, 172]
abbrev dktX1_needed_1 : List UInt8 := dkwX1_needed_1 ++ dktX1_needed_2
def dkwX1_needed_0 : List UInt8 := [42, 182, 0, 119, 61, 27, 184, 0, 123, 153, 0, 13, 28, 4, 16, 8, 184, 0, 3, 154, 0, 5, 2, 172]
abbrev dktX1_needed_0 : List UInt8 := dkwX1_needed_0 ++ dktX1_needed_1
theorem dksX1_needed_0 : cX1_needed.data.toList.drop 0 = dktX1_needed_0 := by decide +kernel
theorem dksX1_needed_1 : cX1_needed.data.toList.drop 24 = dktX1_needed_1 := dk_seg dksX1_needed_0 24 rfl rfl
theorem dksX1_needed_2 : cX1_needed.data.toList.drop 48 = dktX1_needed_2 := dk_seg dksX1_needed_1 24 rfl rfl
theorem dksX1_needed_3 : cX1_needed.data.toList.drop 72 = dktX1_needed_3 := dk_seg dksX1_needed_2 24 rfl rfl
theorem dksX1_needed_4 : cX1_needed.data.toList.drop 95 = dktX1_needed_4 := dk_seg dksX1_needed_3 23 rfl rfl
theorem dX1_needed_0 : decode cX1_needed 0 = .ok (.aload_n 0, 1) := dk_42 (dk_at dksX1_needed_0 0 rfl rfl)
theorem dX1_needed_1 : decode cX1_needed 1 = .ok (.invokevirtual 119, 3) := dk_182 0 119 (dk_at dksX1_needed_0 1 rfl rfl)
theorem dX1_needed_4 : decode cX1_needed 4 = .ok (.istore_n 2, 1) := dk_61 (dk_at dksX1_needed_0 4 rfl rfl)
theorem dX1_needed_5 : decode cX1_needed 5 = .ok (.iload_n 1, 1) := dk_27 (dk_at dksX1_needed_0 5 rfl rfl)
theorem dX1_needed_6 : decode cX1_needed 6 = .ok (.invokestatic 123, 3) := dk_184 0 123 (dk_at dksX1_needed_0 6 rfl rfl)
theorem dX1_needed_9 : decode cX1_needed 9 = .ok (.ifCond .eq 13, 3) := dk_153 0 13 (dk_at dksX1_needed_0 9 rfl rfl)
theorem dX1_needed_12 : decode cX1_needed 12 = .ok (.iload_n 2, 1) := dk_28 (dk_at dksX1_needed_0 12 rfl rfl)
theorem dX1_needed_13 : decode cX1_needed 13 = .ok (.iconst 1, 1) := dk_4 (dk_at dksX1_needed_0 13 rfl rfl)
theorem dX1_needed_14 : decode cX1_needed 14 = .ok (.bipush 8, 2) := dk_16 8 (dk_at dksX1_needed_0 14 rfl rfl)
theorem dX1_needed_16 : decode cX1_needed 16 = .ok (.invokestatic 3, 3) := dk_184 0 3 (dk_at dksX1_needed_0 16 rfl rfl)
theorem dX1_needed_19 : decode cX1_needed 19 = .ok (.ifCond .ne 5, 3) := dk_154 0 5 (dk_at dksX1_needed_0 19 rfl rfl)
theorem dX1_needed_22 : decode cX1_needed 22 = .ok (.iconst (-1), 1) := dk_2 (dk_at dksX1_needed_0 22 rfl rfl)
theorem dX1_needed_23 : decode cX1_needed 23 = .ok (.ireturn, 1) := dk_172 (dk_at dksX1_needed_0 23 rfl rfl)
theorem dX1_needed_24 : decode cX1_needed 24 = .ok (.iconst 0, 1) := dk_3 (dk_at dksX1_needed_1 0 rfl rfl)
theorem dX1_needed_25 : decode cX1_needed 25 = .ok (.istore_n 3, 1) := dk_62 (dk_at dksX1_needed_1 1 rfl rfl)
theorem dX1_needed_26 : decode cX1_needed 26 = .ok (.iload_n 3, 1) := dk_29 (dk_at dksX1_needed_1 2 rfl rfl)
theorem dX1_needed_27 : decode cX1_needed 27 = .ok (.iload_n 2, 1) := dk_28 (dk_at dksX1_needed_1 3 rfl rfl)
theorem dX1_needed_28 : decode cX1_needed 28 = .ok (.if_icmp .ge 26, 3) := dk_162 0 26 (dk_at dksX1_needed_1 4 rfl rfl)
theorem dX1_needed_31 : decode cX1_needed 31 = .ok (.aload_n 0, 1) := dk_42 (dk_at dksX1_needed_1 7 rfl rfl)
theorem dX1_needed_32 : decode cX1_needed 32 = .ok (.getfield 13, 3) := dk_180 0 13 (dk_at dksX1_needed_1 8 rfl rfl)
theorem dX1_needed_35 : decode cX1_needed 35 = .ok (.iload_n 3, 1) := dk_29 (dk_at dksX1_needed_1 11 rfl rfl)
theorem dX1_needed_36 : decode cX1_needed 36 = .ok (.baload, 1) := dk_51 (dk_at dksX1_needed_1 12 rfl rfl)
theorem dX1_needed_37 : decode cX1_needed 37 = .ok (.iconst 1, 1) := dk_4 (dk_at dksX1_needed_1 13 rfl rfl)
theorem dX1_needed_38 : decode cX1_needed 38 = .ok (.bipush 20, 2) := dk_16 20 (dk_at dksX1_needed_1 14 rfl rfl)
theorem dX1_needed_40 : decode cX1_needed 40 = .ok (.invokestatic 3, 3) := dk_184 0 3 (dk_at dksX1_needed_1 16 rfl rfl)
theorem dX1_needed_43 : decode cX1_needed 43 = .ok (.ifCond .ne 5, 3) := dk_154 0 5 (dk_at dksX1_needed_1 19 rfl rfl)
theorem dX1_needed_46 : decode cX1_needed 46 = .ok (.iconst (-1), 1) := dk_2 (dk_at dksX1_needed_1 22 rfl rfl)
theorem dX1_needed_47 : decode cX1_needed 47 = .ok (.ireturn, 1) := dk_172 (dk_at dksX1_needed_1 23 rfl rfl)
theorem dX1_needed_48 : decode cX1_needed 48 = .ok (.iinc 3 1, 3) := dk_132 3 1 (dk_at dksX1_needed_2 0 rfl rfl)
theorem dX1_needed_51 : decode cX1_needed 51 = .ok (.goto (-25), 3) := dk_167 255 231 (dk_at dksX1_needed_2 3 rfl rfl)
theorem dX1_needed_54 : decode cX1_needed 54 = .ok (.iload_n 2, 1) := dk_28 (dk_at dksX1_needed_2 6 rfl rfl)
theorem dX1_needed_55 : decode cX1_needed 55 = .ok (.iconst 1, 1) := dk_4 (dk_at dksX1_needed_2 7 rfl rfl)
theorem dX1_needed_56 : decode cX1_needed 56 = .ok (.iadd, 1) := dk_96 (dk_at dksX1_needed_2 8 rfl rfl)
theorem dX1_needed_57 : decode cX1_needed 57 = .ok (.istore_n 3, 1) := dk_62 (dk_at dksX1_needed_2 9 rfl rfl)
theorem dX1_needed_58 : decode cX1_needed 58 = .ok (.iconst 0, 1) := dk_3 (dk_at dksX1_needed_2 10 rfl rfl)
theorem dX1_needed_59 : decode cX1_needed 59 = .ok (.istore 4, 2) := dk_54 4 (dk_at dksX1_needed_2 11 rfl rfl)
theorem dX1_needed_61 : decode cX1_needed 61 = .ok (.iload 4, 2) := dk_21 4 (dk_at dksX1_needed_2 13 rfl rfl)
theorem dX1_needed_63 : decode cX1_needed 63 = .ok (.iconst 1, 1) := dk_4 (dk_at dksX1_needed_2 15 rfl rfl)
theorem dX1_needed_64 : decode cX1_needed 64 = .ok (.iload_n 2, 1) := dk_28 (dk_at dksX1_needed_2 16 rfl rfl)
theorem dX1_needed_65 : decode cX1_needed 65 = .ok (.ishl, 1) := dk_120 (dk_at dksX1_needed_2 17 rfl rfl)
theorem dX1_needed_66 : decode cX1_needed 66 = .ok (.if_icmp .ge 51, 3) := dk_162 0 51 (dk_at dksX1_needed_2 18 rfl rfl)
theorem dX1_needed_69 : decode cX1_needed 69 = .ok (.iload 4, 2) := dk_21 4 (dk_at dksX1_needed_2 21 rfl rfl)
theorem dX1_needed_71 : decode cX1_needed 71 = .ok (.i2l, 1) := dk_133 (dk_at dksX1_needed_2 23 rfl rfl)
theorem dX1_needed_72 : decode cX1_needed 72 = .ok (.invokestatic 257, 3) := dk_184 1 1 (dk_at dksX1_needed_3 0 rfl rfl)
theorem dX1_needed_75 : decode cX1_needed 75 = .ok (.iload_n 3, 1) := dk_29 (dk_at dksX1_needed_3 3 rfl rfl)
theorem dX1_needed_76 : decode cX1_needed 76 = .ok (.if_icmp .ge 35, 3) := dk_162 0 35 (dk_at dksX1_needed_3 4 rfl rfl)
theorem dX1_needed_79 : decode cX1_needed 79 = .ok (.aload_n 0, 1) := dk_42 (dk_at dksX1_needed_3 7 rfl rfl)
theorem dX1_needed_80 : decode cX1_needed 80 = .ok (.aload_n 0, 1) := dk_42 (dk_at dksX1_needed_3 8 rfl rfl)
theorem dX1_needed_81 : decode cX1_needed 81 = .ok (.getfield 19, 3) := dk_180 0 19 (dk_at dksX1_needed_3 9 rfl rfl)
theorem dX1_needed_84 : decode cX1_needed 84 = .ok (.iload_n 1, 1) := dk_27 (dk_at dksX1_needed_3 12 rfl rfl)
theorem dX1_needed_85 : decode cX1_needed 85 = .ok (.aaload, 1) := dk_50 (dk_at dksX1_needed_3 13 rfl rfl)
theorem dX1_needed_86 : decode cX1_needed 86 = .ok (.iload_n 2, 1) := dk_28 (dk_at dksX1_needed_3 14 rfl rfl)
theorem dX1_needed_87 : decode cX1_needed 87 = .ok (.iload 4, 2) := dk_21 4 (dk_at dksX1_needed_3 15 rfl rfl)
theorem dX1_needed_89 : decode cX1_needed 89 = .ok (.invokevirtual 330, 3) := dk_182 1 74 (dk_at dksX1_needed_3 17 rfl rfl)
theorem dX1_needed_92 : decode cX1_needed 92 = .ok (.ifCond .ne 6, 3) := dk_154 0 6 (dk_at dksX1_needed_3 20 rfl rfl)
theorem dX1_needed_95 : decode cX1_needed 95 = .ok (.goto 16, 3) := dk_167 0 16 (dk_at dksX1_needed_4 0 rfl rfl)
theorem dX1_needed_98 : decode cX1_needed 98 = .ok (.iload 4, 2) := dk_21 4 (dk_at dksX1_needed_4 3 rfl rfl)
theorem dX1_needed_100 : decode cX1_needed 100 = .ok (.i2l, 1) := dk_133 (dk_at dksX1_needed_4 5 rfl rfl)
theorem dX1_needed_101 : decode cX1_needed 101 = .ok (.invokestatic 257, 3) := dk_184 1 1 (dk_at dksX1_needed_4 6 rfl rfl)
theorem dX1_needed_104 : decode cX1_needed 104 = .ok (.istore_n 3, 1) := dk_62 (dk_at dksX1_needed_4 9 rfl rfl)
theorem dX1_needed_105 : decode cX1_needed 105 = .ok (.aload_n 0, 1) := dk_42 (dk_at dksX1_needed_4 10 rfl rfl)
theorem dX1_needed_106 : decode cX1_needed 106 = .ok (.iload 4, 2) := dk_21 4 (dk_at dksX1_needed_4 11 rfl rfl)
theorem dX1_needed_108 : decode cX1_needed 108 = .ok (.putfield 334, 3) := dk_181 1 78 (dk_at dksX1_needed_4 13 rfl rfl)
theorem dX1_needed_111 : decode cX1_needed 111 = .ok (.iinc 4 1, 3) := dk_132 4 1 (dk_at dksX1_needed_4 16 rfl rfl)
theorem dX1_needed_114 : decode cX1_needed 114 = .ok (.goto (-53), 3) := dk_167 255 203 (dk_at dksX1_needed_4 19 rfl rfl)
theorem dX1_needed_117 : decode cX1_needed 117 = .ok (.iload_n 3, 1) := dk_29 (dk_at dksX1_needed_4 22 rfl rfl)
theorem dX1_needed_118 : decode cX1_needed 118 = .ok (.ireturn, 1) := dk_172 (dk_at dksX1_needed_4 23 rfl rfl)
abbrev cX1_isOrdered : ByteArray := prog_1_method_48_code
def yX1_isOrdered : MethodName := ⟨RX1, "isOrdered", "(LPlugHall$Box;II)Z"⟩
def dkwX1_isOrdered_8 : List UInt8 := [164, 0, 5, 3, 172, 132, 5, 1, 167, 255, 138, 4, 172]
abbrev dktX1_isOrdered_8 : List UInt8 := dkwX1_isOrdered_8 ++ []
def dkwX1_isOrdered_7 : List UInt8 := [21, 6, 51, 184, 0, 218, 25, 4, 180, 0, 133, 21, 5, 50, 42, 180, 0, 13, 21, 6, 51, 184, 0, 218]
abbrev dktX1_isOrdered_7 : List UInt8 := dkwX1_isOrdered_7 ++ dktX1_isOrdered_8
def dkwX1_isOrdered_6 : List UInt8 := [167, 255, 206, 21, 6, 28, 162, 0, 46, 25, 4, 180, 0, 133, 21, 5, 4, 100, 50, 42, 180, 0, 13]
abbrev dktX1_isOrdered_6 : List UInt8 := dkwX1_isOrdered_6 ++ dktX1_isOrdered_7
def dkwX1_isOrdered_5 : List UInt8 := [25, 4, 180, 0, 133, 21, 5, 50, 42, 180, 0, 13, 21, 6, 51, 184, 0, 218, 160, 0, 9, 132, 6, 1]
abbrev dktX1_isOrdered_5 : List UInt8 := dkwX1_isOrdered_5 ++ dktX1_isOrdered_6
def dkwX1_isOrdered_4 : List UInt8 := [162, 0, 50, 25, 4, 180, 0, 133, 21, 5, 4, 100, 50, 42, 180, 0, 13, 21, 6, 51, 184, 0, 218]
abbrev dktX1_isOrdered_4 : List UInt8 := dkwX1_isOrdered_4 ++ dktX1_isOrdered_5
def dkwX1_isOrdered_3 : List UInt8 := [167, 255, 226, 4, 54, 5, 21, 5, 25, 4, 180, 0, 127, 162, 0, 114, 3, 54, 6, 21, 6, 28]
abbrev dktX1_isOrdered_3 : List UInt8 := dkwX1_isOrdered_3 ++ dktX1_isOrdered_4
def dkwX1_isOrdered_2 : List UInt8 := [21, 5, 122, 4, 126, 4, 160, 0, 15, 25, 4, 42, 180, 0, 13, 21, 5, 51, 184, 0, 214, 132, 5, 255]
abbrev dktX1_isOrdered_2 : List UInt8 := dkwX1_isOrdered_2 ++ dktX1_isOrdered_3
def dkwX1_isOrdered_1 : List UInt8 := [25, 4, 180, 0, 133, 3, 43, 180, 0, 127, 184, 1, 65, 28, 4, 100, 54, 5, 21, 5, 155, 0, 31, 29]
abbrev dktX1_isOrdered_1 : List UInt8 := dkwX1_isOrdered_1 ++ dktX1_isOrdered_2
def dkwX1_isOrdered_0 : List UInt8 := [187, 0, 17, 89, 183, 0, 111, 58, 4, 25, 4, 43, 180, 0, 127, 181, 0, 127, 43, 180, 0, 133, 3]
abbrev dktX1_isOrdered_0 : List UInt8 := dkwX1_isOrdered_0 ++ dktX1_isOrdered_1
theorem dksX1_isOrdered_0 : cX1_isOrdered.data.toList.drop 0 = dktX1_isOrdered_0 := by decide +kernel
theorem dksX1_isOrdered_1 : cX1_isOrdered.data.toList.drop 23 = dktX1_isOrdered_1 := dk_seg dksX1_isOrdered_0 23 rfl rfl
theorem dksX1_isOrdered_2 : cX1_isOrdered.data.toList.drop 47 = dktX1_isOrdered_2 := dk_seg dksX1_isOrdered_1 24 rfl rfl
theorem dksX1_isOrdered_3 : cX1_isOrdered.data.toList.drop 71 = dktX1_isOrdered_3 := dk_seg dksX1_isOrdered_2 24 rfl rfl
theorem dksX1_isOrdered_4 : cX1_isOrdered.data.toList.drop 93 = dktX1_isOrdered_4 := dk_seg dksX1_isOrdered_3 22 rfl rfl
theorem dksX1_isOrdered_5 : cX1_isOrdered.data.toList.drop 116 = dktX1_isOrdered_5 := dk_seg dksX1_isOrdered_4 23 rfl rfl
theorem dksX1_isOrdered_6 : cX1_isOrdered.data.toList.drop 140 = dktX1_isOrdered_6 := dk_seg dksX1_isOrdered_5 24 rfl rfl
theorem dksX1_isOrdered_7 : cX1_isOrdered.data.toList.drop 163 = dktX1_isOrdered_7 := dk_seg dksX1_isOrdered_6 23 rfl rfl
theorem dksX1_isOrdered_8 : cX1_isOrdered.data.toList.drop 187 = dktX1_isOrdered_8 := dk_seg dksX1_isOrdered_7 24 rfl rfl
theorem dX1_isOrdered_0 : decode cX1_isOrdered 0 = .ok (.new 17, 3) := dk_187 0 17 (dk_at dksX1_isOrdered_0 0 rfl rfl)
theorem dX1_isOrdered_3 : decode cX1_isOrdered 3 = .ok (.dup, 1) := dk_89 (dk_at dksX1_isOrdered_0 3 rfl rfl)
theorem dX1_isOrdered_4 : decode cX1_isOrdered 4 = .ok (.invokespecial 111, 3) := dk_183 0 111 (dk_at dksX1_isOrdered_0 4 rfl rfl)
theorem dX1_isOrdered_7 : decode cX1_isOrdered 7 = .ok (.astore 4, 2) := dk_58 4 (dk_at dksX1_isOrdered_0 7 rfl rfl)
theorem dX1_isOrdered_9 : decode cX1_isOrdered 9 = .ok (.aload 4, 2) := dk_25 4 (dk_at dksX1_isOrdered_0 9 rfl rfl)
theorem dX1_isOrdered_11 : decode cX1_isOrdered 11 = .ok (.aload_n 1, 1) := dk_43 (dk_at dksX1_isOrdered_0 11 rfl rfl)
theorem dX1_isOrdered_12 : decode cX1_isOrdered 12 = .ok (.getfield 127, 3) := dk_180 0 127 (dk_at dksX1_isOrdered_0 12 rfl rfl)
theorem dX1_isOrdered_15 : decode cX1_isOrdered 15 = .ok (.putfield 127, 3) := dk_181 0 127 (dk_at dksX1_isOrdered_0 15 rfl rfl)
theorem dX1_isOrdered_18 : decode cX1_isOrdered 18 = .ok (.aload_n 1, 1) := dk_43 (dk_at dksX1_isOrdered_0 18 rfl rfl)
theorem dX1_isOrdered_19 : decode cX1_isOrdered 19 = .ok (.getfield 133, 3) := dk_180 0 133 (dk_at dksX1_isOrdered_0 19 rfl rfl)
theorem dX1_isOrdered_22 : decode cX1_isOrdered 22 = .ok (.iconst 0, 1) := dk_3 (dk_at dksX1_isOrdered_0 22 rfl rfl)
theorem dX1_isOrdered_23 : decode cX1_isOrdered 23 = .ok (.aload 4, 2) := dk_25 4 (dk_at dksX1_isOrdered_1 0 rfl rfl)
theorem dX1_isOrdered_25 : decode cX1_isOrdered 25 = .ok (.getfield 133, 3) := dk_180 0 133 (dk_at dksX1_isOrdered_1 2 rfl rfl)
theorem dX1_isOrdered_28 : decode cX1_isOrdered 28 = .ok (.iconst 0, 1) := dk_3 (dk_at dksX1_isOrdered_1 5 rfl rfl)
theorem dX1_isOrdered_29 : decode cX1_isOrdered 29 = .ok (.aload_n 1, 1) := dk_43 (dk_at dksX1_isOrdered_1 6 rfl rfl)
theorem dX1_isOrdered_30 : decode cX1_isOrdered 30 = .ok (.getfield 127, 3) := dk_180 0 127 (dk_at dksX1_isOrdered_1 7 rfl rfl)
theorem dX1_isOrdered_33 : decode cX1_isOrdered 33 = .ok (.invokestatic 321, 3) := dk_184 1 65 (dk_at dksX1_isOrdered_1 10 rfl rfl)
theorem dX1_isOrdered_36 : decode cX1_isOrdered 36 = .ok (.iload_n 2, 1) := dk_28 (dk_at dksX1_isOrdered_1 13 rfl rfl)
theorem dX1_isOrdered_37 : decode cX1_isOrdered 37 = .ok (.iconst 1, 1) := dk_4 (dk_at dksX1_isOrdered_1 14 rfl rfl)
theorem dX1_isOrdered_38 : decode cX1_isOrdered 38 = .ok (.isub, 1) := dk_100 (dk_at dksX1_isOrdered_1 15 rfl rfl)
theorem dX1_isOrdered_39 : decode cX1_isOrdered 39 = .ok (.istore 5, 2) := dk_54 5 (dk_at dksX1_isOrdered_1 16 rfl rfl)
theorem dX1_isOrdered_41 : decode cX1_isOrdered 41 = .ok (.iload 5, 2) := dk_21 5 (dk_at dksX1_isOrdered_1 18 rfl rfl)
theorem dX1_isOrdered_43 : decode cX1_isOrdered 43 = .ok (.ifCond .lt 31, 3) := dk_155 0 31 (dk_at dksX1_isOrdered_1 20 rfl rfl)
theorem dX1_isOrdered_46 : decode cX1_isOrdered 46 = .ok (.iload_n 3, 1) := dk_29 (dk_at dksX1_isOrdered_1 23 rfl rfl)
theorem dX1_isOrdered_47 : decode cX1_isOrdered 47 = .ok (.iload 5, 2) := dk_21 5 (dk_at dksX1_isOrdered_2 0 rfl rfl)
theorem dX1_isOrdered_49 : decode cX1_isOrdered 49 = .ok (.ishr, 1) := dk_122 (dk_at dksX1_isOrdered_2 2 rfl rfl)
theorem dX1_isOrdered_50 : decode cX1_isOrdered 50 = .ok (.iconst 1, 1) := dk_4 (dk_at dksX1_isOrdered_2 3 rfl rfl)
theorem dX1_isOrdered_51 : decode cX1_isOrdered 51 = .ok (.iand, 1) := dk_126 (dk_at dksX1_isOrdered_2 4 rfl rfl)
theorem dX1_isOrdered_52 : decode cX1_isOrdered 52 = .ok (.iconst 1, 1) := dk_4 (dk_at dksX1_isOrdered_2 5 rfl rfl)
theorem dX1_isOrdered_53 : decode cX1_isOrdered 53 = .ok (.if_icmp .ne 15, 3) := dk_160 0 15 (dk_at dksX1_isOrdered_2 6 rfl rfl)
theorem dX1_isOrdered_56 : decode cX1_isOrdered 56 = .ok (.aload 4, 2) := dk_25 4 (dk_at dksX1_isOrdered_2 9 rfl rfl)
theorem dX1_isOrdered_58 : decode cX1_isOrdered 58 = .ok (.aload_n 0, 1) := dk_42 (dk_at dksX1_isOrdered_2 11 rfl rfl)
theorem dX1_isOrdered_59 : decode cX1_isOrdered 59 = .ok (.getfield 13, 3) := dk_180 0 13 (dk_at dksX1_isOrdered_2 12 rfl rfl)
theorem dX1_isOrdered_62 : decode cX1_isOrdered 62 = .ok (.iload 5, 2) := dk_21 5 (dk_at dksX1_isOrdered_2 15 rfl rfl)
theorem dX1_isOrdered_64 : decode cX1_isOrdered 64 = .ok (.baload, 1) := dk_51 (dk_at dksX1_isOrdered_2 17 rfl rfl)
theorem dX1_isOrdered_65 : decode cX1_isOrdered 65 = .ok (.invokestatic 214, 3) := dk_184 0 214 (dk_at dksX1_isOrdered_2 18 rfl rfl)
theorem dX1_isOrdered_68 : decode cX1_isOrdered 68 = .ok (.iinc 5 (-1), 3) := dk_132 5 255 (dk_at dksX1_isOrdered_2 21 rfl rfl)
theorem dX1_isOrdered_71 : decode cX1_isOrdered 71 = .ok (.goto (-30), 3) := dk_167 255 226 (dk_at dksX1_isOrdered_3 0 rfl rfl)
theorem dX1_isOrdered_74 : decode cX1_isOrdered 74 = .ok (.iconst 1, 1) := dk_4 (dk_at dksX1_isOrdered_3 3 rfl rfl)
theorem dX1_isOrdered_75 : decode cX1_isOrdered 75 = .ok (.istore 5, 2) := dk_54 5 (dk_at dksX1_isOrdered_3 4 rfl rfl)
theorem dX1_isOrdered_77 : decode cX1_isOrdered 77 = .ok (.iload 5, 2) := dk_21 5 (dk_at dksX1_isOrdered_3 6 rfl rfl)
theorem dX1_isOrdered_79 : decode cX1_isOrdered 79 = .ok (.aload 4, 2) := dk_25 4 (dk_at dksX1_isOrdered_3 8 rfl rfl)
theorem dX1_isOrdered_81 : decode cX1_isOrdered 81 = .ok (.getfield 127, 3) := dk_180 0 127 (dk_at dksX1_isOrdered_3 10 rfl rfl)
theorem dX1_isOrdered_84 : decode cX1_isOrdered 84 = .ok (.if_icmp .ge 114, 3) := dk_162 0 114 (dk_at dksX1_isOrdered_3 13 rfl rfl)
theorem dX1_isOrdered_87 : decode cX1_isOrdered 87 = .ok (.iconst 0, 1) := dk_3 (dk_at dksX1_isOrdered_3 16 rfl rfl)
theorem dX1_isOrdered_88 : decode cX1_isOrdered 88 = .ok (.istore 6, 2) := dk_54 6 (dk_at dksX1_isOrdered_3 17 rfl rfl)
theorem dX1_isOrdered_90 : decode cX1_isOrdered 90 = .ok (.iload 6, 2) := dk_21 6 (dk_at dksX1_isOrdered_3 19 rfl rfl)
theorem dX1_isOrdered_92 : decode cX1_isOrdered 92 = .ok (.iload_n 2, 1) := dk_28 (dk_at dksX1_isOrdered_3 21 rfl rfl)
theorem dX1_isOrdered_93 : decode cX1_isOrdered 93 = .ok (.if_icmp .ge 50, 3) := dk_162 0 50 (dk_at dksX1_isOrdered_4 0 rfl rfl)
theorem dX1_isOrdered_96 : decode cX1_isOrdered 96 = .ok (.aload 4, 2) := dk_25 4 (dk_at dksX1_isOrdered_4 3 rfl rfl)
theorem dX1_isOrdered_98 : decode cX1_isOrdered 98 = .ok (.getfield 133, 3) := dk_180 0 133 (dk_at dksX1_isOrdered_4 5 rfl rfl)
theorem dX1_isOrdered_101 : decode cX1_isOrdered 101 = .ok (.iload 5, 2) := dk_21 5 (dk_at dksX1_isOrdered_4 8 rfl rfl)
theorem dX1_isOrdered_103 : decode cX1_isOrdered 103 = .ok (.iconst 1, 1) := dk_4 (dk_at dksX1_isOrdered_4 10 rfl rfl)
theorem dX1_isOrdered_104 : decode cX1_isOrdered 104 = .ok (.isub, 1) := dk_100 (dk_at dksX1_isOrdered_4 11 rfl rfl)
theorem dX1_isOrdered_105 : decode cX1_isOrdered 105 = .ok (.aaload, 1) := dk_50 (dk_at dksX1_isOrdered_4 12 rfl rfl)
theorem dX1_isOrdered_106 : decode cX1_isOrdered 106 = .ok (.aload_n 0, 1) := dk_42 (dk_at dksX1_isOrdered_4 13 rfl rfl)
theorem dX1_isOrdered_107 : decode cX1_isOrdered 107 = .ok (.getfield 13, 3) := dk_180 0 13 (dk_at dksX1_isOrdered_4 14 rfl rfl)
theorem dX1_isOrdered_110 : decode cX1_isOrdered 110 = .ok (.iload 6, 2) := dk_21 6 (dk_at dksX1_isOrdered_4 17 rfl rfl)
theorem dX1_isOrdered_112 : decode cX1_isOrdered 112 = .ok (.baload, 1) := dk_51 (dk_at dksX1_isOrdered_4 19 rfl rfl)
theorem dX1_isOrdered_113 : decode cX1_isOrdered 113 = .ok (.invokestatic 218, 3) := dk_184 0 218 (dk_at dksX1_isOrdered_4 20 rfl rfl)
theorem dX1_isOrdered_116 : decode cX1_isOrdered 116 = .ok (.aload 4, 2) := dk_25 4 (dk_at dksX1_isOrdered_5 0 rfl rfl)
theorem dX1_isOrdered_118 : decode cX1_isOrdered 118 = .ok (.getfield 133, 3) := dk_180 0 133 (dk_at dksX1_isOrdered_5 2 rfl rfl)
theorem dX1_isOrdered_121 : decode cX1_isOrdered 121 = .ok (.iload 5, 2) := dk_21 5 (dk_at dksX1_isOrdered_5 5 rfl rfl)
theorem dX1_isOrdered_123 : decode cX1_isOrdered 123 = .ok (.aaload, 1) := dk_50 (dk_at dksX1_isOrdered_5 7 rfl rfl)
theorem dX1_isOrdered_124 : decode cX1_isOrdered 124 = .ok (.aload_n 0, 1) := dk_42 (dk_at dksX1_isOrdered_5 8 rfl rfl)
theorem dX1_isOrdered_125 : decode cX1_isOrdered 125 = .ok (.getfield 13, 3) := dk_180 0 13 (dk_at dksX1_isOrdered_5 9 rfl rfl)
theorem dX1_isOrdered_128 : decode cX1_isOrdered 128 = .ok (.iload 6, 2) := dk_21 6 (dk_at dksX1_isOrdered_5 12 rfl rfl)
theorem dX1_isOrdered_130 : decode cX1_isOrdered 130 = .ok (.baload, 1) := dk_51 (dk_at dksX1_isOrdered_5 14 rfl rfl)
theorem dX1_isOrdered_131 : decode cX1_isOrdered 131 = .ok (.invokestatic 218, 3) := dk_184 0 218 (dk_at dksX1_isOrdered_5 15 rfl rfl)
theorem dX1_isOrdered_134 : decode cX1_isOrdered 134 = .ok (.if_icmp .ne 9, 3) := dk_160 0 9 (dk_at dksX1_isOrdered_5 18 rfl rfl)
theorem dX1_isOrdered_137 : decode cX1_isOrdered 137 = .ok (.iinc 6 1, 3) := dk_132 6 1 (dk_at dksX1_isOrdered_5 21 rfl rfl)
theorem dX1_isOrdered_140 : decode cX1_isOrdered 140 = .ok (.goto (-50), 3) := dk_167 255 206 (dk_at dksX1_isOrdered_6 0 rfl rfl)
theorem dX1_isOrdered_143 : decode cX1_isOrdered 143 = .ok (.iload 6, 2) := dk_21 6 (dk_at dksX1_isOrdered_6 3 rfl rfl)
theorem dX1_isOrdered_145 : decode cX1_isOrdered 145 = .ok (.iload_n 2, 1) := dk_28 (dk_at dksX1_isOrdered_6 5 rfl rfl)
theorem dX1_isOrdered_146 : decode cX1_isOrdered 146 = .ok (.if_icmp .ge 46, 3) := dk_162 0 46 (dk_at dksX1_isOrdered_6 6 rfl rfl)
theorem dX1_isOrdered_149 : decode cX1_isOrdered 149 = .ok (.aload 4, 2) := dk_25 4 (dk_at dksX1_isOrdered_6 9 rfl rfl)
theorem dX1_isOrdered_151 : decode cX1_isOrdered 151 = .ok (.getfield 133, 3) := dk_180 0 133 (dk_at dksX1_isOrdered_6 11 rfl rfl)
theorem dX1_isOrdered_154 : decode cX1_isOrdered 154 = .ok (.iload 5, 2) := dk_21 5 (dk_at dksX1_isOrdered_6 14 rfl rfl)
theorem dX1_isOrdered_156 : decode cX1_isOrdered 156 = .ok (.iconst 1, 1) := dk_4 (dk_at dksX1_isOrdered_6 16 rfl rfl)
theorem dX1_isOrdered_157 : decode cX1_isOrdered 157 = .ok (.isub, 1) := dk_100 (dk_at dksX1_isOrdered_6 17 rfl rfl)
theorem dX1_isOrdered_158 : decode cX1_isOrdered 158 = .ok (.aaload, 1) := dk_50 (dk_at dksX1_isOrdered_6 18 rfl rfl)
theorem dX1_isOrdered_159 : decode cX1_isOrdered 159 = .ok (.aload_n 0, 1) := dk_42 (dk_at dksX1_isOrdered_6 19 rfl rfl)
theorem dX1_isOrdered_160 : decode cX1_isOrdered 160 = .ok (.getfield 13, 3) := dk_180 0 13 (dk_at dksX1_isOrdered_6 20 rfl rfl)
theorem dX1_isOrdered_163 : decode cX1_isOrdered 163 = .ok (.iload 6, 2) := dk_21 6 (dk_at dksX1_isOrdered_7 0 rfl rfl)
theorem dX1_isOrdered_165 : decode cX1_isOrdered 165 = .ok (.baload, 1) := dk_51 (dk_at dksX1_isOrdered_7 2 rfl rfl)
theorem dX1_isOrdered_166 : decode cX1_isOrdered 166 = .ok (.invokestatic 218, 3) := dk_184 0 218 (dk_at dksX1_isOrdered_7 3 rfl rfl)
theorem dX1_isOrdered_169 : decode cX1_isOrdered 169 = .ok (.aload 4, 2) := dk_25 4 (dk_at dksX1_isOrdered_7 6 rfl rfl)
theorem dX1_isOrdered_171 : decode cX1_isOrdered 171 = .ok (.getfield 133, 3) := dk_180 0 133 (dk_at dksX1_isOrdered_7 8 rfl rfl)
theorem dX1_isOrdered_174 : decode cX1_isOrdered 174 = .ok (.iload 5, 2) := dk_21 5 (dk_at dksX1_isOrdered_7 11 rfl rfl)
theorem dX1_isOrdered_176 : decode cX1_isOrdered 176 = .ok (.aaload, 1) := dk_50 (dk_at dksX1_isOrdered_7 13 rfl rfl)
theorem dX1_isOrdered_177 : decode cX1_isOrdered 177 = .ok (.aload_n 0, 1) := dk_42 (dk_at dksX1_isOrdered_7 14 rfl rfl)
theorem dX1_isOrdered_178 : decode cX1_isOrdered 178 = .ok (.getfield 13, 3) := dk_180 0 13 (dk_at dksX1_isOrdered_7 15 rfl rfl)
theorem dX1_isOrdered_181 : decode cX1_isOrdered 181 = .ok (.iload 6, 2) := dk_21 6 (dk_at dksX1_isOrdered_7 18 rfl rfl)
theorem dX1_isOrdered_183 : decode cX1_isOrdered 183 = .ok (.baload, 1) := dk_51 (dk_at dksX1_isOrdered_7 20 rfl rfl)
theorem dX1_isOrdered_184 : decode cX1_isOrdered 184 = .ok (.invokestatic 218, 3) := dk_184 0 218 (dk_at dksX1_isOrdered_7 21 rfl rfl)
theorem dX1_isOrdered_187 : decode cX1_isOrdered 187 = .ok (.if_icmp .le 5, 3) := dk_164 0 5 (dk_at dksX1_isOrdered_8 0 rfl rfl)
theorem dX1_isOrdered_190 : decode cX1_isOrdered 190 = .ok (.iconst 0, 1) := dk_3 (dk_at dksX1_isOrdered_8 3 rfl rfl)
theorem dX1_isOrdered_191 : decode cX1_isOrdered 191 = .ok (.ireturn, 1) := dk_172 (dk_at dksX1_isOrdered_8 4 rfl rfl)
theorem dX1_isOrdered_192 : decode cX1_isOrdered 192 = .ok (.iinc 5 1, 3) := dk_132 5 1 (dk_at dksX1_isOrdered_8 5 rfl rfl)
theorem dX1_isOrdered_195 : decode cX1_isOrdered 195 = .ok (.goto (-118), 3) := dk_167 255 138 (dk_at dksX1_isOrdered_8 8 rfl rfl)
theorem dX1_isOrdered_198 : decode cX1_isOrdered 198 = .ok (.iconst 1, 1) := dk_4 (dk_at dksX1_isOrdered_8 11 rfl rfl)
theorem dX1_isOrdered_199 : decode cX1_isOrdered 199 = .ok (.ireturn, 1) := dk_172 (dk_at dksX1_isOrdered_8 12 rfl rfl)
abbrev cX1_neededSet : ByteArray := prog_1_method_49_code
def yX1_neededSet : MethodName := ⟨RX1, "neededSet", "()I"⟩
theorem dX1_neededSet_0 : decode cX1_neededSet 0 = .ok (.aload_n 0, 1) := by decide +kernel
theorem dX1_neededSet_1 : decode cX1_neededSet 1 = .ok (.getfield 334, 3) := by decide +kernel
theorem dX1_neededSet_4 : decode cX1_neededSet 4 = .ok (.ireturn, 1) := by decide +kernel
abbrev cX1_unseen : ByteArray := prog_1_method_50_code
def yX1_unseen : MethodName := ⟨RX1, "unseen", "(I)I"⟩
def dkwX1_unseen_7 : List UInt8 := [180, 1, 81, 172]
abbrev dktX1_unseen_7 : List UInt8 := dkwX1_unseen_7 ++ []
def dkwX1_unseen_6 : List UInt8 := [42, 180, 1, 81, 21, 4, 79, 42, 89, 180, 1, 81, 4, 96, 181, 1, 81, 132, 4, 1, 167, 255, 139, 42]
abbrev dktX1_unseen_6 : List UInt8 := dkwX1_unseen_6 ++ dktX1_unseen_7
def dkwX1_unseen_5 : List UInt8 := [182, 0, 173, 42, 180, 0, 47, 42, 180, 0, 44, 182, 0, 229, 154, 0, 6, 167, 0, 24, 42, 180, 0, 78]
abbrev dktX1_unseen_5 : List UInt8 := dkwX1_unseen_5 ++ dktX1_unseen_6
def dkwX1_unseen_4 : List UInt8 := [180, 0, 33, 42, 180, 0, 26, 2, 45, 3, 44, 180, 0, 127, 4, 100, 16, 40, 42, 180, 0, 47]
abbrev dktX1_unseen_4 : List UInt8 := dkwX1_unseen_4 ++ dktX1_unseen_5
def dkwX1_unseen_3 : List UInt8 := [21, 4, 5, 96, 45, 21, 4, 4, 96, 44, 180, 0, 127, 21, 4, 100, 5, 100, 184, 1, 65, 42]
abbrev dktX1_unseen_3 : List UInt8 := dkwX1_unseen_3 ++ dktX1_unseen_4
def dkwX1_unseen_2 : List UInt8 := [180, 0, 127, 162, 0, 112, 44, 180, 0, 133, 3, 45, 3, 21, 4, 4, 96, 184, 1, 65, 44, 180, 0, 133]
abbrev dktX1_unseen_2 : List UInt8 := dkwX1_unseen_2 ++ dktX1_unseen_3
def dkwX1_unseen_1 : List UInt8 := [182, 0, 225, 42, 3, 181, 1, 81, 16, 40, 189, 1, 84, 78, 3, 54, 4, 21, 4, 4, 96, 44]
abbrev dktX1_unseen_1 : List UInt8 := dkwX1_unseen_1 ++ dktX1_unseen_2
def dkwX1_unseen_0 : List UInt8 := [27, 184, 0, 123, 154, 0, 5, 2, 172, 42, 180, 0, 19, 27, 50, 77, 42, 44, 2, 42, 180, 0, 44]
abbrev dktX1_unseen_0 : List UInt8 := dkwX1_unseen_0 ++ dktX1_unseen_1
theorem dksX1_unseen_0 : cX1_unseen.data.toList.drop 0 = dktX1_unseen_0 := by decide +kernel
theorem dksX1_unseen_1 : cX1_unseen.data.toList.drop 23 = dktX1_unseen_1 := dk_seg dksX1_unseen_0 23 rfl rfl
theorem dksX1_unseen_2 : cX1_unseen.data.toList.drop 45 = dktX1_unseen_2 := dk_seg dksX1_unseen_1 22 rfl rfl
theorem dksX1_unseen_3 : cX1_unseen.data.toList.drop 69 = dktX1_unseen_3 := dk_seg dksX1_unseen_2 24 rfl rfl
theorem dksX1_unseen_4 : cX1_unseen.data.toList.drop 91 = dktX1_unseen_4 := dk_seg dksX1_unseen_3 22 rfl rfl
theorem dksX1_unseen_5 : cX1_unseen.data.toList.drop 113 = dktX1_unseen_5 := dk_seg dksX1_unseen_4 22 rfl rfl
theorem dksX1_unseen_6 : cX1_unseen.data.toList.drop 137 = dktX1_unseen_6 := dk_seg dksX1_unseen_5 24 rfl rfl
theorem dksX1_unseen_7 : cX1_unseen.data.toList.drop 161 = dktX1_unseen_7 := dk_seg dksX1_unseen_6 24 rfl rfl
theorem dX1_unseen_0 : decode cX1_unseen 0 = .ok (.iload_n 1, 1) := dk_27 (dk_at dksX1_unseen_0 0 rfl rfl)
theorem dX1_unseen_1 : decode cX1_unseen 1 = .ok (.invokestatic 123, 3) := dk_184 0 123 (dk_at dksX1_unseen_0 1 rfl rfl)
theorem dX1_unseen_4 : decode cX1_unseen 4 = .ok (.ifCond .ne 5, 3) := dk_154 0 5 (dk_at dksX1_unseen_0 4 rfl rfl)
theorem dX1_unseen_7 : decode cX1_unseen 7 = .ok (.iconst (-1), 1) := dk_2 (dk_at dksX1_unseen_0 7 rfl rfl)
theorem dX1_unseen_8 : decode cX1_unseen 8 = .ok (.ireturn, 1) := dk_172 (dk_at dksX1_unseen_0 8 rfl rfl)
theorem dX1_unseen_9 : decode cX1_unseen 9 = .ok (.aload_n 0, 1) := dk_42 (dk_at dksX1_unseen_0 9 rfl rfl)
theorem dX1_unseen_10 : decode cX1_unseen 10 = .ok (.getfield 19, 3) := dk_180 0 19 (dk_at dksX1_unseen_0 10 rfl rfl)
theorem dX1_unseen_13 : decode cX1_unseen 13 = .ok (.iload_n 1, 1) := dk_27 (dk_at dksX1_unseen_0 13 rfl rfl)
theorem dX1_unseen_14 : decode cX1_unseen 14 = .ok (.aaload, 1) := dk_50 (dk_at dksX1_unseen_0 14 rfl rfl)
theorem dX1_unseen_15 : decode cX1_unseen 15 = .ok (.astore_n 2, 1) := dk_77 (dk_at dksX1_unseen_0 15 rfl rfl)
theorem dX1_unseen_16 : decode cX1_unseen 16 = .ok (.aload_n 0, 1) := dk_42 (dk_at dksX1_unseen_0 16 rfl rfl)
theorem dX1_unseen_17 : decode cX1_unseen 17 = .ok (.aload_n 2, 1) := dk_44 (dk_at dksX1_unseen_0 17 rfl rfl)
theorem dX1_unseen_18 : decode cX1_unseen 18 = .ok (.iconst (-1), 1) := dk_2 (dk_at dksX1_unseen_0 18 rfl rfl)
theorem dX1_unseen_19 : decode cX1_unseen 19 = .ok (.aload_n 0, 1) := dk_42 (dk_at dksX1_unseen_0 19 rfl rfl)
theorem dX1_unseen_20 : decode cX1_unseen 20 = .ok (.getfield 44, 3) := dk_180 0 44 (dk_at dksX1_unseen_0 20 rfl rfl)
theorem dX1_unseen_23 : decode cX1_unseen 23 = .ok (.invokevirtual 225, 3) := dk_182 0 225 (dk_at dksX1_unseen_1 0 rfl rfl)
theorem dX1_unseen_26 : decode cX1_unseen 26 = .ok (.aload_n 0, 1) := dk_42 (dk_at dksX1_unseen_1 3 rfl rfl)
theorem dX1_unseen_27 : decode cX1_unseen 27 = .ok (.iconst 0, 1) := dk_3 (dk_at dksX1_unseen_1 4 rfl rfl)
theorem dX1_unseen_28 : decode cX1_unseen 28 = .ok (.putfield 337, 3) := dk_181 1 81 (dk_at dksX1_unseen_1 5 rfl rfl)
theorem dX1_unseen_31 : decode cX1_unseen 31 = .ok (.bipush 40, 2) := dk_16 40 (dk_at dksX1_unseen_1 8 rfl rfl)
theorem dX1_unseen_33 : decode cX1_unseen 33 = .ok (.anewarray 340, 3) := dk_189 1 84 (dk_at dksX1_unseen_1 10 rfl rfl)
theorem dX1_unseen_36 : decode cX1_unseen 36 = .ok (.astore_n 3, 1) := dk_78 (dk_at dksX1_unseen_1 13 rfl rfl)
theorem dX1_unseen_37 : decode cX1_unseen 37 = .ok (.iconst 0, 1) := dk_3 (dk_at dksX1_unseen_1 14 rfl rfl)
theorem dX1_unseen_38 : decode cX1_unseen 38 = .ok (.istore 4, 2) := dk_54 4 (dk_at dksX1_unseen_1 15 rfl rfl)
theorem dX1_unseen_40 : decode cX1_unseen 40 = .ok (.iload 4, 2) := dk_21 4 (dk_at dksX1_unseen_1 17 rfl rfl)
theorem dX1_unseen_42 : decode cX1_unseen 42 = .ok (.iconst 1, 1) := dk_4 (dk_at dksX1_unseen_1 19 rfl rfl)
theorem dX1_unseen_43 : decode cX1_unseen 43 = .ok (.iadd, 1) := dk_96 (dk_at dksX1_unseen_1 20 rfl rfl)
theorem dX1_unseen_44 : decode cX1_unseen 44 = .ok (.aload_n 2, 1) := dk_44 (dk_at dksX1_unseen_1 21 rfl rfl)
theorem dX1_unseen_45 : decode cX1_unseen 45 = .ok (.getfield 127, 3) := dk_180 0 127 (dk_at dksX1_unseen_2 0 rfl rfl)
theorem dX1_unseen_48 : decode cX1_unseen 48 = .ok (.if_icmp .ge 112, 3) := dk_162 0 112 (dk_at dksX1_unseen_2 3 rfl rfl)
theorem dX1_unseen_51 : decode cX1_unseen 51 = .ok (.aload_n 2, 1) := dk_44 (dk_at dksX1_unseen_2 6 rfl rfl)
theorem dX1_unseen_52 : decode cX1_unseen 52 = .ok (.getfield 133, 3) := dk_180 0 133 (dk_at dksX1_unseen_2 7 rfl rfl)
theorem dX1_unseen_55 : decode cX1_unseen 55 = .ok (.iconst 0, 1) := dk_3 (dk_at dksX1_unseen_2 10 rfl rfl)
theorem dX1_unseen_56 : decode cX1_unseen 56 = .ok (.aload_n 3, 1) := dk_45 (dk_at dksX1_unseen_2 11 rfl rfl)
theorem dX1_unseen_57 : decode cX1_unseen 57 = .ok (.iconst 0, 1) := dk_3 (dk_at dksX1_unseen_2 12 rfl rfl)
theorem dX1_unseen_58 : decode cX1_unseen 58 = .ok (.iload 4, 2) := dk_21 4 (dk_at dksX1_unseen_2 13 rfl rfl)
theorem dX1_unseen_60 : decode cX1_unseen 60 = .ok (.iconst 1, 1) := dk_4 (dk_at dksX1_unseen_2 15 rfl rfl)
theorem dX1_unseen_61 : decode cX1_unseen 61 = .ok (.iadd, 1) := dk_96 (dk_at dksX1_unseen_2 16 rfl rfl)
theorem dX1_unseen_62 : decode cX1_unseen 62 = .ok (.invokestatic 321, 3) := dk_184 1 65 (dk_at dksX1_unseen_2 17 rfl rfl)
theorem dX1_unseen_65 : decode cX1_unseen 65 = .ok (.aload_n 2, 1) := dk_44 (dk_at dksX1_unseen_2 20 rfl rfl)
theorem dX1_unseen_66 : decode cX1_unseen 66 = .ok (.getfield 133, 3) := dk_180 0 133 (dk_at dksX1_unseen_2 21 rfl rfl)
theorem dX1_unseen_69 : decode cX1_unseen 69 = .ok (.iload 4, 2) := dk_21 4 (dk_at dksX1_unseen_3 0 rfl rfl)
theorem dX1_unseen_71 : decode cX1_unseen 71 = .ok (.iconst 2, 1) := dk_5 (dk_at dksX1_unseen_3 2 rfl rfl)
theorem dX1_unseen_72 : decode cX1_unseen 72 = .ok (.iadd, 1) := dk_96 (dk_at dksX1_unseen_3 3 rfl rfl)
theorem dX1_unseen_73 : decode cX1_unseen 73 = .ok (.aload_n 3, 1) := dk_45 (dk_at dksX1_unseen_3 4 rfl rfl)
theorem dX1_unseen_74 : decode cX1_unseen 74 = .ok (.iload 4, 2) := dk_21 4 (dk_at dksX1_unseen_3 5 rfl rfl)
theorem dX1_unseen_76 : decode cX1_unseen 76 = .ok (.iconst 1, 1) := dk_4 (dk_at dksX1_unseen_3 7 rfl rfl)
theorem dX1_unseen_77 : decode cX1_unseen 77 = .ok (.iadd, 1) := dk_96 (dk_at dksX1_unseen_3 8 rfl rfl)
theorem dX1_unseen_78 : decode cX1_unseen 78 = .ok (.aload_n 2, 1) := dk_44 (dk_at dksX1_unseen_3 9 rfl rfl)
theorem dX1_unseen_79 : decode cX1_unseen 79 = .ok (.getfield 127, 3) := dk_180 0 127 (dk_at dksX1_unseen_3 10 rfl rfl)
theorem dX1_unseen_82 : decode cX1_unseen 82 = .ok (.iload 4, 2) := dk_21 4 (dk_at dksX1_unseen_3 13 rfl rfl)
theorem dX1_unseen_84 : decode cX1_unseen 84 = .ok (.isub, 1) := dk_100 (dk_at dksX1_unseen_3 15 rfl rfl)
theorem dX1_unseen_85 : decode cX1_unseen 85 = .ok (.iconst 2, 1) := dk_5 (dk_at dksX1_unseen_3 16 rfl rfl)
theorem dX1_unseen_86 : decode cX1_unseen 86 = .ok (.isub, 1) := dk_100 (dk_at dksX1_unseen_3 17 rfl rfl)
theorem dX1_unseen_87 : decode cX1_unseen 87 = .ok (.invokestatic 321, 3) := dk_184 1 65 (dk_at dksX1_unseen_3 18 rfl rfl)
theorem dX1_unseen_90 : decode cX1_unseen 90 = .ok (.aload_n 0, 1) := dk_42 (dk_at dksX1_unseen_3 21 rfl rfl)
theorem dX1_unseen_91 : decode cX1_unseen 91 = .ok (.getfield 33, 3) := dk_180 0 33 (dk_at dksX1_unseen_4 0 rfl rfl)
theorem dX1_unseen_94 : decode cX1_unseen 94 = .ok (.aload_n 0, 1) := dk_42 (dk_at dksX1_unseen_4 3 rfl rfl)
theorem dX1_unseen_95 : decode cX1_unseen 95 = .ok (.getfield 26, 3) := dk_180 0 26 (dk_at dksX1_unseen_4 4 rfl rfl)
theorem dX1_unseen_98 : decode cX1_unseen 98 = .ok (.iconst (-1), 1) := dk_2 (dk_at dksX1_unseen_4 7 rfl rfl)
theorem dX1_unseen_99 : decode cX1_unseen 99 = .ok (.aload_n 3, 1) := dk_45 (dk_at dksX1_unseen_4 8 rfl rfl)
theorem dX1_unseen_100 : decode cX1_unseen 100 = .ok (.iconst 0, 1) := dk_3 (dk_at dksX1_unseen_4 9 rfl rfl)
theorem dX1_unseen_101 : decode cX1_unseen 101 = .ok (.aload_n 2, 1) := dk_44 (dk_at dksX1_unseen_4 10 rfl rfl)
theorem dX1_unseen_102 : decode cX1_unseen 102 = .ok (.getfield 127, 3) := dk_180 0 127 (dk_at dksX1_unseen_4 11 rfl rfl)
theorem dX1_unseen_105 : decode cX1_unseen 105 = .ok (.iconst 1, 1) := dk_4 (dk_at dksX1_unseen_4 14 rfl rfl)
theorem dX1_unseen_106 : decode cX1_unseen 106 = .ok (.isub, 1) := dk_100 (dk_at dksX1_unseen_4 15 rfl rfl)
theorem dX1_unseen_107 : decode cX1_unseen 107 = .ok (.bipush 40, 2) := dk_16 40 (dk_at dksX1_unseen_4 16 rfl rfl)
theorem dX1_unseen_109 : decode cX1_unseen 109 = .ok (.aload_n 0, 1) := dk_42 (dk_at dksX1_unseen_4 18 rfl rfl)
theorem dX1_unseen_110 : decode cX1_unseen 110 = .ok (.getfield 47, 3) := dk_180 0 47 (dk_at dksX1_unseen_4 19 rfl rfl)
theorem dX1_unseen_113 : decode cX1_unseen 113 = .ok (.invokevirtual 173, 3) := dk_182 0 173 (dk_at dksX1_unseen_5 0 rfl rfl)
theorem dX1_unseen_116 : decode cX1_unseen 116 = .ok (.aload_n 0, 1) := dk_42 (dk_at dksX1_unseen_5 3 rfl rfl)
theorem dX1_unseen_117 : decode cX1_unseen 117 = .ok (.getfield 47, 3) := dk_180 0 47 (dk_at dksX1_unseen_5 4 rfl rfl)
theorem dX1_unseen_120 : decode cX1_unseen 120 = .ok (.aload_n 0, 1) := dk_42 (dk_at dksX1_unseen_5 7 rfl rfl)
theorem dX1_unseen_121 : decode cX1_unseen 121 = .ok (.getfield 44, 3) := dk_180 0 44 (dk_at dksX1_unseen_5 8 rfl rfl)
theorem dX1_unseen_124 : decode cX1_unseen 124 = .ok (.invokevirtual 229, 3) := dk_182 0 229 (dk_at dksX1_unseen_5 11 rfl rfl)
theorem dX1_unseen_127 : decode cX1_unseen 127 = .ok (.ifCond .ne 6, 3) := dk_154 0 6 (dk_at dksX1_unseen_5 14 rfl rfl)
theorem dX1_unseen_130 : decode cX1_unseen 130 = .ok (.goto 24, 3) := dk_167 0 24 (dk_at dksX1_unseen_5 17 rfl rfl)
theorem dX1_unseen_133 : decode cX1_unseen 133 = .ok (.aload_n 0, 1) := dk_42 (dk_at dksX1_unseen_5 20 rfl rfl)
theorem dX1_unseen_134 : decode cX1_unseen 134 = .ok (.getfield 78, 3) := dk_180 0 78 (dk_at dksX1_unseen_5 21 rfl rfl)
theorem dX1_unseen_137 : decode cX1_unseen 137 = .ok (.aload_n 0, 1) := dk_42 (dk_at dksX1_unseen_6 0 rfl rfl)
theorem dX1_unseen_138 : decode cX1_unseen 138 = .ok (.getfield 337, 3) := dk_180 1 81 (dk_at dksX1_unseen_6 1 rfl rfl)
theorem dX1_unseen_141 : decode cX1_unseen 141 = .ok (.iload 4, 2) := dk_21 4 (dk_at dksX1_unseen_6 4 rfl rfl)
theorem dX1_unseen_143 : decode cX1_unseen 143 = .ok (.iastore, 1) := dk_79 (dk_at dksX1_unseen_6 6 rfl rfl)
theorem dX1_unseen_144 : decode cX1_unseen 144 = .ok (.aload_n 0, 1) := dk_42 (dk_at dksX1_unseen_6 7 rfl rfl)
theorem dX1_unseen_145 : decode cX1_unseen 145 = .ok (.dup, 1) := dk_89 (dk_at dksX1_unseen_6 8 rfl rfl)
theorem dX1_unseen_146 : decode cX1_unseen 146 = .ok (.getfield 337, 3) := dk_180 1 81 (dk_at dksX1_unseen_6 9 rfl rfl)
theorem dX1_unseen_149 : decode cX1_unseen 149 = .ok (.iconst 1, 1) := dk_4 (dk_at dksX1_unseen_6 12 rfl rfl)
theorem dX1_unseen_150 : decode cX1_unseen 150 = .ok (.iadd, 1) := dk_96 (dk_at dksX1_unseen_6 13 rfl rfl)
theorem dX1_unseen_151 : decode cX1_unseen 151 = .ok (.putfield 337, 3) := dk_181 1 81 (dk_at dksX1_unseen_6 14 rfl rfl)
theorem dX1_unseen_154 : decode cX1_unseen 154 = .ok (.iinc 4 1, 3) := dk_132 4 1 (dk_at dksX1_unseen_6 17 rfl rfl)
theorem dX1_unseen_157 : decode cX1_unseen 157 = .ok (.goto (-117), 3) := dk_167 255 139 (dk_at dksX1_unseen_6 20 rfl rfl)
theorem dX1_unseen_160 : decode cX1_unseen 160 = .ok (.aload_n 0, 1) := dk_42 (dk_at dksX1_unseen_6 23 rfl rfl)
theorem dX1_unseen_161 : decode cX1_unseen 161 = .ok (.getfield 337, 3) := dk_180 1 81 (dk_at dksX1_unseen_7 0 rfl rfl)
theorem dX1_unseen_164 : decode cX1_unseen 164 = .ok (.ireturn, 1) := dk_172 (dk_at dksX1_unseen_7 3 rfl rfl)
abbrev cX1_unseenAt : ByteArray := prog_1_method_51_code
def yX1_unseenAt : MethodName := ⟨RX1, "unseenAt", "(I)I"⟩
def dkwX1_unseenAt_1 : List UInt8 := [172]
abbrev dktX1_unseenAt_1 : List UInt8 := dkwX1_unseenAt_1 ++ []
def dkwX1_unseenAt_0 : List UInt8 := [27, 3, 42, 180, 1, 81, 4, 100, 184, 0, 3, 153, 0, 12, 42, 180, 0, 78, 27, 46, 167, 0, 4, 2]
abbrev dktX1_unseenAt_0 : List UInt8 := dkwX1_unseenAt_0 ++ dktX1_unseenAt_1
theorem dksX1_unseenAt_0 : cX1_unseenAt.data.toList.drop 0 = dktX1_unseenAt_0 := by decide +kernel
theorem dksX1_unseenAt_1 : cX1_unseenAt.data.toList.drop 24 = dktX1_unseenAt_1 := dk_seg dksX1_unseenAt_0 24 rfl rfl
theorem dX1_unseenAt_0 : decode cX1_unseenAt 0 = .ok (.iload_n 1, 1) := dk_27 (dk_at dksX1_unseenAt_0 0 rfl rfl)
theorem dX1_unseenAt_1 : decode cX1_unseenAt 1 = .ok (.iconst 0, 1) := dk_3 (dk_at dksX1_unseenAt_0 1 rfl rfl)
theorem dX1_unseenAt_2 : decode cX1_unseenAt 2 = .ok (.aload_n 0, 1) := dk_42 (dk_at dksX1_unseenAt_0 2 rfl rfl)
theorem dX1_unseenAt_3 : decode cX1_unseenAt 3 = .ok (.getfield 337, 3) := dk_180 1 81 (dk_at dksX1_unseenAt_0 3 rfl rfl)
theorem dX1_unseenAt_6 : decode cX1_unseenAt 6 = .ok (.iconst 1, 1) := dk_4 (dk_at dksX1_unseenAt_0 6 rfl rfl)
theorem dX1_unseenAt_7 : decode cX1_unseenAt 7 = .ok (.isub, 1) := dk_100 (dk_at dksX1_unseenAt_0 7 rfl rfl)
theorem dX1_unseenAt_8 : decode cX1_unseenAt 8 = .ok (.invokestatic 3, 3) := dk_184 0 3 (dk_at dksX1_unseenAt_0 8 rfl rfl)
theorem dX1_unseenAt_11 : decode cX1_unseenAt 11 = .ok (.ifCond .eq 12, 3) := dk_153 0 12 (dk_at dksX1_unseenAt_0 11 rfl rfl)
theorem dX1_unseenAt_14 : decode cX1_unseenAt 14 = .ok (.aload_n 0, 1) := dk_42 (dk_at dksX1_unseenAt_0 14 rfl rfl)
theorem dX1_unseenAt_15 : decode cX1_unseenAt 15 = .ok (.getfield 78, 3) := dk_180 0 78 (dk_at dksX1_unseenAt_0 15 rfl rfl)
theorem dX1_unseenAt_18 : decode cX1_unseenAt 18 = .ok (.iload_n 1, 1) := dk_27 (dk_at dksX1_unseenAt_0 18 rfl rfl)
theorem dX1_unseenAt_19 : decode cX1_unseenAt 19 = .ok (.iaload, 1) := dk_46 (dk_at dksX1_unseenAt_0 19 rfl rfl)
theorem dX1_unseenAt_20 : decode cX1_unseenAt 20 = .ok (.goto 4, 3) := dk_167 0 4 (dk_at dksX1_unseenAt_0 20 rfl rfl)
theorem dX1_unseenAt_23 : decode cX1_unseenAt 23 = .ok (.iconst (-1), 1) := dk_2 (dk_at dksX1_unseenAt_0 23 rfl rfl)
theorem dX1_unseenAt_24 : decode cX1_unseenAt 24 = .ok (.ireturn, 1) := dk_172 (dk_at dksX1_unseenAt_1 0 rfl rfl)
abbrev cX1_moves : ByteArray := prog_1_method_55_code
def yX1_moves : MethodName := ⟨RX1, "moves", "(I)I"⟩
def dkwX1_moves_13 : List UInt8 := [42, 16, 100, 29, 184, 0, 248, 181, 1, 109, 29, 172]
abbrev dktX1_moves_13 : List UInt8 := dkwX1_moves_13 ++ []
def dkwX1_moves_12 : List UInt8 := [21, 9, 79, 132, 3, 1, 132, 9, 1, 167, 255, 83, 132, 6, 1, 167, 255, 31, 132, 5, 1, 167, 255, 10]
abbrev dktX1_moves_12 : List UInt8 := dkwX1_moves_12 ++ dktX1_moves_13
def dkwX1_moves_11 : List UInt8 := [162, 0, 27, 42, 180, 0, 81, 29, 21, 5, 79, 42, 180, 0, 84, 29, 21, 6, 79, 42, 180, 0, 87, 29]
abbrev dktX1_moves_11 : List UInt8 := dkwX1_moves_11 ++ dktX1_moves_12
def dkwX1_moves_10 : List UInt8 := [182, 0, 173, 42, 180, 0, 47, 42, 180, 0, 44, 182, 0, 245, 154, 0, 6, 167, 0, 36, 29, 16, 100]
abbrev dktX1_moves_10 : List UInt8 := dkwX1_moves_10 ++ dktX1_moves_11
def dkwX1_moves_9 : List UInt8 := [182, 1, 126, 2, 42, 180, 0, 19, 27, 50, 180, 0, 133, 3, 21, 4, 16, 40, 42, 180, 0, 47]
abbrev dktX1_moves_9 : List UInt8 := dkwX1_moves_9 ++ dktX1_moves_10
def dkwX1_moves_8 : List UInt8 := [161, 0, 6, 167, 0, 96, 42, 180, 0, 33, 42, 180, 0, 90, 42, 180, 0, 26, 21, 5, 21, 6, 21, 10]
abbrev dktX1_moves_8 : List UInt8 := dkwX1_moves_8 ++ dktX1_moves_9
def dkwX1_moves_7 : List UInt8 := [180, 0, 26, 180, 1, 103, 21, 5, 46, 159, 0, 113, 42, 21, 10, 182, 1, 120, 21, 10, 184, 1, 123]
abbrev dktX1_moves_7 : List UInt8 := dkwX1_moves_7 ++ dktX1_moves_8
def dkwX1_moves_6 : List UInt8 := [159, 0, 146, 21, 10, 21, 6, 154, 0, 16, 42, 180, 0, 26, 180, 1, 106, 21, 5, 46, 167, 0, 13, 42]
abbrev dktX1_moves_6 : List UInt8 := dkwX1_moves_6 ++ dktX1_moves_7
def dkwX1_moves_5 : List UInt8 := [25, 8, 184, 1, 116, 162, 0, 169, 25, 8, 180, 1, 89, 21, 9, 96, 54, 10, 21, 10, 21, 7]
abbrev dktX1_moves_5 : List UInt8 := dkwX1_moves_5 ++ dktX1_moves_6
def dkwX1_moves_4 : List UInt8 := [180, 0, 26, 180, 1, 106, 21, 5, 46, 54, 7, 21, 7, 184, 1, 112, 58, 8, 3, 54, 9, 21, 9]
abbrev dktX1_moves_4 : List UInt8 := dkwX1_moves_4 ++ dktX1_moves_5
def dkwX1_moves_3 : List UInt8 := [162, 0, 225, 21, 6, 154, 0, 16, 42, 180, 0, 26, 180, 1, 103, 21, 5, 46, 167, 0, 13, 42]
abbrev dktX1_moves_3 : List UInt8 := dkwX1_moves_3 ++ dktX1_moves_4
def dkwX1_moves_2 : List UInt8 := [54, 4, 3, 54, 5, 21, 5, 42, 180, 0, 26, 180, 0, 162, 162, 0, 240, 3, 54, 6, 21, 6, 5]
abbrev dktX1_moves_2 : List UInt8 := dkwX1_moves_2 ++ dktX1_moves_3
def dkwX1_moves_1 : List UInt8 := [182, 0, 242, 42, 3, 181, 1, 109, 3, 62, 6, 42, 180, 0, 19, 27, 50, 180, 0, 127, 184, 0, 248]
abbrev dktX1_moves_1 : List UInt8 := dkwX1_moves_1 ++ dktX1_moves_2
def dkwX1_moves_0 : List UInt8 := [42, 182, 0, 119, 61, 27, 184, 0, 123, 153, 0, 11, 42, 28, 182, 0, 239, 154, 0, 5, 2, 172, 42, 28]
abbrev dktX1_moves_0 : List UInt8 := dkwX1_moves_0 ++ dktX1_moves_1
theorem dksX1_moves_0 : cX1_moves.data.toList.drop 0 = dktX1_moves_0 := by decide +kernel
theorem dksX1_moves_1 : cX1_moves.data.toList.drop 24 = dktX1_moves_1 := dk_seg dksX1_moves_0 24 rfl rfl
theorem dksX1_moves_2 : cX1_moves.data.toList.drop 47 = dktX1_moves_2 := dk_seg dksX1_moves_1 23 rfl rfl
theorem dksX1_moves_3 : cX1_moves.data.toList.drop 70 = dktX1_moves_3 := dk_seg dksX1_moves_2 23 rfl rfl
theorem dksX1_moves_4 : cX1_moves.data.toList.drop 92 = dktX1_moves_4 := dk_seg dksX1_moves_3 22 rfl rfl
theorem dksX1_moves_5 : cX1_moves.data.toList.drop 115 = dktX1_moves_5 := dk_seg dksX1_moves_4 23 rfl rfl
theorem dksX1_moves_6 : cX1_moves.data.toList.drop 137 = dktX1_moves_6 := dk_seg dksX1_moves_5 22 rfl rfl
theorem dksX1_moves_7 : cX1_moves.data.toList.drop 161 = dktX1_moves_7 := dk_seg dksX1_moves_6 24 rfl rfl
theorem dksX1_moves_8 : cX1_moves.data.toList.drop 184 = dktX1_moves_8 := dk_seg dksX1_moves_7 23 rfl rfl
theorem dksX1_moves_9 : cX1_moves.data.toList.drop 208 = dktX1_moves_9 := dk_seg dksX1_moves_8 24 rfl rfl
theorem dksX1_moves_10 : cX1_moves.data.toList.drop 230 = dktX1_moves_10 := dk_seg dksX1_moves_9 22 rfl rfl
theorem dksX1_moves_11 : cX1_moves.data.toList.drop 253 = dktX1_moves_11 := dk_seg dksX1_moves_10 23 rfl rfl
theorem dksX1_moves_12 : cX1_moves.data.toList.drop 277 = dktX1_moves_12 := dk_seg dksX1_moves_11 24 rfl rfl
theorem dksX1_moves_13 : cX1_moves.data.toList.drop 301 = dktX1_moves_13 := dk_seg dksX1_moves_12 24 rfl rfl
theorem dX1_moves_0 : decode cX1_moves 0 = .ok (.aload_n 0, 1) := dk_42 (dk_at dksX1_moves_0 0 rfl rfl)
theorem dX1_moves_1 : decode cX1_moves 1 = .ok (.invokevirtual 119, 3) := dk_182 0 119 (dk_at dksX1_moves_0 1 rfl rfl)
theorem dX1_moves_4 : decode cX1_moves 4 = .ok (.istore_n 2, 1) := dk_61 (dk_at dksX1_moves_0 4 rfl rfl)
theorem dX1_moves_5 : decode cX1_moves 5 = .ok (.iload_n 1, 1) := dk_27 (dk_at dksX1_moves_0 5 rfl rfl)
theorem dX1_moves_6 : decode cX1_moves 6 = .ok (.invokestatic 123, 3) := dk_184 0 123 (dk_at dksX1_moves_0 6 rfl rfl)
theorem dX1_moves_9 : decode cX1_moves 9 = .ok (.ifCond .eq 11, 3) := dk_153 0 11 (dk_at dksX1_moves_0 9 rfl rfl)
theorem dX1_moves_12 : decode cX1_moves 12 = .ok (.aload_n 0, 1) := dk_42 (dk_at dksX1_moves_0 12 rfl rfl)
theorem dX1_moves_13 : decode cX1_moves 13 = .ok (.iload_n 2, 1) := dk_28 (dk_at dksX1_moves_0 13 rfl rfl)
theorem dX1_moves_14 : decode cX1_moves 14 = .ok (.invokevirtual 239, 3) := dk_182 0 239 (dk_at dksX1_moves_0 14 rfl rfl)
theorem dX1_moves_17 : decode cX1_moves 17 = .ok (.ifCond .ne 5, 3) := dk_154 0 5 (dk_at dksX1_moves_0 17 rfl rfl)
theorem dX1_moves_20 : decode cX1_moves 20 = .ok (.iconst (-1), 1) := dk_2 (dk_at dksX1_moves_0 20 rfl rfl)
theorem dX1_moves_21 : decode cX1_moves 21 = .ok (.ireturn, 1) := dk_172 (dk_at dksX1_moves_0 21 rfl rfl)
theorem dX1_moves_22 : decode cX1_moves 22 = .ok (.aload_n 0, 1) := dk_42 (dk_at dksX1_moves_0 22 rfl rfl)
theorem dX1_moves_23 : decode cX1_moves 23 = .ok (.iload_n 2, 1) := dk_28 (dk_at dksX1_moves_0 23 rfl rfl)
theorem dX1_moves_24 : decode cX1_moves 24 = .ok (.invokevirtual 242, 3) := dk_182 0 242 (dk_at dksX1_moves_1 0 rfl rfl)
theorem dX1_moves_27 : decode cX1_moves 27 = .ok (.aload_n 0, 1) := dk_42 (dk_at dksX1_moves_1 3 rfl rfl)
theorem dX1_moves_28 : decode cX1_moves 28 = .ok (.iconst 0, 1) := dk_3 (dk_at dksX1_moves_1 4 rfl rfl)
theorem dX1_moves_29 : decode cX1_moves 29 = .ok (.putfield 365, 3) := dk_181 1 109 (dk_at dksX1_moves_1 5 rfl rfl)
theorem dX1_moves_32 : decode cX1_moves 32 = .ok (.iconst 0, 1) := dk_3 (dk_at dksX1_moves_1 8 rfl rfl)
theorem dX1_moves_33 : decode cX1_moves 33 = .ok (.istore_n 3, 1) := dk_62 (dk_at dksX1_moves_1 9 rfl rfl)
theorem dX1_moves_34 : decode cX1_moves 34 = .ok (.iconst 3, 1) := dk_6 (dk_at dksX1_moves_1 10 rfl rfl)
theorem dX1_moves_35 : decode cX1_moves 35 = .ok (.aload_n 0, 1) := dk_42 (dk_at dksX1_moves_1 11 rfl rfl)
theorem dX1_moves_36 : decode cX1_moves 36 = .ok (.getfield 19, 3) := dk_180 0 19 (dk_at dksX1_moves_1 12 rfl rfl)
theorem dX1_moves_39 : decode cX1_moves 39 = .ok (.iload_n 1, 1) := dk_27 (dk_at dksX1_moves_1 15 rfl rfl)
theorem dX1_moves_40 : decode cX1_moves 40 = .ok (.aaload, 1) := dk_50 (dk_at dksX1_moves_1 16 rfl rfl)
theorem dX1_moves_41 : decode cX1_moves 41 = .ok (.getfield 127, 3) := dk_180 0 127 (dk_at dksX1_moves_1 17 rfl rfl)
theorem dX1_moves_44 : decode cX1_moves 44 = .ok (.invokestatic 248, 3) := dk_184 0 248 (dk_at dksX1_moves_1 20 rfl rfl)
theorem dX1_moves_47 : decode cX1_moves 47 = .ok (.istore 4, 2) := dk_54 4 (dk_at dksX1_moves_2 0 rfl rfl)
theorem dX1_moves_49 : decode cX1_moves 49 = .ok (.iconst 0, 1) := dk_3 (dk_at dksX1_moves_2 2 rfl rfl)
theorem dX1_moves_50 : decode cX1_moves 50 = .ok (.istore 5, 2) := dk_54 5 (dk_at dksX1_moves_2 3 rfl rfl)
theorem dX1_moves_52 : decode cX1_moves 52 = .ok (.iload 5, 2) := dk_21 5 (dk_at dksX1_moves_2 5 rfl rfl)
theorem dX1_moves_54 : decode cX1_moves 54 = .ok (.aload_n 0, 1) := dk_42 (dk_at dksX1_moves_2 7 rfl rfl)
theorem dX1_moves_55 : decode cX1_moves 55 = .ok (.getfield 26, 3) := dk_180 0 26 (dk_at dksX1_moves_2 8 rfl rfl)
theorem dX1_moves_58 : decode cX1_moves 58 = .ok (.getfield 162, 3) := dk_180 0 162 (dk_at dksX1_moves_2 11 rfl rfl)
theorem dX1_moves_61 : decode cX1_moves 61 = .ok (.if_icmp .ge 240, 3) := dk_162 0 240 (dk_at dksX1_moves_2 14 rfl rfl)
theorem dX1_moves_64 : decode cX1_moves 64 = .ok (.iconst 0, 1) := dk_3 (dk_at dksX1_moves_2 17 rfl rfl)
theorem dX1_moves_65 : decode cX1_moves 65 = .ok (.istore 6, 2) := dk_54 6 (dk_at dksX1_moves_2 18 rfl rfl)
theorem dX1_moves_67 : decode cX1_moves 67 = .ok (.iload 6, 2) := dk_21 6 (dk_at dksX1_moves_2 20 rfl rfl)
theorem dX1_moves_69 : decode cX1_moves 69 = .ok (.iconst 2, 1) := dk_5 (dk_at dksX1_moves_2 22 rfl rfl)
theorem dX1_moves_70 : decode cX1_moves 70 = .ok (.if_icmp .ge 225, 3) := dk_162 0 225 (dk_at dksX1_moves_3 0 rfl rfl)
theorem dX1_moves_73 : decode cX1_moves 73 = .ok (.iload 6, 2) := dk_21 6 (dk_at dksX1_moves_3 3 rfl rfl)
theorem dX1_moves_75 : decode cX1_moves 75 = .ok (.ifCond .ne 16, 3) := dk_154 0 16 (dk_at dksX1_moves_3 5 rfl rfl)
theorem dX1_moves_78 : decode cX1_moves 78 = .ok (.aload_n 0, 1) := dk_42 (dk_at dksX1_moves_3 8 rfl rfl)
theorem dX1_moves_79 : decode cX1_moves 79 = .ok (.getfield 26, 3) := dk_180 0 26 (dk_at dksX1_moves_3 9 rfl rfl)
theorem dX1_moves_82 : decode cX1_moves 82 = .ok (.getfield 359, 3) := dk_180 1 103 (dk_at dksX1_moves_3 12 rfl rfl)
theorem dX1_moves_85 : decode cX1_moves 85 = .ok (.iload 5, 2) := dk_21 5 (dk_at dksX1_moves_3 15 rfl rfl)
theorem dX1_moves_87 : decode cX1_moves 87 = .ok (.iaload, 1) := dk_46 (dk_at dksX1_moves_3 17 rfl rfl)
theorem dX1_moves_88 : decode cX1_moves 88 = .ok (.goto 13, 3) := dk_167 0 13 (dk_at dksX1_moves_3 18 rfl rfl)
theorem dX1_moves_91 : decode cX1_moves 91 = .ok (.aload_n 0, 1) := dk_42 (dk_at dksX1_moves_3 21 rfl rfl)
theorem dX1_moves_92 : decode cX1_moves 92 = .ok (.getfield 26, 3) := dk_180 0 26 (dk_at dksX1_moves_4 0 rfl rfl)
theorem dX1_moves_95 : decode cX1_moves 95 = .ok (.getfield 362, 3) := dk_180 1 106 (dk_at dksX1_moves_4 3 rfl rfl)
theorem dX1_moves_98 : decode cX1_moves 98 = .ok (.iload 5, 2) := dk_21 5 (dk_at dksX1_moves_4 6 rfl rfl)
theorem dX1_moves_100 : decode cX1_moves 100 = .ok (.iaload, 1) := dk_46 (dk_at dksX1_moves_4 8 rfl rfl)
theorem dX1_moves_101 : decode cX1_moves 101 = .ok (.istore 7, 2) := dk_54 7 (dk_at dksX1_moves_4 9 rfl rfl)
theorem dX1_moves_103 : decode cX1_moves 103 = .ok (.iload 7, 2) := dk_21 7 (dk_at dksX1_moves_4 11 rfl rfl)
theorem dX1_moves_105 : decode cX1_moves 105 = .ok (.invokestatic 368, 3) := dk_184 1 112 (dk_at dksX1_moves_4 13 rfl rfl)
theorem dX1_moves_108 : decode cX1_moves 108 = .ok (.astore 8, 2) := dk_58 8 (dk_at dksX1_moves_4 16 rfl rfl)
theorem dX1_moves_110 : decode cX1_moves 110 = .ok (.iconst 0, 1) := dk_3 (dk_at dksX1_moves_4 18 rfl rfl)
theorem dX1_moves_111 : decode cX1_moves 111 = .ok (.istore 9, 2) := dk_54 9 (dk_at dksX1_moves_4 19 rfl rfl)
theorem dX1_moves_113 : decode cX1_moves 113 = .ok (.iload 9, 2) := dk_21 9 (dk_at dksX1_moves_4 21 rfl rfl)
theorem dX1_moves_115 : decode cX1_moves 115 = .ok (.aload 8, 2) := dk_25 8 (dk_at dksX1_moves_5 0 rfl rfl)
theorem dX1_moves_117 : decode cX1_moves 117 = .ok (.invokestatic 372, 3) := dk_184 1 116 (dk_at dksX1_moves_5 2 rfl rfl)
theorem dX1_moves_120 : decode cX1_moves 120 = .ok (.if_icmp .ge 169, 3) := dk_162 0 169 (dk_at dksX1_moves_5 5 rfl rfl)
theorem dX1_moves_123 : decode cX1_moves 123 = .ok (.aload 8, 2) := dk_25 8 (dk_at dksX1_moves_5 8 rfl rfl)
theorem dX1_moves_125 : decode cX1_moves 125 = .ok (.getfield 345, 3) := dk_180 1 89 (dk_at dksX1_moves_5 10 rfl rfl)
theorem dX1_moves_128 : decode cX1_moves 128 = .ok (.iload 9, 2) := dk_21 9 (dk_at dksX1_moves_5 13 rfl rfl)
theorem dX1_moves_130 : decode cX1_moves 130 = .ok (.iadd, 1) := dk_96 (dk_at dksX1_moves_5 15 rfl rfl)
theorem dX1_moves_131 : decode cX1_moves 131 = .ok (.istore 10, 2) := dk_54 10 (dk_at dksX1_moves_5 16 rfl rfl)
theorem dX1_moves_133 : decode cX1_moves 133 = .ok (.iload 10, 2) := dk_21 10 (dk_at dksX1_moves_5 18 rfl rfl)
theorem dX1_moves_135 : decode cX1_moves 135 = .ok (.iload 7, 2) := dk_21 7 (dk_at dksX1_moves_5 20 rfl rfl)
theorem dX1_moves_137 : decode cX1_moves 137 = .ok (.if_icmp .eq 146, 3) := dk_159 0 146 (dk_at dksX1_moves_6 0 rfl rfl)
theorem dX1_moves_140 : decode cX1_moves 140 = .ok (.iload 10, 2) := dk_21 10 (dk_at dksX1_moves_6 3 rfl rfl)
theorem dX1_moves_142 : decode cX1_moves 142 = .ok (.iload 6, 2) := dk_21 6 (dk_at dksX1_moves_6 5 rfl rfl)
theorem dX1_moves_144 : decode cX1_moves 144 = .ok (.ifCond .ne 16, 3) := dk_154 0 16 (dk_at dksX1_moves_6 7 rfl rfl)
theorem dX1_moves_147 : decode cX1_moves 147 = .ok (.aload_n 0, 1) := dk_42 (dk_at dksX1_moves_6 10 rfl rfl)
theorem dX1_moves_148 : decode cX1_moves 148 = .ok (.getfield 26, 3) := dk_180 0 26 (dk_at dksX1_moves_6 11 rfl rfl)
theorem dX1_moves_151 : decode cX1_moves 151 = .ok (.getfield 362, 3) := dk_180 1 106 (dk_at dksX1_moves_6 14 rfl rfl)
theorem dX1_moves_154 : decode cX1_moves 154 = .ok (.iload 5, 2) := dk_21 5 (dk_at dksX1_moves_6 17 rfl rfl)
theorem dX1_moves_156 : decode cX1_moves 156 = .ok (.iaload, 1) := dk_46 (dk_at dksX1_moves_6 19 rfl rfl)
theorem dX1_moves_157 : decode cX1_moves 157 = .ok (.goto 13, 3) := dk_167 0 13 (dk_at dksX1_moves_6 20 rfl rfl)
theorem dX1_moves_160 : decode cX1_moves 160 = .ok (.aload_n 0, 1) := dk_42 (dk_at dksX1_moves_6 23 rfl rfl)
theorem dX1_moves_161 : decode cX1_moves 161 = .ok (.getfield 26, 3) := dk_180 0 26 (dk_at dksX1_moves_7 0 rfl rfl)
theorem dX1_moves_164 : decode cX1_moves 164 = .ok (.getfield 359, 3) := dk_180 1 103 (dk_at dksX1_moves_7 3 rfl rfl)
theorem dX1_moves_167 : decode cX1_moves 167 = .ok (.iload 5, 2) := dk_21 5 (dk_at dksX1_moves_7 6 rfl rfl)
theorem dX1_moves_169 : decode cX1_moves 169 = .ok (.iaload, 1) := dk_46 (dk_at dksX1_moves_7 8 rfl rfl)
theorem dX1_moves_170 : decode cX1_moves 170 = .ok (.if_icmp .eq 113, 3) := dk_159 0 113 (dk_at dksX1_moves_7 9 rfl rfl)
theorem dX1_moves_173 : decode cX1_moves 173 = .ok (.aload_n 0, 1) := dk_42 (dk_at dksX1_moves_7 12 rfl rfl)
theorem dX1_moves_174 : decode cX1_moves 174 = .ok (.iload 10, 2) := dk_21 10 (dk_at dksX1_moves_7 13 rfl rfl)
theorem dX1_moves_176 : decode cX1_moves 176 = .ok (.invokevirtual 376, 3) := dk_182 1 120 (dk_at dksX1_moves_7 15 rfl rfl)
theorem dX1_moves_179 : decode cX1_moves 179 = .ok (.iload 10, 2) := dk_21 10 (dk_at dksX1_moves_7 18 rfl rfl)
theorem dX1_moves_181 : decode cX1_moves 181 = .ok (.invokestatic 379, 3) := dk_184 1 123 (dk_at dksX1_moves_7 20 rfl rfl)
theorem dX1_moves_184 : decode cX1_moves 184 = .ok (.if_icmp .lt 6, 3) := dk_161 0 6 (dk_at dksX1_moves_8 0 rfl rfl)
theorem dX1_moves_187 : decode cX1_moves 187 = .ok (.goto 96, 3) := dk_167 0 96 (dk_at dksX1_moves_8 3 rfl rfl)
theorem dX1_moves_190 : decode cX1_moves 190 = .ok (.aload_n 0, 1) := dk_42 (dk_at dksX1_moves_8 6 rfl rfl)
theorem dX1_moves_191 : decode cX1_moves 191 = .ok (.getfield 33, 3) := dk_180 0 33 (dk_at dksX1_moves_8 7 rfl rfl)
theorem dX1_moves_194 : decode cX1_moves 194 = .ok (.aload_n 0, 1) := dk_42 (dk_at dksX1_moves_8 10 rfl rfl)
theorem dX1_moves_195 : decode cX1_moves 195 = .ok (.getfield 90, 3) := dk_180 0 90 (dk_at dksX1_moves_8 11 rfl rfl)
theorem dX1_moves_198 : decode cX1_moves 198 = .ok (.aload_n 0, 1) := dk_42 (dk_at dksX1_moves_8 14 rfl rfl)
theorem dX1_moves_199 : decode cX1_moves 199 = .ok (.getfield 26, 3) := dk_180 0 26 (dk_at dksX1_moves_8 15 rfl rfl)
theorem dX1_moves_202 : decode cX1_moves 202 = .ok (.iload 5, 2) := dk_21 5 (dk_at dksX1_moves_8 18 rfl rfl)
theorem dX1_moves_204 : decode cX1_moves 204 = .ok (.iload 6, 2) := dk_21 6 (dk_at dksX1_moves_8 20 rfl rfl)
theorem dX1_moves_206 : decode cX1_moves 206 = .ok (.iload 10, 2) := dk_21 10 (dk_at dksX1_moves_8 22 rfl rfl)
theorem dX1_moves_208 : decode cX1_moves 208 = .ok (.invokevirtual 382, 3) := dk_182 1 126 (dk_at dksX1_moves_9 0 rfl rfl)
theorem dX1_moves_211 : decode cX1_moves 211 = .ok (.iconst (-1), 1) := dk_2 (dk_at dksX1_moves_9 3 rfl rfl)
theorem dX1_moves_212 : decode cX1_moves 212 = .ok (.aload_n 0, 1) := dk_42 (dk_at dksX1_moves_9 4 rfl rfl)
theorem dX1_moves_213 : decode cX1_moves 213 = .ok (.getfield 19, 3) := dk_180 0 19 (dk_at dksX1_moves_9 5 rfl rfl)
theorem dX1_moves_216 : decode cX1_moves 216 = .ok (.iload_n 1, 1) := dk_27 (dk_at dksX1_moves_9 8 rfl rfl)
theorem dX1_moves_217 : decode cX1_moves 217 = .ok (.aaload, 1) := dk_50 (dk_at dksX1_moves_9 9 rfl rfl)
theorem dX1_moves_218 : decode cX1_moves 218 = .ok (.getfield 133, 3) := dk_180 0 133 (dk_at dksX1_moves_9 10 rfl rfl)
theorem dX1_moves_221 : decode cX1_moves 221 = .ok (.iconst 0, 1) := dk_3 (dk_at dksX1_moves_9 13 rfl rfl)
theorem dX1_moves_222 : decode cX1_moves 222 = .ok (.iload 4, 2) := dk_21 4 (dk_at dksX1_moves_9 14 rfl rfl)
theorem dX1_moves_224 : decode cX1_moves 224 = .ok (.bipush 40, 2) := dk_16 40 (dk_at dksX1_moves_9 16 rfl rfl)
theorem dX1_moves_226 : decode cX1_moves 226 = .ok (.aload_n 0, 1) := dk_42 (dk_at dksX1_moves_9 18 rfl rfl)
theorem dX1_moves_227 : decode cX1_moves 227 = .ok (.getfield 47, 3) := dk_180 0 47 (dk_at dksX1_moves_9 19 rfl rfl)
theorem dX1_moves_230 : decode cX1_moves 230 = .ok (.invokevirtual 173, 3) := dk_182 0 173 (dk_at dksX1_moves_10 0 rfl rfl)
theorem dX1_moves_233 : decode cX1_moves 233 = .ok (.aload_n 0, 1) := dk_42 (dk_at dksX1_moves_10 3 rfl rfl)
theorem dX1_moves_234 : decode cX1_moves 234 = .ok (.getfield 47, 3) := dk_180 0 47 (dk_at dksX1_moves_10 4 rfl rfl)
theorem dX1_moves_237 : decode cX1_moves 237 = .ok (.aload_n 0, 1) := dk_42 (dk_at dksX1_moves_10 7 rfl rfl)
theorem dX1_moves_238 : decode cX1_moves 238 = .ok (.getfield 44, 3) := dk_180 0 44 (dk_at dksX1_moves_10 8 rfl rfl)
theorem dX1_moves_241 : decode cX1_moves 241 = .ok (.invokevirtual 245, 3) := dk_182 0 245 (dk_at dksX1_moves_10 11 rfl rfl)
theorem dX1_moves_244 : decode cX1_moves 244 = .ok (.ifCond .ne 6, 3) := dk_154 0 6 (dk_at dksX1_moves_10 14 rfl rfl)
theorem dX1_moves_247 : decode cX1_moves 247 = .ok (.goto 36, 3) := dk_167 0 36 (dk_at dksX1_moves_10 17 rfl rfl)
theorem dX1_moves_250 : decode cX1_moves 250 = .ok (.iload_n 3, 1) := dk_29 (dk_at dksX1_moves_10 20 rfl rfl)
theorem dX1_moves_251 : decode cX1_moves 251 = .ok (.bipush 100, 2) := dk_16 100 (dk_at dksX1_moves_10 21 rfl rfl)
theorem dX1_moves_253 : decode cX1_moves 253 = .ok (.if_icmp .ge 27, 3) := dk_162 0 27 (dk_at dksX1_moves_11 0 rfl rfl)
theorem dX1_moves_256 : decode cX1_moves 256 = .ok (.aload_n 0, 1) := dk_42 (dk_at dksX1_moves_11 3 rfl rfl)
theorem dX1_moves_257 : decode cX1_moves 257 = .ok (.getfield 81, 3) := dk_180 0 81 (dk_at dksX1_moves_11 4 rfl rfl)
theorem dX1_moves_260 : decode cX1_moves 260 = .ok (.iload_n 3, 1) := dk_29 (dk_at dksX1_moves_11 7 rfl rfl)
theorem dX1_moves_261 : decode cX1_moves 261 = .ok (.iload 5, 2) := dk_21 5 (dk_at dksX1_moves_11 8 rfl rfl)
theorem dX1_moves_263 : decode cX1_moves 263 = .ok (.iastore, 1) := dk_79 (dk_at dksX1_moves_11 10 rfl rfl)
theorem dX1_moves_264 : decode cX1_moves 264 = .ok (.aload_n 0, 1) := dk_42 (dk_at dksX1_moves_11 11 rfl rfl)
theorem dX1_moves_265 : decode cX1_moves 265 = .ok (.getfield 84, 3) := dk_180 0 84 (dk_at dksX1_moves_11 12 rfl rfl)
theorem dX1_moves_268 : decode cX1_moves 268 = .ok (.iload_n 3, 1) := dk_29 (dk_at dksX1_moves_11 15 rfl rfl)
theorem dX1_moves_269 : decode cX1_moves 269 = .ok (.iload 6, 2) := dk_21 6 (dk_at dksX1_moves_11 16 rfl rfl)
theorem dX1_moves_271 : decode cX1_moves 271 = .ok (.iastore, 1) := dk_79 (dk_at dksX1_moves_11 18 rfl rfl)
theorem dX1_moves_272 : decode cX1_moves 272 = .ok (.aload_n 0, 1) := dk_42 (dk_at dksX1_moves_11 19 rfl rfl)
theorem dX1_moves_273 : decode cX1_moves 273 = .ok (.getfield 87, 3) := dk_180 0 87 (dk_at dksX1_moves_11 20 rfl rfl)
theorem dX1_moves_276 : decode cX1_moves 276 = .ok (.iload_n 3, 1) := dk_29 (dk_at dksX1_moves_11 23 rfl rfl)
theorem dX1_moves_277 : decode cX1_moves 277 = .ok (.iload 9, 2) := dk_21 9 (dk_at dksX1_moves_12 0 rfl rfl)
theorem dX1_moves_279 : decode cX1_moves 279 = .ok (.iastore, 1) := dk_79 (dk_at dksX1_moves_12 2 rfl rfl)
theorem dX1_moves_280 : decode cX1_moves 280 = .ok (.iinc 3 1, 3) := dk_132 3 1 (dk_at dksX1_moves_12 3 rfl rfl)
theorem dX1_moves_283 : decode cX1_moves 283 = .ok (.iinc 9 1, 3) := dk_132 9 1 (dk_at dksX1_moves_12 6 rfl rfl)
theorem dX1_moves_286 : decode cX1_moves 286 = .ok (.goto (-173), 3) := dk_167 255 83 (dk_at dksX1_moves_12 9 rfl rfl)
theorem dX1_moves_289 : decode cX1_moves 289 = .ok (.iinc 6 1, 3) := dk_132 6 1 (dk_at dksX1_moves_12 12 rfl rfl)
theorem dX1_moves_292 : decode cX1_moves 292 = .ok (.goto (-225), 3) := dk_167 255 31 (dk_at dksX1_moves_12 15 rfl rfl)
theorem dX1_moves_295 : decode cX1_moves 295 = .ok (.iinc 5 1, 3) := dk_132 5 1 (dk_at dksX1_moves_12 18 rfl rfl)
theorem dX1_moves_298 : decode cX1_moves 298 = .ok (.goto (-246), 3) := dk_167 255 10 (dk_at dksX1_moves_12 21 rfl rfl)
theorem dX1_moves_301 : decode cX1_moves 301 = .ok (.aload_n 0, 1) := dk_42 (dk_at dksX1_moves_13 0 rfl rfl)
theorem dX1_moves_302 : decode cX1_moves 302 = .ok (.bipush 100, 2) := dk_16 100 (dk_at dksX1_moves_13 1 rfl rfl)
theorem dX1_moves_304 : decode cX1_moves 304 = .ok (.iload_n 3, 1) := dk_29 (dk_at dksX1_moves_13 3 rfl rfl)
theorem dX1_moves_305 : decode cX1_moves 305 = .ok (.invokestatic 248, 3) := dk_184 0 248 (dk_at dksX1_moves_13 4 rfl rfl)
theorem dX1_moves_308 : decode cX1_moves 308 = .ok (.putfield 365, 3) := dk_181 1 109 (dk_at dksX1_moves_13 7 rfl rfl)
theorem dX1_moves_311 : decode cX1_moves 311 = .ok (.iload_n 3, 1) := dk_29 (dk_at dksX1_moves_13 10 rfl rfl)
theorem dX1_moves_312 : decode cX1_moves 312 = .ok (.ireturn, 1) := dk_172 (dk_at dksX1_moves_13 11 rfl rfl)
abbrev cX1_sortOf : ByteArray := prog_1_method_52_code
def yX1_sortOf : MethodName := ⟨RX1, "sortOf", "(I)LPlugHall$Sort;"⟩
def dkwX1_sortOf_2 : List UInt8 := [164, 0, 6, 25, 5, 76, 132, 4, 1, 167, 255, 213, 43, 176]
abbrev dktX1_sortOf_2 : List UInt8 := dkwX1_sortOf_2 ++ []
def dkwX1_sortOf_1 : List UInt8 := [25, 5, 180, 1, 89, 26, 163, 0, 22, 43, 198, 0, 15, 25, 5, 180, 1, 89, 43, 180, 1, 89]
abbrev dktX1_sortOf_1 : List UInt8 := dkwX1_sortOf_1 ++ dktX1_sortOf_2
def dkwX1_sortOf_0 : List UInt8 := [1, 76, 178, 1, 85, 77, 44, 190, 62, 3, 54, 4, 21, 4, 29, 162, 0, 43, 44, 21, 4, 50, 58, 5]
abbrev dktX1_sortOf_0 : List UInt8 := dkwX1_sortOf_0 ++ dktX1_sortOf_1
theorem dksX1_sortOf_0 : cX1_sortOf.data.toList.drop 0 = dktX1_sortOf_0 := by decide +kernel
theorem dksX1_sortOf_1 : cX1_sortOf.data.toList.drop 24 = dktX1_sortOf_1 := dk_seg dksX1_sortOf_0 24 rfl rfl
theorem dksX1_sortOf_2 : cX1_sortOf.data.toList.drop 46 = dktX1_sortOf_2 := dk_seg dksX1_sortOf_1 22 rfl rfl
theorem dX1_sortOf_0 : decode cX1_sortOf 0 = .ok (.aconst_null, 1) := dk_1 (dk_at dksX1_sortOf_0 0 rfl rfl)
theorem dX1_sortOf_1 : decode cX1_sortOf 1 = .ok (.astore_n 1, 1) := dk_76 (dk_at dksX1_sortOf_0 1 rfl rfl)
theorem dX1_sortOf_2 : decode cX1_sortOf 2 = .ok (.getstatic 341, 3) := dk_178 1 85 (dk_at dksX1_sortOf_0 2 rfl rfl)
theorem dX1_sortOf_5 : decode cX1_sortOf 5 = .ok (.astore_n 2, 1) := dk_77 (dk_at dksX1_sortOf_0 5 rfl rfl)
theorem dX1_sortOf_6 : decode cX1_sortOf 6 = .ok (.aload_n 2, 1) := dk_44 (dk_at dksX1_sortOf_0 6 rfl rfl)
theorem dX1_sortOf_7 : decode cX1_sortOf 7 = .ok (.arraylength, 1) := dk_190 (dk_at dksX1_sortOf_0 7 rfl rfl)
theorem dX1_sortOf_8 : decode cX1_sortOf 8 = .ok (.istore_n 3, 1) := dk_62 (dk_at dksX1_sortOf_0 8 rfl rfl)
theorem dX1_sortOf_9 : decode cX1_sortOf 9 = .ok (.iconst 0, 1) := dk_3 (dk_at dksX1_sortOf_0 9 rfl rfl)
theorem dX1_sortOf_10 : decode cX1_sortOf 10 = .ok (.istore 4, 2) := dk_54 4 (dk_at dksX1_sortOf_0 10 rfl rfl)
theorem dX1_sortOf_12 : decode cX1_sortOf 12 = .ok (.iload 4, 2) := dk_21 4 (dk_at dksX1_sortOf_0 12 rfl rfl)
theorem dX1_sortOf_14 : decode cX1_sortOf 14 = .ok (.iload_n 3, 1) := dk_29 (dk_at dksX1_sortOf_0 14 rfl rfl)
theorem dX1_sortOf_15 : decode cX1_sortOf 15 = .ok (.if_icmp .ge 43, 3) := dk_162 0 43 (dk_at dksX1_sortOf_0 15 rfl rfl)
theorem dX1_sortOf_18 : decode cX1_sortOf 18 = .ok (.aload_n 2, 1) := dk_44 (dk_at dksX1_sortOf_0 18 rfl rfl)
theorem dX1_sortOf_19 : decode cX1_sortOf 19 = .ok (.iload 4, 2) := dk_21 4 (dk_at dksX1_sortOf_0 19 rfl rfl)
theorem dX1_sortOf_21 : decode cX1_sortOf 21 = .ok (.aaload, 1) := dk_50 (dk_at dksX1_sortOf_0 21 rfl rfl)
theorem dX1_sortOf_22 : decode cX1_sortOf 22 = .ok (.astore 5, 2) := dk_58 5 (dk_at dksX1_sortOf_0 22 rfl rfl)
theorem dX1_sortOf_24 : decode cX1_sortOf 24 = .ok (.aload 5, 2) := dk_25 5 (dk_at dksX1_sortOf_1 0 rfl rfl)
theorem dX1_sortOf_26 : decode cX1_sortOf 26 = .ok (.getfield 345, 3) := dk_180 1 89 (dk_at dksX1_sortOf_1 2 rfl rfl)
theorem dX1_sortOf_29 : decode cX1_sortOf 29 = .ok (.iload_n 0, 1) := dk_26 (dk_at dksX1_sortOf_1 5 rfl rfl)
theorem dX1_sortOf_30 : decode cX1_sortOf 30 = .ok (.if_icmp .gt 22, 3) := dk_163 0 22 (dk_at dksX1_sortOf_1 6 rfl rfl)
theorem dX1_sortOf_33 : decode cX1_sortOf 33 = .ok (.aload_n 1, 1) := dk_43 (dk_at dksX1_sortOf_1 9 rfl rfl)
theorem dX1_sortOf_34 : decode cX1_sortOf 34 = .ok (.ifnull 15, 3) := dk_198 0 15 (dk_at dksX1_sortOf_1 10 rfl rfl)
theorem dX1_sortOf_37 : decode cX1_sortOf 37 = .ok (.aload 5, 2) := dk_25 5 (dk_at dksX1_sortOf_1 13 rfl rfl)
theorem dX1_sortOf_39 : decode cX1_sortOf 39 = .ok (.getfield 345, 3) := dk_180 1 89 (dk_at dksX1_sortOf_1 15 rfl rfl)
theorem dX1_sortOf_42 : decode cX1_sortOf 42 = .ok (.aload_n 1, 1) := dk_43 (dk_at dksX1_sortOf_1 18 rfl rfl)
theorem dX1_sortOf_43 : decode cX1_sortOf 43 = .ok (.getfield 345, 3) := dk_180 1 89 (dk_at dksX1_sortOf_1 19 rfl rfl)
theorem dX1_sortOf_46 : decode cX1_sortOf 46 = .ok (.if_icmp .le 6, 3) := dk_164 0 6 (dk_at dksX1_sortOf_2 0 rfl rfl)
theorem dX1_sortOf_49 : decode cX1_sortOf 49 = .ok (.aload 5, 2) := dk_25 5 (dk_at dksX1_sortOf_2 3 rfl rfl)
theorem dX1_sortOf_51 : decode cX1_sortOf 51 = .ok (.astore_n 1, 1) := dk_76 (dk_at dksX1_sortOf_2 5 rfl rfl)
theorem dX1_sortOf_52 : decode cX1_sortOf 52 = .ok (.iinc 4 1, 3) := dk_132 4 1 (dk_at dksX1_sortOf_2 6 rfl rfl)
theorem dX1_sortOf_55 : decode cX1_sortOf 55 = .ok (.goto (-43), 3) := dk_167 255 213 (dk_at dksX1_sortOf_2 9 rfl rfl)
theorem dX1_sortOf_58 : decode cX1_sortOf 58 = .ok (.aload_n 1, 1) := dk_43 (dk_at dksX1_sortOf_2 12 rfl rfl)
theorem dX1_sortOf_59 : decode cX1_sortOf 59 = .ok (.areturn, 1) := dk_176 (dk_at dksX1_sortOf_2 13 rfl rfl)
abbrev cX1_manyOf : ByteArray := prog_1_method_53_code
def yX1_manyOf : MethodName := ⟨RX1, "manyOf", "(LPlugHall$Sort;)I"⟩
def dkwX1_manyOf_0 : List UInt8 := [4, 42, 180, 1, 94, 184, 1, 97, 4, 42, 180, 1, 100, 184, 1, 97, 104, 172]
abbrev dktX1_manyOf_0 : List UInt8 := dkwX1_manyOf_0 ++ []
theorem dksX1_manyOf_0 : cX1_manyOf.data.toList.drop 0 = dktX1_manyOf_0 := by decide +kernel
theorem dX1_manyOf_0 : decode cX1_manyOf 0 = .ok (.iconst 1, 1) := dk_4 (dk_at dksX1_manyOf_0 0 rfl rfl)
theorem dX1_manyOf_1 : decode cX1_manyOf 1 = .ok (.aload_n 0, 1) := dk_42 (dk_at dksX1_manyOf_0 1 rfl rfl)
theorem dX1_manyOf_2 : decode cX1_manyOf 2 = .ok (.getfield 350, 3) := dk_180 1 94 (dk_at dksX1_manyOf_0 2 rfl rfl)
theorem dX1_manyOf_5 : decode cX1_manyOf 5 = .ok (.invokestatic 353, 3) := dk_184 1 97 (dk_at dksX1_manyOf_0 5 rfl rfl)
theorem dX1_manyOf_8 : decode cX1_manyOf 8 = .ok (.iconst 1, 1) := dk_4 (dk_at dksX1_manyOf_0 8 rfl rfl)
theorem dX1_manyOf_9 : decode cX1_manyOf 9 = .ok (.aload_n 0, 1) := dk_42 (dk_at dksX1_manyOf_0 9 rfl rfl)
theorem dX1_manyOf_10 : decode cX1_manyOf 10 = .ok (.getfield 356, 3) := dk_180 1 100 (dk_at dksX1_manyOf_0 10 rfl rfl)
theorem dX1_manyOf_13 : decode cX1_manyOf 13 = .ok (.invokestatic 353, 3) := dk_184 1 97 (dk_at dksX1_manyOf_0 13 rfl rfl)
theorem dX1_manyOf_16 : decode cX1_manyOf 16 = .ok (.imul, 1) := dk_104 (dk_at dksX1_manyOf_0 16 rfl rfl)
theorem dX1_manyOf_17 : decode cX1_manyOf 17 = .ok (.ireturn, 1) := dk_172 (dk_at dksX1_manyOf_0 17 rfl rfl)
abbrev cX1_wiresOf : ByteArray := prog_1_method_54_code
def yX1_wiresOf : MethodName := ⟨RX1, "wiresOf", "(I)I"⟩
def dkwX1_wiresOf_2 : List UInt8 := [132, 3, 1, 167, 255, 210, 28, 172]
abbrev dktX1_wiresOf_2 : List UInt8 := dkwX1_wiresOf_2 ++ []
def dkwX1_wiresOf_1 : List UInt8 := [27, 160, 0, 6, 132, 2, 1, 42, 180, 0, 26, 180, 1, 106, 29, 46, 27, 160, 0, 6, 132, 2, 1]
abbrev dktX1_wiresOf_1 : List UInt8 := dkwX1_wiresOf_1 ++ dktX1_wiresOf_2
def dkwX1_wiresOf_0 : List UInt8 := [3, 61, 3, 62, 29, 42, 180, 0, 26, 180, 0, 162, 162, 0, 41, 42, 180, 0, 26, 180, 1, 103, 29, 46]
abbrev dktX1_wiresOf_0 : List UInt8 := dkwX1_wiresOf_0 ++ dktX1_wiresOf_1
theorem dksX1_wiresOf_0 : cX1_wiresOf.data.toList.drop 0 = dktX1_wiresOf_0 := by decide +kernel
theorem dksX1_wiresOf_1 : cX1_wiresOf.data.toList.drop 24 = dktX1_wiresOf_1 := dk_seg dksX1_wiresOf_0 24 rfl rfl
theorem dksX1_wiresOf_2 : cX1_wiresOf.data.toList.drop 47 = dktX1_wiresOf_2 := dk_seg dksX1_wiresOf_1 23 rfl rfl
theorem dX1_wiresOf_0 : decode cX1_wiresOf 0 = .ok (.iconst 0, 1) := dk_3 (dk_at dksX1_wiresOf_0 0 rfl rfl)
theorem dX1_wiresOf_1 : decode cX1_wiresOf 1 = .ok (.istore_n 2, 1) := dk_61 (dk_at dksX1_wiresOf_0 1 rfl rfl)
theorem dX1_wiresOf_2 : decode cX1_wiresOf 2 = .ok (.iconst 0, 1) := dk_3 (dk_at dksX1_wiresOf_0 2 rfl rfl)
theorem dX1_wiresOf_3 : decode cX1_wiresOf 3 = .ok (.istore_n 3, 1) := dk_62 (dk_at dksX1_wiresOf_0 3 rfl rfl)
theorem dX1_wiresOf_4 : decode cX1_wiresOf 4 = .ok (.iload_n 3, 1) := dk_29 (dk_at dksX1_wiresOf_0 4 rfl rfl)
theorem dX1_wiresOf_5 : decode cX1_wiresOf 5 = .ok (.aload_n 0, 1) := dk_42 (dk_at dksX1_wiresOf_0 5 rfl rfl)
theorem dX1_wiresOf_6 : decode cX1_wiresOf 6 = .ok (.getfield 26, 3) := dk_180 0 26 (dk_at dksX1_wiresOf_0 6 rfl rfl)
theorem dX1_wiresOf_9 : decode cX1_wiresOf 9 = .ok (.getfield 162, 3) := dk_180 0 162 (dk_at dksX1_wiresOf_0 9 rfl rfl)
theorem dX1_wiresOf_12 : decode cX1_wiresOf 12 = .ok (.if_icmp .ge 41, 3) := dk_162 0 41 (dk_at dksX1_wiresOf_0 12 rfl rfl)
theorem dX1_wiresOf_15 : decode cX1_wiresOf 15 = .ok (.aload_n 0, 1) := dk_42 (dk_at dksX1_wiresOf_0 15 rfl rfl)
theorem dX1_wiresOf_16 : decode cX1_wiresOf 16 = .ok (.getfield 26, 3) := dk_180 0 26 (dk_at dksX1_wiresOf_0 16 rfl rfl)
theorem dX1_wiresOf_19 : decode cX1_wiresOf 19 = .ok (.getfield 359, 3) := dk_180 1 103 (dk_at dksX1_wiresOf_0 19 rfl rfl)
theorem dX1_wiresOf_22 : decode cX1_wiresOf 22 = .ok (.iload_n 3, 1) := dk_29 (dk_at dksX1_wiresOf_0 22 rfl rfl)
theorem dX1_wiresOf_23 : decode cX1_wiresOf 23 = .ok (.iaload, 1) := dk_46 (dk_at dksX1_wiresOf_0 23 rfl rfl)
theorem dX1_wiresOf_24 : decode cX1_wiresOf 24 = .ok (.iload_n 1, 1) := dk_27 (dk_at dksX1_wiresOf_1 0 rfl rfl)
theorem dX1_wiresOf_25 : decode cX1_wiresOf 25 = .ok (.if_icmp .ne 6, 3) := dk_160 0 6 (dk_at dksX1_wiresOf_1 1 rfl rfl)
theorem dX1_wiresOf_28 : decode cX1_wiresOf 28 = .ok (.iinc 2 1, 3) := dk_132 2 1 (dk_at dksX1_wiresOf_1 4 rfl rfl)
theorem dX1_wiresOf_31 : decode cX1_wiresOf 31 = .ok (.aload_n 0, 1) := dk_42 (dk_at dksX1_wiresOf_1 7 rfl rfl)
theorem dX1_wiresOf_32 : decode cX1_wiresOf 32 = .ok (.getfield 26, 3) := dk_180 0 26 (dk_at dksX1_wiresOf_1 8 rfl rfl)
theorem dX1_wiresOf_35 : decode cX1_wiresOf 35 = .ok (.getfield 362, 3) := dk_180 1 106 (dk_at dksX1_wiresOf_1 11 rfl rfl)
theorem dX1_wiresOf_38 : decode cX1_wiresOf 38 = .ok (.iload_n 3, 1) := dk_29 (dk_at dksX1_wiresOf_1 14 rfl rfl)
theorem dX1_wiresOf_39 : decode cX1_wiresOf 39 = .ok (.iaload, 1) := dk_46 (dk_at dksX1_wiresOf_1 15 rfl rfl)
theorem dX1_wiresOf_40 : decode cX1_wiresOf 40 = .ok (.iload_n 1, 1) := dk_27 (dk_at dksX1_wiresOf_1 16 rfl rfl)
theorem dX1_wiresOf_41 : decode cX1_wiresOf 41 = .ok (.if_icmp .ne 6, 3) := dk_160 0 6 (dk_at dksX1_wiresOf_1 17 rfl rfl)
theorem dX1_wiresOf_44 : decode cX1_wiresOf 44 = .ok (.iinc 2 1, 3) := dk_132 2 1 (dk_at dksX1_wiresOf_1 20 rfl rfl)
theorem dX1_wiresOf_47 : decode cX1_wiresOf 47 = .ok (.iinc 3 1, 3) := dk_132 3 1 (dk_at dksX1_wiresOf_2 0 rfl rfl)
theorem dX1_wiresOf_50 : decode cX1_wiresOf 50 = .ok (.goto (-46), 3) := dk_167 255 210 (dk_at dksX1_wiresOf_2 3 rfl rfl)
theorem dX1_wiresOf_53 : decode cX1_wiresOf 53 = .ok (.iload_n 2, 1) := dk_28 (dk_at dksX1_wiresOf_2 6 rfl rfl)
theorem dX1_wiresOf_54 : decode cX1_wiresOf 54 = .ok (.ireturn, 1) := dk_172 (dk_at dksX1_wiresOf_2 7 rfl rfl)
abbrev cX1_move : ByteArray := prog_1_method_56_code
def yX1_move : MethodName := ⟨RX1, "move", "(II)I"⟩
def dkwX1_move_2 : List UInt8 := [42, 180, 0, 87, 27, 46, 167, 0, 4, 2, 172]
abbrev dktX1_move_2 : List UInt8 := dkwX1_move_2 ++ []
def dkwX1_move_1 : List UInt8 := [27, 46, 167, 0, 32, 28, 4, 160, 0, 12, 42, 180, 0, 84, 27, 46, 167, 0, 18, 28, 5, 160, 0, 12]
abbrev dktX1_move_1 : List UInt8 := dkwX1_move_1 ++ dktX1_move_2
def dkwX1_move_0 : List UInt8 := [27, 3, 42, 180, 1, 109, 4, 100, 184, 0, 3, 154, 0, 5, 2, 172, 28, 154, 0, 12, 42, 180, 0, 81]
abbrev dktX1_move_0 : List UInt8 := dkwX1_move_0 ++ dktX1_move_1
theorem dksX1_move_0 : cX1_move.data.toList.drop 0 = dktX1_move_0 := by decide +kernel
theorem dksX1_move_1 : cX1_move.data.toList.drop 24 = dktX1_move_1 := dk_seg dksX1_move_0 24 rfl rfl
theorem dksX1_move_2 : cX1_move.data.toList.drop 48 = dktX1_move_2 := dk_seg dksX1_move_1 24 rfl rfl
theorem dX1_move_0 : decode cX1_move 0 = .ok (.iload_n 1, 1) := dk_27 (dk_at dksX1_move_0 0 rfl rfl)
theorem dX1_move_1 : decode cX1_move 1 = .ok (.iconst 0, 1) := dk_3 (dk_at dksX1_move_0 1 rfl rfl)
theorem dX1_move_2 : decode cX1_move 2 = .ok (.aload_n 0, 1) := dk_42 (dk_at dksX1_move_0 2 rfl rfl)
theorem dX1_move_3 : decode cX1_move 3 = .ok (.getfield 365, 3) := dk_180 1 109 (dk_at dksX1_move_0 3 rfl rfl)
theorem dX1_move_6 : decode cX1_move 6 = .ok (.iconst 1, 1) := dk_4 (dk_at dksX1_move_0 6 rfl rfl)
theorem dX1_move_7 : decode cX1_move 7 = .ok (.isub, 1) := dk_100 (dk_at dksX1_move_0 7 rfl rfl)
theorem dX1_move_8 : decode cX1_move 8 = .ok (.invokestatic 3, 3) := dk_184 0 3 (dk_at dksX1_move_0 8 rfl rfl)
theorem dX1_move_11 : decode cX1_move 11 = .ok (.ifCond .ne 5, 3) := dk_154 0 5 (dk_at dksX1_move_0 11 rfl rfl)
theorem dX1_move_14 : decode cX1_move 14 = .ok (.iconst (-1), 1) := dk_2 (dk_at dksX1_move_0 14 rfl rfl)
theorem dX1_move_15 : decode cX1_move 15 = .ok (.ireturn, 1) := dk_172 (dk_at dksX1_move_0 15 rfl rfl)
theorem dX1_move_16 : decode cX1_move 16 = .ok (.iload_n 2, 1) := dk_28 (dk_at dksX1_move_0 16 rfl rfl)
theorem dX1_move_17 : decode cX1_move 17 = .ok (.ifCond .ne 12, 3) := dk_154 0 12 (dk_at dksX1_move_0 17 rfl rfl)
theorem dX1_move_20 : decode cX1_move 20 = .ok (.aload_n 0, 1) := dk_42 (dk_at dksX1_move_0 20 rfl rfl)
theorem dX1_move_21 : decode cX1_move 21 = .ok (.getfield 81, 3) := dk_180 0 81 (dk_at dksX1_move_0 21 rfl rfl)
theorem dX1_move_24 : decode cX1_move 24 = .ok (.iload_n 1, 1) := dk_27 (dk_at dksX1_move_1 0 rfl rfl)
theorem dX1_move_25 : decode cX1_move 25 = .ok (.iaload, 1) := dk_46 (dk_at dksX1_move_1 1 rfl rfl)
theorem dX1_move_26 : decode cX1_move 26 = .ok (.goto 32, 3) := dk_167 0 32 (dk_at dksX1_move_1 2 rfl rfl)
theorem dX1_move_29 : decode cX1_move 29 = .ok (.iload_n 2, 1) := dk_28 (dk_at dksX1_move_1 5 rfl rfl)
theorem dX1_move_30 : decode cX1_move 30 = .ok (.iconst 1, 1) := dk_4 (dk_at dksX1_move_1 6 rfl rfl)
theorem dX1_move_31 : decode cX1_move 31 = .ok (.if_icmp .ne 12, 3) := dk_160 0 12 (dk_at dksX1_move_1 7 rfl rfl)
theorem dX1_move_34 : decode cX1_move 34 = .ok (.aload_n 0, 1) := dk_42 (dk_at dksX1_move_1 10 rfl rfl)
theorem dX1_move_35 : decode cX1_move 35 = .ok (.getfield 84, 3) := dk_180 0 84 (dk_at dksX1_move_1 11 rfl rfl)
theorem dX1_move_38 : decode cX1_move 38 = .ok (.iload_n 1, 1) := dk_27 (dk_at dksX1_move_1 14 rfl rfl)
theorem dX1_move_39 : decode cX1_move 39 = .ok (.iaload, 1) := dk_46 (dk_at dksX1_move_1 15 rfl rfl)
theorem dX1_move_40 : decode cX1_move 40 = .ok (.goto 18, 3) := dk_167 0 18 (dk_at dksX1_move_1 16 rfl rfl)
theorem dX1_move_43 : decode cX1_move 43 = .ok (.iload_n 2, 1) := dk_28 (dk_at dksX1_move_1 19 rfl rfl)
theorem dX1_move_44 : decode cX1_move 44 = .ok (.iconst 2, 1) := dk_5 (dk_at dksX1_move_1 20 rfl rfl)
theorem dX1_move_45 : decode cX1_move 45 = .ok (.if_icmp .ne 12, 3) := dk_160 0 12 (dk_at dksX1_move_1 21 rfl rfl)
theorem dX1_move_48 : decode cX1_move 48 = .ok (.aload_n 0, 1) := dk_42 (dk_at dksX1_move_2 0 rfl rfl)
theorem dX1_move_49 : decode cX1_move 49 = .ok (.getfield 87, 3) := dk_180 0 87 (dk_at dksX1_move_2 1 rfl rfl)
theorem dX1_move_52 : decode cX1_move 52 = .ok (.iload_n 1, 1) := dk_27 (dk_at dksX1_move_2 4 rfl rfl)
theorem dX1_move_53 : decode cX1_move 53 = .ok (.iaload, 1) := dk_46 (dk_at dksX1_move_2 5 rfl rfl)
theorem dX1_move_54 : decode cX1_move 54 = .ok (.goto 4, 3) := dk_167 0 4 (dk_at dksX1_move_2 6 rfl rfl)
theorem dX1_move_57 : decode cX1_move 57 = .ok (.iconst (-1), 1) := dk_2 (dk_at dksX1_move_2 9 rfl rfl)
theorem dX1_move_58 : decode cX1_move 58 = .ok (.ireturn, 1) := dk_172 (dk_at dksX1_move_2 10 rfl rfl)
abbrev cX1_keep : ByteArray := prog_1_method_58_code
def yX1_keep : MethodName := ⟨RX1, "keep", "(I)Z"⟩
def dkwX1_keep_0 : List UInt8 := [27, 3, 16, 7, 184, 0, 3, 154, 0, 5, 3, 172, 42, 180, 0, 93, 27, 42, 180, 0, 26, 83, 4, 172]
abbrev dktX1_keep_0 : List UInt8 := dkwX1_keep_0 ++ []
theorem dksX1_keep_0 : cX1_keep.data.toList.drop 0 = dktX1_keep_0 := by decide +kernel
theorem dX1_keep_0 : decode cX1_keep 0 = .ok (.iload_n 1, 1) := dk_27 (dk_at dksX1_keep_0 0 rfl rfl)
theorem dX1_keep_1 : decode cX1_keep 1 = .ok (.iconst 0, 1) := dk_3 (dk_at dksX1_keep_0 1 rfl rfl)
theorem dX1_keep_2 : decode cX1_keep 2 = .ok (.bipush 7, 2) := dk_16 7 (dk_at dksX1_keep_0 2 rfl rfl)
theorem dX1_keep_4 : decode cX1_keep 4 = .ok (.invokestatic 3, 3) := dk_184 0 3 (dk_at dksX1_keep_0 4 rfl rfl)
theorem dX1_keep_7 : decode cX1_keep 7 = .ok (.ifCond .ne 5, 3) := dk_154 0 5 (dk_at dksX1_keep_0 7 rfl rfl)
theorem dX1_keep_10 : decode cX1_keep 10 = .ok (.iconst 0, 1) := dk_3 (dk_at dksX1_keep_0 10 rfl rfl)
theorem dX1_keep_11 : decode cX1_keep 11 = .ok (.ireturn, 1) := dk_172 (dk_at dksX1_keep_0 11 rfl rfl)
theorem dX1_keep_12 : decode cX1_keep 12 = .ok (.aload_n 0, 1) := dk_42 (dk_at dksX1_keep_0 12 rfl rfl)
theorem dX1_keep_13 : decode cX1_keep 13 = .ok (.getfield 93, 3) := dk_180 0 93 (dk_at dksX1_keep_0 13 rfl rfl)
theorem dX1_keep_16 : decode cX1_keep 16 = .ok (.iload_n 1, 1) := dk_27 (dk_at dksX1_keep_0 16 rfl rfl)
theorem dX1_keep_17 : decode cX1_keep 17 = .ok (.aload_n 0, 1) := dk_42 (dk_at dksX1_keep_0 17 rfl rfl)
theorem dX1_keep_18 : decode cX1_keep 18 = .ok (.getfield 26, 3) := dk_180 0 26 (dk_at dksX1_keep_0 18 rfl rfl)
theorem dX1_keep_21 : decode cX1_keep 21 = .ok (.aastore, 1) := dk_83 (dk_at dksX1_keep_0 21 rfl rfl)
theorem dX1_keep_22 : decode cX1_keep 22 = .ok (.iconst 1, 1) := dk_4 (dk_at dksX1_keep_0 22 rfl rfl)
theorem dX1_keep_23 : decode cX1_keep 23 = .ok (.ireturn, 1) := dk_172 (dk_at dksX1_keep_0 23 rfl rfl)
abbrev cX1_use : ByteArray := prog_1_method_59_code
def yX1_use : MethodName := ⟨RX1, "use", "(I)I"⟩
def dkwX1_use_1 : List UInt8 := [180, 0, 162, 172]
abbrev dktX1_use_1 : List UInt8 := dkwX1_use_1 ++ []
def dkwX1_use_0 : List UInt8 := [42, 27, 182, 1, 130, 154, 0, 5, 2, 172, 42, 42, 180, 0, 93, 27, 50, 181, 0, 26, 42, 180, 0, 26]
abbrev dktX1_use_0 : List UInt8 := dkwX1_use_0 ++ dktX1_use_1
theorem dksX1_use_0 : cX1_use.data.toList.drop 0 = dktX1_use_0 := by decide +kernel
theorem dksX1_use_1 : cX1_use.data.toList.drop 24 = dktX1_use_1 := dk_seg dksX1_use_0 24 rfl rfl
theorem dX1_use_0 : decode cX1_use 0 = .ok (.aload_n 0, 1) := dk_42 (dk_at dksX1_use_0 0 rfl rfl)
theorem dX1_use_1 : decode cX1_use 1 = .ok (.iload_n 1, 1) := dk_27 (dk_at dksX1_use_0 1 rfl rfl)
theorem dX1_use_2 : decode cX1_use 2 = .ok (.invokevirtual 386, 3) := dk_182 1 130 (dk_at dksX1_use_0 2 rfl rfl)
theorem dX1_use_5 : decode cX1_use 5 = .ok (.ifCond .ne 5, 3) := dk_154 0 5 (dk_at dksX1_use_0 5 rfl rfl)
theorem dX1_use_8 : decode cX1_use 8 = .ok (.iconst (-1), 1) := dk_2 (dk_at dksX1_use_0 8 rfl rfl)
theorem dX1_use_9 : decode cX1_use 9 = .ok (.ireturn, 1) := dk_172 (dk_at dksX1_use_0 9 rfl rfl)
theorem dX1_use_10 : decode cX1_use 10 = .ok (.aload_n 0, 1) := dk_42 (dk_at dksX1_use_0 10 rfl rfl)
theorem dX1_use_11 : decode cX1_use 11 = .ok (.aload_n 0, 1) := dk_42 (dk_at dksX1_use_0 11 rfl rfl)
theorem dX1_use_12 : decode cX1_use 12 = .ok (.getfield 93, 3) := dk_180 0 93 (dk_at dksX1_use_0 12 rfl rfl)
theorem dX1_use_15 : decode cX1_use 15 = .ok (.iload_n 1, 1) := dk_27 (dk_at dksX1_use_0 15 rfl rfl)
theorem dX1_use_16 : decode cX1_use 16 = .ok (.aaload, 1) := dk_50 (dk_at dksX1_use_0 16 rfl rfl)
theorem dX1_use_17 : decode cX1_use 17 = .ok (.putfield 26, 3) := dk_181 0 26 (dk_at dksX1_use_0 17 rfl rfl)
theorem dX1_use_20 : decode cX1_use 20 = .ok (.aload_n 0, 1) := dk_42 (dk_at dksX1_use_0 20 rfl rfl)
theorem dX1_use_21 : decode cX1_use 21 = .ok (.getfield 26, 3) := dk_180 0 26 (dk_at dksX1_use_0 21 rfl rfl)
theorem dX1_use_24 : decode cX1_use 24 = .ok (.getfield 162, 3) := dk_180 0 162 (dk_at dksX1_use_1 0 rfl rfl)
theorem dX1_use_27 : decode cX1_use 27 = .ok (.ireturn, 1) := dk_172 (dk_at dksX1_use_1 3 rfl rfl)
abbrev cX1_isKept : ByteArray := prog_1_method_57_code
def yX1_isKept : MethodName := ⟨RX1, "isKept", "(I)Z"⟩
def dkwX1_isKept_1 : List UInt8 := [172]
abbrev dktX1_isKept_1 : List UInt8 := dkwX1_isKept_1 ++ []
def dkwX1_isKept_0 : List UInt8 := [27, 3, 16, 7, 184, 0, 3, 153, 0, 16, 42, 180, 0, 93, 27, 50, 198, 0, 7, 4, 167, 0, 4, 3]
abbrev dktX1_isKept_0 : List UInt8 := dkwX1_isKept_0 ++ dktX1_isKept_1
theorem dksX1_isKept_0 : cX1_isKept.data.toList.drop 0 = dktX1_isKept_0 := by decide +kernel
theorem dksX1_isKept_1 : cX1_isKept.data.toList.drop 24 = dktX1_isKept_1 := dk_seg dksX1_isKept_0 24 rfl rfl
theorem dX1_isKept_0 : decode cX1_isKept 0 = .ok (.iload_n 1, 1) := dk_27 (dk_at dksX1_isKept_0 0 rfl rfl)
theorem dX1_isKept_1 : decode cX1_isKept 1 = .ok (.iconst 0, 1) := dk_3 (dk_at dksX1_isKept_0 1 rfl rfl)
theorem dX1_isKept_2 : decode cX1_isKept 2 = .ok (.bipush 7, 2) := dk_16 7 (dk_at dksX1_isKept_0 2 rfl rfl)
theorem dX1_isKept_4 : decode cX1_isKept 4 = .ok (.invokestatic 3, 3) := dk_184 0 3 (dk_at dksX1_isKept_0 4 rfl rfl)
theorem dX1_isKept_7 : decode cX1_isKept 7 = .ok (.ifCond .eq 16, 3) := dk_153 0 16 (dk_at dksX1_isKept_0 7 rfl rfl)
theorem dX1_isKept_10 : decode cX1_isKept 10 = .ok (.aload_n 0, 1) := dk_42 (dk_at dksX1_isKept_0 10 rfl rfl)
theorem dX1_isKept_11 : decode cX1_isKept 11 = .ok (.getfield 93, 3) := dk_180 0 93 (dk_at dksX1_isKept_0 11 rfl rfl)
theorem dX1_isKept_14 : decode cX1_isKept 14 = .ok (.iload_n 1, 1) := dk_27 (dk_at dksX1_isKept_0 14 rfl rfl)
theorem dX1_isKept_15 : decode cX1_isKept 15 = .ok (.aaload, 1) := dk_50 (dk_at dksX1_isKept_0 15 rfl rfl)
theorem dX1_isKept_16 : decode cX1_isKept 16 = .ok (.ifnull 7, 3) := dk_198 0 7 (dk_at dksX1_isKept_0 16 rfl rfl)
theorem dX1_isKept_19 : decode cX1_isKept 19 = .ok (.iconst 1, 1) := dk_4 (dk_at dksX1_isKept_0 19 rfl rfl)
theorem dX1_isKept_20 : decode cX1_isKept 20 = .ok (.goto 4, 3) := dk_167 0 4 (dk_at dksX1_isKept_0 20 rfl rfl)
theorem dX1_isKept_23 : decode cX1_isKept 23 = .ok (.iconst 0, 1) := dk_3 (dk_at dksX1_isKept_0 23 rfl rfl)
theorem dX1_isKept_24 : decode cX1_isKept 24 = .ok (.ireturn, 1) := dk_172 (dk_at dksX1_isKept_1 0 rfl rfl)
abbrev cX1_apart : ByteArray := prog_1_method_60_code
def yX1_apart : MethodName := ⟨RX1, "apart", "(II)I"⟩
def dkwX1_apart_1 : List UInt8 := [180, 0, 93, 28, 50, 182, 1, 133, 167, 0, 4, 2, 172]
abbrev dktX1_apart_1 : List UInt8 := dkwX1_apart_1 ++ []
def dkwX1_apart_0 : List UInt8 := [42, 27, 182, 1, 130, 153, 0, 29, 42, 28, 182, 1, 130, 153, 0, 21, 42, 180, 0, 93, 27, 50, 42]
abbrev dktX1_apart_0 : List UInt8 := dkwX1_apart_0 ++ dktX1_apart_1
theorem dksX1_apart_0 : cX1_apart.data.toList.drop 0 = dktX1_apart_0 := by decide +kernel
theorem dksX1_apart_1 : cX1_apart.data.toList.drop 23 = dktX1_apart_1 := dk_seg dksX1_apart_0 23 rfl rfl
theorem dX1_apart_0 : decode cX1_apart 0 = .ok (.aload_n 0, 1) := dk_42 (dk_at dksX1_apart_0 0 rfl rfl)
theorem dX1_apart_1 : decode cX1_apart 1 = .ok (.iload_n 1, 1) := dk_27 (dk_at dksX1_apart_0 1 rfl rfl)
theorem dX1_apart_2 : decode cX1_apart 2 = .ok (.invokevirtual 386, 3) := dk_182 1 130 (dk_at dksX1_apart_0 2 rfl rfl)
theorem dX1_apart_5 : decode cX1_apart 5 = .ok (.ifCond .eq 29, 3) := dk_153 0 29 (dk_at dksX1_apart_0 5 rfl rfl)
theorem dX1_apart_8 : decode cX1_apart 8 = .ok (.aload_n 0, 1) := dk_42 (dk_at dksX1_apart_0 8 rfl rfl)
theorem dX1_apart_9 : decode cX1_apart 9 = .ok (.iload_n 2, 1) := dk_28 (dk_at dksX1_apart_0 9 rfl rfl)
theorem dX1_apart_10 : decode cX1_apart 10 = .ok (.invokevirtual 386, 3) := dk_182 1 130 (dk_at dksX1_apart_0 10 rfl rfl)
theorem dX1_apart_13 : decode cX1_apart 13 = .ok (.ifCond .eq 21, 3) := dk_153 0 21 (dk_at dksX1_apart_0 13 rfl rfl)
theorem dX1_apart_16 : decode cX1_apart 16 = .ok (.aload_n 0, 1) := dk_42 (dk_at dksX1_apart_0 16 rfl rfl)
theorem dX1_apart_17 : decode cX1_apart 17 = .ok (.getfield 93, 3) := dk_180 0 93 (dk_at dksX1_apart_0 17 rfl rfl)
theorem dX1_apart_20 : decode cX1_apart 20 = .ok (.iload_n 1, 1) := dk_27 (dk_at dksX1_apart_0 20 rfl rfl)
theorem dX1_apart_21 : decode cX1_apart 21 = .ok (.aaload, 1) := dk_50 (dk_at dksX1_apart_0 21 rfl rfl)
theorem dX1_apart_22 : decode cX1_apart 22 = .ok (.aload_n 0, 1) := dk_42 (dk_at dksX1_apart_0 22 rfl rfl)
theorem dX1_apart_23 : decode cX1_apart 23 = .ok (.getfield 93, 3) := dk_180 0 93 (dk_at dksX1_apart_1 0 rfl rfl)
theorem dX1_apart_26 : decode cX1_apart 26 = .ok (.iload_n 2, 1) := dk_28 (dk_at dksX1_apart_1 3 rfl rfl)
theorem dX1_apart_27 : decode cX1_apart 27 = .ok (.aaload, 1) := dk_50 (dk_at dksX1_apart_1 4 rfl rfl)
theorem dX1_apart_28 : decode cX1_apart 28 = .ok (.invokevirtual 389, 3) := dk_182 1 133 (dk_at dksX1_apart_1 5 rfl rfl)
theorem dX1_apart_31 : decode cX1_apart 31 = .ok (.goto 4, 3) := dk_167 0 4 (dk_at dksX1_apart_1 8 rfl rfl)
theorem dX1_apart_34 : decode cX1_apart 34 = .ok (.iconst (-1), 1) := dk_2 (dk_at dksX1_apart_1 11 rfl rfl)
theorem dX1_apart_35 : decode cX1_apart 35 = .ok (.ireturn, 1) := dk_172 (dk_at dksX1_apart_1 12 rfl rfl)
abbrev cX1_friday : ByteArray := prog_1_method_62_code
def yX1_friday : MethodName := ⟨RX1, "friday", "()I"⟩
def dkwX1_friday_8 : List UInt8 := [181, 1, 143, 42, 180, 0, 97, 3, 42, 180, 0, 100, 3, 28, 184, 1, 65, 42, 180, 1, 137, 172]
abbrev dktX1_friday_8 : List UInt8 := dkwX1_friday_8 ++ []
def dkwX1_friday_7 : List UInt8 := [181, 1, 137, 42, 3, 3, 3, 28, 182, 1, 140, 42, 180, 1, 137, 2, 160, 0, 5, 2, 172, 42, 28]
abbrev dktX1_friday_7 : List UInt8 := dkwX1_friday_7 ++ dktX1_friday_8
def dkwX1_friday_6 : List UInt8 := [21, 4, 104, 51, 50, 182, 1, 133, 104, 79, 132, 5, 1, 167, 255, 183, 132, 4, 1, 167, 255, 168, 42, 2]
abbrev dktX1_friday_6 : List UInt8 := dkwX1_friday_6 ++ dktX1_friday_7
def dkwX1_friday_5 : List UInt8 := [21, 5, 104, 51, 50, 21, 4, 28, 160, 0, 7, 45, 167, 0, 17, 42, 180, 0, 93, 42, 180, 0, 13, 8]
abbrev dktX1_friday_5 : List UInt8 := dkwX1_friday_5 ++ dktX1_friday_6
def dkwX1_friday_4 : List UInt8 := [160, 0, 8, 16, 6, 167, 0, 5, 21, 4, 50, 21, 5, 5, 42, 180, 0, 93, 42, 180, 0, 13, 8]
abbrev dktX1_friday_4 : List UInt8 := dkwX1_friday_4 ++ dktX1_friday_5
def dkwX1_friday_3 : List UInt8 := [54, 4, 21, 4, 28, 163, 0, 88, 3, 54, 5, 21, 5, 28, 162, 0, 73, 42, 180, 0, 108, 21, 4, 28]
abbrev dktX1_friday_3 : List UInt8 := dkwX1_friday_3 ++ dktX1_friday_4
def dkwX1_friday_2 : List UInt8 := [182, 1, 130, 154, 0, 6, 16, 254, 172, 132, 3, 1, 167, 255, 230, 187, 0, 23, 89, 183, 0, 25, 78, 3]
abbrev dktX1_friday_2 : List UInt8 := dkwX1_friday_2 ++ dktX1_friday_3
def dkwX1_friday_1 : List UInt8 := [154, 0, 6, 16, 254, 172, 3, 62, 29, 28, 162, 0, 27, 42, 42, 180, 0, 13, 8, 29, 104, 51]
abbrev dktX1_friday_1 : List UInt8 := dkwX1_friday_1 ++ dktX1_friday_2
def dkwX1_friday_0 : List UInt8 := [42, 182, 0, 119, 60, 27, 8, 108, 61, 27, 8, 112, 154, 0, 13, 28, 4, 16, 6, 184, 0, 3]
abbrev dktX1_friday_0 : List UInt8 := dkwX1_friday_0 ++ dktX1_friday_1
theorem dksX1_friday_0 : cX1_friday.data.toList.drop 0 = dktX1_friday_0 := by decide +kernel
theorem dksX1_friday_1 : cX1_friday.data.toList.drop 22 = dktX1_friday_1 := dk_seg dksX1_friday_0 22 rfl rfl
theorem dksX1_friday_2 : cX1_friday.data.toList.drop 44 = dktX1_friday_2 := dk_seg dksX1_friday_1 22 rfl rfl
theorem dksX1_friday_3 : cX1_friday.data.toList.drop 68 = dktX1_friday_3 := dk_seg dksX1_friday_2 24 rfl rfl
theorem dksX1_friday_4 : cX1_friday.data.toList.drop 92 = dktX1_friday_4 := dk_seg dksX1_friday_3 24 rfl rfl
theorem dksX1_friday_5 : cX1_friday.data.toList.drop 115 = dktX1_friday_5 := dk_seg dksX1_friday_4 23 rfl rfl
theorem dksX1_friday_6 : cX1_friday.data.toList.drop 139 = dktX1_friday_6 := dk_seg dksX1_friday_5 24 rfl rfl
theorem dksX1_friday_7 : cX1_friday.data.toList.drop 163 = dktX1_friday_7 := dk_seg dksX1_friday_6 24 rfl rfl
theorem dksX1_friday_8 : cX1_friday.data.toList.drop 186 = dktX1_friday_8 := dk_seg dksX1_friday_7 23 rfl rfl
theorem dX1_friday_0 : decode cX1_friday 0 = .ok (.aload_n 0, 1) := dk_42 (dk_at dksX1_friday_0 0 rfl rfl)
theorem dX1_friday_1 : decode cX1_friday 1 = .ok (.invokevirtual 119, 3) := dk_182 0 119 (dk_at dksX1_friday_0 1 rfl rfl)
theorem dX1_friday_4 : decode cX1_friday 4 = .ok (.istore_n 1, 1) := dk_60 (dk_at dksX1_friday_0 4 rfl rfl)
theorem dX1_friday_5 : decode cX1_friday 5 = .ok (.iload_n 1, 1) := dk_27 (dk_at dksX1_friday_0 5 rfl rfl)
theorem dX1_friday_6 : decode cX1_friday 6 = .ok (.iconst 5, 1) := dk_8 (dk_at dksX1_friday_0 6 rfl rfl)
theorem dX1_friday_7 : decode cX1_friday 7 = .ok (.idiv, 1) := dk_108 (dk_at dksX1_friday_0 7 rfl rfl)
theorem dX1_friday_8 : decode cX1_friday 8 = .ok (.istore_n 2, 1) := dk_61 (dk_at dksX1_friday_0 8 rfl rfl)
theorem dX1_friday_9 : decode cX1_friday 9 = .ok (.iload_n 1, 1) := dk_27 (dk_at dksX1_friday_0 9 rfl rfl)
theorem dX1_friday_10 : decode cX1_friday 10 = .ok (.iconst 5, 1) := dk_8 (dk_at dksX1_friday_0 10 rfl rfl)
theorem dX1_friday_11 : decode cX1_friday 11 = .ok (.irem, 1) := dk_112 (dk_at dksX1_friday_0 11 rfl rfl)
theorem dX1_friday_12 : decode cX1_friday 12 = .ok (.ifCond .ne 13, 3) := dk_154 0 13 (dk_at dksX1_friday_0 12 rfl rfl)
theorem dX1_friday_15 : decode cX1_friday 15 = .ok (.iload_n 2, 1) := dk_28 (dk_at dksX1_friday_0 15 rfl rfl)
theorem dX1_friday_16 : decode cX1_friday 16 = .ok (.iconst 1, 1) := dk_4 (dk_at dksX1_friday_0 16 rfl rfl)
theorem dX1_friday_17 : decode cX1_friday 17 = .ok (.bipush 6, 2) := dk_16 6 (dk_at dksX1_friday_0 17 rfl rfl)
theorem dX1_friday_19 : decode cX1_friday 19 = .ok (.invokestatic 3, 3) := dk_184 0 3 (dk_at dksX1_friday_0 19 rfl rfl)
theorem dX1_friday_22 : decode cX1_friday 22 = .ok (.ifCond .ne 6, 3) := dk_154 0 6 (dk_at dksX1_friday_1 0 rfl rfl)
theorem dX1_friday_25 : decode cX1_friday 25 = .ok (.bipush (-2), 2) := dk_16 254 (dk_at dksX1_friday_1 3 rfl rfl)
theorem dX1_friday_27 : decode cX1_friday 27 = .ok (.ireturn, 1) := dk_172 (dk_at dksX1_friday_1 5 rfl rfl)
theorem dX1_friday_28 : decode cX1_friday 28 = .ok (.iconst 0, 1) := dk_3 (dk_at dksX1_friday_1 6 rfl rfl)
theorem dX1_friday_29 : decode cX1_friday 29 = .ok (.istore_n 3, 1) := dk_62 (dk_at dksX1_friday_1 7 rfl rfl)
theorem dX1_friday_30 : decode cX1_friday 30 = .ok (.iload_n 3, 1) := dk_29 (dk_at dksX1_friday_1 8 rfl rfl)
theorem dX1_friday_31 : decode cX1_friday 31 = .ok (.iload_n 2, 1) := dk_28 (dk_at dksX1_friday_1 9 rfl rfl)
theorem dX1_friday_32 : decode cX1_friday 32 = .ok (.if_icmp .ge 27, 3) := dk_162 0 27 (dk_at dksX1_friday_1 10 rfl rfl)
theorem dX1_friday_35 : decode cX1_friday 35 = .ok (.aload_n 0, 1) := dk_42 (dk_at dksX1_friday_1 13 rfl rfl)
theorem dX1_friday_36 : decode cX1_friday 36 = .ok (.aload_n 0, 1) := dk_42 (dk_at dksX1_friday_1 14 rfl rfl)
theorem dX1_friday_37 : decode cX1_friday 37 = .ok (.getfield 13, 3) := dk_180 0 13 (dk_at dksX1_friday_1 15 rfl rfl)
theorem dX1_friday_40 : decode cX1_friday 40 = .ok (.iconst 5, 1) := dk_8 (dk_at dksX1_friday_1 18 rfl rfl)
theorem dX1_friday_41 : decode cX1_friday 41 = .ok (.iload_n 3, 1) := dk_29 (dk_at dksX1_friday_1 19 rfl rfl)
theorem dX1_friday_42 : decode cX1_friday 42 = .ok (.imul, 1) := dk_104 (dk_at dksX1_friday_1 20 rfl rfl)
theorem dX1_friday_43 : decode cX1_friday 43 = .ok (.baload, 1) := dk_51 (dk_at dksX1_friday_1 21 rfl rfl)
theorem dX1_friday_44 : decode cX1_friday 44 = .ok (.invokevirtual 386, 3) := dk_182 1 130 (dk_at dksX1_friday_2 0 rfl rfl)
theorem dX1_friday_47 : decode cX1_friday 47 = .ok (.ifCond .ne 6, 3) := dk_154 0 6 (dk_at dksX1_friday_2 3 rfl rfl)
theorem dX1_friday_50 : decode cX1_friday 50 = .ok (.bipush (-2), 2) := dk_16 254 (dk_at dksX1_friday_2 6 rfl rfl)
theorem dX1_friday_52 : decode cX1_friday 52 = .ok (.ireturn, 1) := dk_172 (dk_at dksX1_friday_2 8 rfl rfl)
theorem dX1_friday_53 : decode cX1_friday 53 = .ok (.iinc 3 1, 3) := dk_132 3 1 (dk_at dksX1_friday_2 9 rfl rfl)
theorem dX1_friday_56 : decode cX1_friday 56 = .ok (.goto (-26), 3) := dk_167 255 230 (dk_at dksX1_friday_2 12 rfl rfl)
theorem dX1_friday_59 : decode cX1_friday 59 = .ok (.new 23, 3) := dk_187 0 23 (dk_at dksX1_friday_2 15 rfl rfl)
theorem dX1_friday_62 : decode cX1_friday 62 = .ok (.dup, 1) := dk_89 (dk_at dksX1_friday_2 18 rfl rfl)
theorem dX1_friday_63 : decode cX1_friday 63 = .ok (.invokespecial 25, 3) := dk_183 0 25 (dk_at dksX1_friday_2 19 rfl rfl)
theorem dX1_friday_66 : decode cX1_friday 66 = .ok (.astore_n 3, 1) := dk_78 (dk_at dksX1_friday_2 22 rfl rfl)
theorem dX1_friday_67 : decode cX1_friday 67 = .ok (.iconst 0, 1) := dk_3 (dk_at dksX1_friday_2 23 rfl rfl)
theorem dX1_friday_68 : decode cX1_friday 68 = .ok (.istore 4, 2) := dk_54 4 (dk_at dksX1_friday_3 0 rfl rfl)
theorem dX1_friday_70 : decode cX1_friday 70 = .ok (.iload 4, 2) := dk_21 4 (dk_at dksX1_friday_3 2 rfl rfl)
theorem dX1_friday_72 : decode cX1_friday 72 = .ok (.iload_n 2, 1) := dk_28 (dk_at dksX1_friday_3 4 rfl rfl)
theorem dX1_friday_73 : decode cX1_friday 73 = .ok (.if_icmp .gt 88, 3) := dk_163 0 88 (dk_at dksX1_friday_3 5 rfl rfl)
theorem dX1_friday_76 : decode cX1_friday 76 = .ok (.iconst 0, 1) := dk_3 (dk_at dksX1_friday_3 8 rfl rfl)
theorem dX1_friday_77 : decode cX1_friday 77 = .ok (.istore 5, 2) := dk_54 5 (dk_at dksX1_friday_3 9 rfl rfl)
theorem dX1_friday_79 : decode cX1_friday 79 = .ok (.iload 5, 2) := dk_21 5 (dk_at dksX1_friday_3 11 rfl rfl)
theorem dX1_friday_81 : decode cX1_friday 81 = .ok (.iload_n 2, 1) := dk_28 (dk_at dksX1_friday_3 13 rfl rfl)
theorem dX1_friday_82 : decode cX1_friday 82 = .ok (.if_icmp .ge 73, 3) := dk_162 0 73 (dk_at dksX1_friday_3 14 rfl rfl)
theorem dX1_friday_85 : decode cX1_friday 85 = .ok (.aload_n 0, 1) := dk_42 (dk_at dksX1_friday_3 17 rfl rfl)
theorem dX1_friday_86 : decode cX1_friday 86 = .ok (.getfield 108, 3) := dk_180 0 108 (dk_at dksX1_friday_3 18 rfl rfl)
theorem dX1_friday_89 : decode cX1_friday 89 = .ok (.iload 4, 2) := dk_21 4 (dk_at dksX1_friday_3 21 rfl rfl)
theorem dX1_friday_91 : decode cX1_friday 91 = .ok (.iload_n 2, 1) := dk_28 (dk_at dksX1_friday_3 23 rfl rfl)
theorem dX1_friday_92 : decode cX1_friday 92 = .ok (.if_icmp .ne 8, 3) := dk_160 0 8 (dk_at dksX1_friday_4 0 rfl rfl)
theorem dX1_friday_95 : decode cX1_friday 95 = .ok (.bipush 6, 2) := dk_16 6 (dk_at dksX1_friday_4 3 rfl rfl)
theorem dX1_friday_97 : decode cX1_friday 97 = .ok (.goto 5, 3) := dk_167 0 5 (dk_at dksX1_friday_4 5 rfl rfl)
theorem dX1_friday_100 : decode cX1_friday 100 = .ok (.iload 4, 2) := dk_21 4 (dk_at dksX1_friday_4 8 rfl rfl)
theorem dX1_friday_102 : decode cX1_friday 102 = .ok (.aaload, 1) := dk_50 (dk_at dksX1_friday_4 10 rfl rfl)
theorem dX1_friday_103 : decode cX1_friday 103 = .ok (.iload 5, 2) := dk_21 5 (dk_at dksX1_friday_4 11 rfl rfl)
theorem dX1_friday_105 : decode cX1_friday 105 = .ok (.iconst 2, 1) := dk_5 (dk_at dksX1_friday_4 13 rfl rfl)
theorem dX1_friday_106 : decode cX1_friday 106 = .ok (.aload_n 0, 1) := dk_42 (dk_at dksX1_friday_4 14 rfl rfl)
theorem dX1_friday_107 : decode cX1_friday 107 = .ok (.getfield 93, 3) := dk_180 0 93 (dk_at dksX1_friday_4 15 rfl rfl)
theorem dX1_friday_110 : decode cX1_friday 110 = .ok (.aload_n 0, 1) := dk_42 (dk_at dksX1_friday_4 18 rfl rfl)
theorem dX1_friday_111 : decode cX1_friday 111 = .ok (.getfield 13, 3) := dk_180 0 13 (dk_at dksX1_friday_4 19 rfl rfl)
theorem dX1_friday_114 : decode cX1_friday 114 = .ok (.iconst 5, 1) := dk_8 (dk_at dksX1_friday_4 22 rfl rfl)
theorem dX1_friday_115 : decode cX1_friday 115 = .ok (.iload 5, 2) := dk_21 5 (dk_at dksX1_friday_5 0 rfl rfl)
theorem dX1_friday_117 : decode cX1_friday 117 = .ok (.imul, 1) := dk_104 (dk_at dksX1_friday_5 2 rfl rfl)
theorem dX1_friday_118 : decode cX1_friday 118 = .ok (.baload, 1) := dk_51 (dk_at dksX1_friday_5 3 rfl rfl)
theorem dX1_friday_119 : decode cX1_friday 119 = .ok (.aaload, 1) := dk_50 (dk_at dksX1_friday_5 4 rfl rfl)
theorem dX1_friday_120 : decode cX1_friday 120 = .ok (.iload 4, 2) := dk_21 4 (dk_at dksX1_friday_5 5 rfl rfl)
theorem dX1_friday_122 : decode cX1_friday 122 = .ok (.iload_n 2, 1) := dk_28 (dk_at dksX1_friday_5 7 rfl rfl)
theorem dX1_friday_123 : decode cX1_friday 123 = .ok (.if_icmp .ne 7, 3) := dk_160 0 7 (dk_at dksX1_friday_5 8 rfl rfl)
theorem dX1_friday_126 : decode cX1_friday 126 = .ok (.aload_n 3, 1) := dk_45 (dk_at dksX1_friday_5 11 rfl rfl)
theorem dX1_friday_127 : decode cX1_friday 127 = .ok (.goto 17, 3) := dk_167 0 17 (dk_at dksX1_friday_5 12 rfl rfl)
theorem dX1_friday_130 : decode cX1_friday 130 = .ok (.aload_n 0, 1) := dk_42 (dk_at dksX1_friday_5 15 rfl rfl)
theorem dX1_friday_131 : decode cX1_friday 131 = .ok (.getfield 93, 3) := dk_180 0 93 (dk_at dksX1_friday_5 16 rfl rfl)
theorem dX1_friday_134 : decode cX1_friday 134 = .ok (.aload_n 0, 1) := dk_42 (dk_at dksX1_friday_5 19 rfl rfl)
theorem dX1_friday_135 : decode cX1_friday 135 = .ok (.getfield 13, 3) := dk_180 0 13 (dk_at dksX1_friday_5 20 rfl rfl)
theorem dX1_friday_138 : decode cX1_friday 138 = .ok (.iconst 5, 1) := dk_8 (dk_at dksX1_friday_5 23 rfl rfl)
theorem dX1_friday_139 : decode cX1_friday 139 = .ok (.iload 4, 2) := dk_21 4 (dk_at dksX1_friday_6 0 rfl rfl)
theorem dX1_friday_141 : decode cX1_friday 141 = .ok (.imul, 1) := dk_104 (dk_at dksX1_friday_6 2 rfl rfl)
theorem dX1_friday_142 : decode cX1_friday 142 = .ok (.baload, 1) := dk_51 (dk_at dksX1_friday_6 3 rfl rfl)
theorem dX1_friday_143 : decode cX1_friday 143 = .ok (.aaload, 1) := dk_50 (dk_at dksX1_friday_6 4 rfl rfl)
theorem dX1_friday_144 : decode cX1_friday 144 = .ok (.invokevirtual 389, 3) := dk_182 1 133 (dk_at dksX1_friday_6 5 rfl rfl)
theorem dX1_friday_147 : decode cX1_friday 147 = .ok (.imul, 1) := dk_104 (dk_at dksX1_friday_6 8 rfl rfl)
theorem dX1_friday_148 : decode cX1_friday 148 = .ok (.iastore, 1) := dk_79 (dk_at dksX1_friday_6 9 rfl rfl)
theorem dX1_friday_149 : decode cX1_friday 149 = .ok (.iinc 5 1, 3) := dk_132 5 1 (dk_at dksX1_friday_6 10 rfl rfl)
theorem dX1_friday_152 : decode cX1_friday 152 = .ok (.goto (-73), 3) := dk_167 255 183 (dk_at dksX1_friday_6 13 rfl rfl)
theorem dX1_friday_155 : decode cX1_friday 155 = .ok (.iinc 4 1, 3) := dk_132 4 1 (dk_at dksX1_friday_6 16 rfl rfl)
theorem dX1_friday_158 : decode cX1_friday 158 = .ok (.goto (-88), 3) := dk_167 255 168 (dk_at dksX1_friday_6 19 rfl rfl)
theorem dX1_friday_161 : decode cX1_friday 161 = .ok (.aload_n 0, 1) := dk_42 (dk_at dksX1_friday_6 22 rfl rfl)
theorem dX1_friday_162 : decode cX1_friday 162 = .ok (.iconst (-1), 1) := dk_2 (dk_at dksX1_friday_6 23 rfl rfl)
theorem dX1_friday_163 : decode cX1_friday 163 = .ok (.putfield 393, 3) := dk_181 1 137 (dk_at dksX1_friday_7 0 rfl rfl)
theorem dX1_friday_166 : decode cX1_friday 166 = .ok (.aload_n 0, 1) := dk_42 (dk_at dksX1_friday_7 3 rfl rfl)
theorem dX1_friday_167 : decode cX1_friday 167 = .ok (.iconst 0, 1) := dk_3 (dk_at dksX1_friday_7 4 rfl rfl)
theorem dX1_friday_168 : decode cX1_friday 168 = .ok (.iconst 0, 1) := dk_3 (dk_at dksX1_friday_7 5 rfl rfl)
theorem dX1_friday_169 : decode cX1_friday 169 = .ok (.iconst 0, 1) := dk_3 (dk_at dksX1_friday_7 6 rfl rfl)
theorem dX1_friday_170 : decode cX1_friday 170 = .ok (.iload_n 2, 1) := dk_28 (dk_at dksX1_friday_7 7 rfl rfl)
theorem dX1_friday_171 : decode cX1_friday 171 = .ok (.invokevirtual 396, 3) := dk_182 1 140 (dk_at dksX1_friday_7 8 rfl rfl)
theorem dX1_friday_174 : decode cX1_friday 174 = .ok (.aload_n 0, 1) := dk_42 (dk_at dksX1_friday_7 11 rfl rfl)
theorem dX1_friday_175 : decode cX1_friday 175 = .ok (.getfield 393, 3) := dk_180 1 137 (dk_at dksX1_friday_7 12 rfl rfl)
theorem dX1_friday_178 : decode cX1_friday 178 = .ok (.iconst (-1), 1) := dk_2 (dk_at dksX1_friday_7 15 rfl rfl)
theorem dX1_friday_179 : decode cX1_friday 179 = .ok (.if_icmp .ne 5, 3) := dk_160 0 5 (dk_at dksX1_friday_7 16 rfl rfl)
theorem dX1_friday_182 : decode cX1_friday 182 = .ok (.iconst (-1), 1) := dk_2 (dk_at dksX1_friday_7 19 rfl rfl)
theorem dX1_friday_183 : decode cX1_friday 183 = .ok (.ireturn, 1) := dk_172 (dk_at dksX1_friday_7 20 rfl rfl)
theorem dX1_friday_184 : decode cX1_friday 184 = .ok (.aload_n 0, 1) := dk_42 (dk_at dksX1_friday_7 21 rfl rfl)
theorem dX1_friday_185 : decode cX1_friday 185 = .ok (.iload_n 2, 1) := dk_28 (dk_at dksX1_friday_7 22 rfl rfl)
theorem dX1_friday_186 : decode cX1_friday 186 = .ok (.putfield 399, 3) := dk_181 1 143 (dk_at dksX1_friday_8 0 rfl rfl)
theorem dX1_friday_189 : decode cX1_friday 189 = .ok (.aload_n 0, 1) := dk_42 (dk_at dksX1_friday_8 3 rfl rfl)
theorem dX1_friday_190 : decode cX1_friday 190 = .ok (.getfield 97, 3) := dk_180 0 97 (dk_at dksX1_friday_8 4 rfl rfl)
theorem dX1_friday_193 : decode cX1_friday 193 = .ok (.iconst 0, 1) := dk_3 (dk_at dksX1_friday_8 7 rfl rfl)
theorem dX1_friday_194 : decode cX1_friday 194 = .ok (.aload_n 0, 1) := dk_42 (dk_at dksX1_friday_8 8 rfl rfl)
theorem dX1_friday_195 : decode cX1_friday 195 = .ok (.getfield 100, 3) := dk_180 0 100 (dk_at dksX1_friday_8 9 rfl rfl)
theorem dX1_friday_198 : decode cX1_friday 198 = .ok (.iconst 0, 1) := dk_3 (dk_at dksX1_friday_8 12 rfl rfl)
theorem dX1_friday_199 : decode cX1_friday 199 = .ok (.iload_n 2, 1) := dk_28 (dk_at dksX1_friday_8 13 rfl rfl)
theorem dX1_friday_200 : decode cX1_friday 200 = .ok (.invokestatic 321, 3) := dk_184 1 65 (dk_at dksX1_friday_8 14 rfl rfl)
theorem dX1_friday_203 : decode cX1_friday 203 = .ok (.aload_n 0, 1) := dk_42 (dk_at dksX1_friday_8 17 rfl rfl)
theorem dX1_friday_204 : decode cX1_friday 204 = .ok (.getfield 393, 3) := dk_180 1 137 (dk_at dksX1_friday_8 18 rfl rfl)
theorem dX1_friday_207 : decode cX1_friday 207 = .ok (.ireturn, 1) := dk_172 (dk_at dksX1_friday_8 21 rfl rfl)
abbrev cX1_plan : ByteArray := prog_1_method_63_code
def yX1_plan : MethodName := ⟨RX1, "plan", "(IIII)V"⟩
def dkwX1_plan_6 : List UInt8 := [21, 5, 120, 128, 21, 6, 21, 4, 182, 1, 140, 132, 5, 1, 167, 255, 150, 177]
abbrev dktX1_plan_6 : List UInt8 := dkwX1_plan_6 ++ []
def dkwX1_plan_5 : List UInt8 := [182, 1, 146, 164, 0, 6, 167, 0, 28, 42, 180, 0, 103, 27, 21, 5, 79, 42, 27, 4, 96, 28, 4]
abbrev dktX1_plan_5 : List UInt8 := dkwX1_plan_5 ++ dktX1_plan_6
def dkwX1_plan_4 : List UInt8 := [96, 42, 8, 21, 5, 104, 4, 96, 182, 1, 146, 96, 54, 6, 21, 6, 42, 8, 21, 5, 104, 6, 96]
abbrev dktX1_plan_4 : List UInt8 := dkwX1_plan_4 ++ dktX1_plan_5
def dkwX1_plan_3 : List UInt8 := [180, 0, 108, 27, 154, 0, 8, 16, 6, 167, 0, 11, 42, 180, 0, 103, 27, 4, 100, 46, 50, 21, 5, 46]
abbrev dktX1_plan_3 : List UInt8 := dkwX1_plan_3 ++ dktX1_plan_4
def dkwX1_plan_2 : List UInt8 := [21, 5, 21, 4, 162, 0, 105, 28, 21, 5, 122, 4, 126, 4, 160, 0, 6, 167, 0, 86, 29, 42]
abbrev dktX1_plan_2 : List UInt8 := dkwX1_plan_2 ++ dktX1_plan_3
def dkwX1_plan_1 : List UInt8 := [29, 181, 1, 137, 42, 180, 0, 103, 3, 42, 180, 0, 97, 3, 21, 4, 184, 1, 65, 177, 3, 54, 5]
abbrev dktX1_plan_1 : List UInt8 := dkwX1_plan_1 ++ dktX1_plan_2
def dkwX1_plan_0 : List UInt8 := [27, 21, 4, 160, 0, 41, 42, 180, 1, 137, 2, 159, 0, 12, 29, 42, 180, 1, 137, 161, 0, 4, 177, 42]
abbrev dktX1_plan_0 : List UInt8 := dkwX1_plan_0 ++ dktX1_plan_1
theorem dksX1_plan_0 : cX1_plan.data.toList.drop 0 = dktX1_plan_0 := by decide +kernel
theorem dksX1_plan_1 : cX1_plan.data.toList.drop 24 = dktX1_plan_1 := dk_seg dksX1_plan_0 24 rfl rfl
theorem dksX1_plan_2 : cX1_plan.data.toList.drop 47 = dktX1_plan_2 := dk_seg dksX1_plan_1 23 rfl rfl
theorem dksX1_plan_3 : cX1_plan.data.toList.drop 69 = dktX1_plan_3 := dk_seg dksX1_plan_2 22 rfl rfl
theorem dksX1_plan_4 : cX1_plan.data.toList.drop 93 = dktX1_plan_4 := dk_seg dksX1_plan_3 24 rfl rfl
theorem dksX1_plan_5 : cX1_plan.data.toList.drop 116 = dktX1_plan_5 := dk_seg dksX1_plan_4 23 rfl rfl
theorem dksX1_plan_6 : cX1_plan.data.toList.drop 139 = dktX1_plan_6 := dk_seg dksX1_plan_5 23 rfl rfl
theorem dX1_plan_0 : decode cX1_plan 0 = .ok (.iload_n 1, 1) := dk_27 (dk_at dksX1_plan_0 0 rfl rfl)
theorem dX1_plan_1 : decode cX1_plan 1 = .ok (.iload 4, 2) := dk_21 4 (dk_at dksX1_plan_0 1 rfl rfl)
theorem dX1_plan_3 : decode cX1_plan 3 = .ok (.if_icmp .ne 41, 3) := dk_160 0 41 (dk_at dksX1_plan_0 3 rfl rfl)
theorem dX1_plan_6 : decode cX1_plan 6 = .ok (.aload_n 0, 1) := dk_42 (dk_at dksX1_plan_0 6 rfl rfl)
theorem dX1_plan_7 : decode cX1_plan 7 = .ok (.getfield 393, 3) := dk_180 1 137 (dk_at dksX1_plan_0 7 rfl rfl)
theorem dX1_plan_10 : decode cX1_plan 10 = .ok (.iconst (-1), 1) := dk_2 (dk_at dksX1_plan_0 10 rfl rfl)
theorem dX1_plan_11 : decode cX1_plan 11 = .ok (.if_icmp .eq 12, 3) := dk_159 0 12 (dk_at dksX1_plan_0 11 rfl rfl)
theorem dX1_plan_14 : decode cX1_plan 14 = .ok (.iload_n 3, 1) := dk_29 (dk_at dksX1_plan_0 14 rfl rfl)
theorem dX1_plan_15 : decode cX1_plan 15 = .ok (.aload_n 0, 1) := dk_42 (dk_at dksX1_plan_0 15 rfl rfl)
theorem dX1_plan_16 : decode cX1_plan 16 = .ok (.getfield 393, 3) := dk_180 1 137 (dk_at dksX1_plan_0 16 rfl rfl)
theorem dX1_plan_19 : decode cX1_plan 19 = .ok (.if_icmp .lt 4, 3) := dk_161 0 4 (dk_at dksX1_plan_0 19 rfl rfl)
theorem dX1_plan_22 : decode cX1_plan 22 = .ok (.return_, 1) := dk_177 (dk_at dksX1_plan_0 22 rfl rfl)
theorem dX1_plan_23 : decode cX1_plan 23 = .ok (.aload_n 0, 1) := dk_42 (dk_at dksX1_plan_0 23 rfl rfl)
theorem dX1_plan_24 : decode cX1_plan 24 = .ok (.iload_n 3, 1) := dk_29 (dk_at dksX1_plan_1 0 rfl rfl)
theorem dX1_plan_25 : decode cX1_plan 25 = .ok (.putfield 393, 3) := dk_181 1 137 (dk_at dksX1_plan_1 1 rfl rfl)
theorem dX1_plan_28 : decode cX1_plan 28 = .ok (.aload_n 0, 1) := dk_42 (dk_at dksX1_plan_1 4 rfl rfl)
theorem dX1_plan_29 : decode cX1_plan 29 = .ok (.getfield 103, 3) := dk_180 0 103 (dk_at dksX1_plan_1 5 rfl rfl)
theorem dX1_plan_32 : decode cX1_plan 32 = .ok (.iconst 0, 1) := dk_3 (dk_at dksX1_plan_1 8 rfl rfl)
theorem dX1_plan_33 : decode cX1_plan 33 = .ok (.aload_n 0, 1) := dk_42 (dk_at dksX1_plan_1 9 rfl rfl)
theorem dX1_plan_34 : decode cX1_plan 34 = .ok (.getfield 97, 3) := dk_180 0 97 (dk_at dksX1_plan_1 10 rfl rfl)
theorem dX1_plan_37 : decode cX1_plan 37 = .ok (.iconst 0, 1) := dk_3 (dk_at dksX1_plan_1 13 rfl rfl)
theorem dX1_plan_38 : decode cX1_plan 38 = .ok (.iload 4, 2) := dk_21 4 (dk_at dksX1_plan_1 14 rfl rfl)
theorem dX1_plan_40 : decode cX1_plan 40 = .ok (.invokestatic 321, 3) := dk_184 1 65 (dk_at dksX1_plan_1 16 rfl rfl)
theorem dX1_plan_43 : decode cX1_plan 43 = .ok (.return_, 1) := dk_177 (dk_at dksX1_plan_1 19 rfl rfl)
theorem dX1_plan_44 : decode cX1_plan 44 = .ok (.iconst 0, 1) := dk_3 (dk_at dksX1_plan_1 20 rfl rfl)
theorem dX1_plan_45 : decode cX1_plan 45 = .ok (.istore 5, 2) := dk_54 5 (dk_at dksX1_plan_1 21 rfl rfl)
theorem dX1_plan_47 : decode cX1_plan 47 = .ok (.iload 5, 2) := dk_21 5 (dk_at dksX1_plan_2 0 rfl rfl)
theorem dX1_plan_49 : decode cX1_plan 49 = .ok (.iload 4, 2) := dk_21 4 (dk_at dksX1_plan_2 2 rfl rfl)
theorem dX1_plan_51 : decode cX1_plan 51 = .ok (.if_icmp .ge 105, 3) := dk_162 0 105 (dk_at dksX1_plan_2 4 rfl rfl)
theorem dX1_plan_54 : decode cX1_plan 54 = .ok (.iload_n 2, 1) := dk_28 (dk_at dksX1_plan_2 7 rfl rfl)
theorem dX1_plan_55 : decode cX1_plan 55 = .ok (.iload 5, 2) := dk_21 5 (dk_at dksX1_plan_2 8 rfl rfl)
theorem dX1_plan_57 : decode cX1_plan 57 = .ok (.ishr, 1) := dk_122 (dk_at dksX1_plan_2 10 rfl rfl)
theorem dX1_plan_58 : decode cX1_plan 58 = .ok (.iconst 1, 1) := dk_4 (dk_at dksX1_plan_2 11 rfl rfl)
theorem dX1_plan_59 : decode cX1_plan 59 = .ok (.iand, 1) := dk_126 (dk_at dksX1_plan_2 12 rfl rfl)
theorem dX1_plan_60 : decode cX1_plan 60 = .ok (.iconst 1, 1) := dk_4 (dk_at dksX1_plan_2 13 rfl rfl)
theorem dX1_plan_61 : decode cX1_plan 61 = .ok (.if_icmp .ne 6, 3) := dk_160 0 6 (dk_at dksX1_plan_2 14 rfl rfl)
theorem dX1_plan_64 : decode cX1_plan 64 = .ok (.goto 86, 3) := dk_167 0 86 (dk_at dksX1_plan_2 17 rfl rfl)
theorem dX1_plan_67 : decode cX1_plan 67 = .ok (.iload_n 3, 1) := dk_29 (dk_at dksX1_plan_2 20 rfl rfl)
theorem dX1_plan_68 : decode cX1_plan 68 = .ok (.aload_n 0, 1) := dk_42 (dk_at dksX1_plan_2 21 rfl rfl)
theorem dX1_plan_69 : decode cX1_plan 69 = .ok (.getfield 108, 3) := dk_180 0 108 (dk_at dksX1_plan_3 0 rfl rfl)
theorem dX1_plan_72 : decode cX1_plan 72 = .ok (.iload_n 1, 1) := dk_27 (dk_at dksX1_plan_3 3 rfl rfl)
theorem dX1_plan_73 : decode cX1_plan 73 = .ok (.ifCond .ne 8, 3) := dk_154 0 8 (dk_at dksX1_plan_3 4 rfl rfl)
theorem dX1_plan_76 : decode cX1_plan 76 = .ok (.bipush 6, 2) := dk_16 6 (dk_at dksX1_plan_3 7 rfl rfl)
theorem dX1_plan_78 : decode cX1_plan 78 = .ok (.goto 11, 3) := dk_167 0 11 (dk_at dksX1_plan_3 9 rfl rfl)
theorem dX1_plan_81 : decode cX1_plan 81 = .ok (.aload_n 0, 1) := dk_42 (dk_at dksX1_plan_3 12 rfl rfl)
theorem dX1_plan_82 : decode cX1_plan 82 = .ok (.getfield 103, 3) := dk_180 0 103 (dk_at dksX1_plan_3 13 rfl rfl)
theorem dX1_plan_85 : decode cX1_plan 85 = .ok (.iload_n 1, 1) := dk_27 (dk_at dksX1_plan_3 16 rfl rfl)
theorem dX1_plan_86 : decode cX1_plan 86 = .ok (.iconst 1, 1) := dk_4 (dk_at dksX1_plan_3 17 rfl rfl)
theorem dX1_plan_87 : decode cX1_plan 87 = .ok (.isub, 1) := dk_100 (dk_at dksX1_plan_3 18 rfl rfl)
theorem dX1_plan_88 : decode cX1_plan 88 = .ok (.iaload, 1) := dk_46 (dk_at dksX1_plan_3 19 rfl rfl)
theorem dX1_plan_89 : decode cX1_plan 89 = .ok (.aaload, 1) := dk_50 (dk_at dksX1_plan_3 20 rfl rfl)
theorem dX1_plan_90 : decode cX1_plan 90 = .ok (.iload 5, 2) := dk_21 5 (dk_at dksX1_plan_3 21 rfl rfl)
theorem dX1_plan_92 : decode cX1_plan 92 = .ok (.iaload, 1) := dk_46 (dk_at dksX1_plan_3 23 rfl rfl)
theorem dX1_plan_93 : decode cX1_plan 93 = .ok (.iadd, 1) := dk_96 (dk_at dksX1_plan_4 0 rfl rfl)
theorem dX1_plan_94 : decode cX1_plan 94 = .ok (.aload_n 0, 1) := dk_42 (dk_at dksX1_plan_4 1 rfl rfl)
theorem dX1_plan_95 : decode cX1_plan 95 = .ok (.iconst 5, 1) := dk_8 (dk_at dksX1_plan_4 2 rfl rfl)
theorem dX1_plan_96 : decode cX1_plan 96 = .ok (.iload 5, 2) := dk_21 5 (dk_at dksX1_plan_4 3 rfl rfl)
theorem dX1_plan_98 : decode cX1_plan 98 = .ok (.imul, 1) := dk_104 (dk_at dksX1_plan_4 5 rfl rfl)
theorem dX1_plan_99 : decode cX1_plan 99 = .ok (.iconst 1, 1) := dk_4 (dk_at dksX1_plan_4 6 rfl rfl)
theorem dX1_plan_100 : decode cX1_plan 100 = .ok (.iadd, 1) := dk_96 (dk_at dksX1_plan_4 7 rfl rfl)
theorem dX1_plan_101 : decode cX1_plan 101 = .ok (.invokevirtual 402, 3) := dk_182 1 146 (dk_at dksX1_plan_4 8 rfl rfl)
theorem dX1_plan_104 : decode cX1_plan 104 = .ok (.iadd, 1) := dk_96 (dk_at dksX1_plan_4 11 rfl rfl)
theorem dX1_plan_105 : decode cX1_plan 105 = .ok (.istore 6, 2) := dk_54 6 (dk_at dksX1_plan_4 12 rfl rfl)
theorem dX1_plan_107 : decode cX1_plan 107 = .ok (.iload 6, 2) := dk_21 6 (dk_at dksX1_plan_4 14 rfl rfl)
theorem dX1_plan_109 : decode cX1_plan 109 = .ok (.aload_n 0, 1) := dk_42 (dk_at dksX1_plan_4 16 rfl rfl)
theorem dX1_plan_110 : decode cX1_plan 110 = .ok (.iconst 5, 1) := dk_8 (dk_at dksX1_plan_4 17 rfl rfl)
theorem dX1_plan_111 : decode cX1_plan 111 = .ok (.iload 5, 2) := dk_21 5 (dk_at dksX1_plan_4 18 rfl rfl)
theorem dX1_plan_113 : decode cX1_plan 113 = .ok (.imul, 1) := dk_104 (dk_at dksX1_plan_4 20 rfl rfl)
theorem dX1_plan_114 : decode cX1_plan 114 = .ok (.iconst 3, 1) := dk_6 (dk_at dksX1_plan_4 21 rfl rfl)
theorem dX1_plan_115 : decode cX1_plan 115 = .ok (.iadd, 1) := dk_96 (dk_at dksX1_plan_4 22 rfl rfl)
theorem dX1_plan_116 : decode cX1_plan 116 = .ok (.invokevirtual 402, 3) := dk_182 1 146 (dk_at dksX1_plan_5 0 rfl rfl)
theorem dX1_plan_119 : decode cX1_plan 119 = .ok (.if_icmp .le 6, 3) := dk_164 0 6 (dk_at dksX1_plan_5 3 rfl rfl)
theorem dX1_plan_122 : decode cX1_plan 122 = .ok (.goto 28, 3) := dk_167 0 28 (dk_at dksX1_plan_5 6 rfl rfl)
theorem dX1_plan_125 : decode cX1_plan 125 = .ok (.aload_n 0, 1) := dk_42 (dk_at dksX1_plan_5 9 rfl rfl)
theorem dX1_plan_126 : decode cX1_plan 126 = .ok (.getfield 103, 3) := dk_180 0 103 (dk_at dksX1_plan_5 10 rfl rfl)
theorem dX1_plan_129 : decode cX1_plan 129 = .ok (.iload_n 1, 1) := dk_27 (dk_at dksX1_plan_5 13 rfl rfl)
theorem dX1_plan_130 : decode cX1_plan 130 = .ok (.iload 5, 2) := dk_21 5 (dk_at dksX1_plan_5 14 rfl rfl)
theorem dX1_plan_132 : decode cX1_plan 132 = .ok (.iastore, 1) := dk_79 (dk_at dksX1_plan_5 16 rfl rfl)
theorem dX1_plan_133 : decode cX1_plan 133 = .ok (.aload_n 0, 1) := dk_42 (dk_at dksX1_plan_5 17 rfl rfl)
theorem dX1_plan_134 : decode cX1_plan 134 = .ok (.iload_n 1, 1) := dk_27 (dk_at dksX1_plan_5 18 rfl rfl)
theorem dX1_plan_135 : decode cX1_plan 135 = .ok (.iconst 1, 1) := dk_4 (dk_at dksX1_plan_5 19 rfl rfl)
theorem dX1_plan_136 : decode cX1_plan 136 = .ok (.iadd, 1) := dk_96 (dk_at dksX1_plan_5 20 rfl rfl)
theorem dX1_plan_137 : decode cX1_plan 137 = .ok (.iload_n 2, 1) := dk_28 (dk_at dksX1_plan_5 21 rfl rfl)
theorem dX1_plan_138 : decode cX1_plan 138 = .ok (.iconst 1, 1) := dk_4 (dk_at dksX1_plan_5 22 rfl rfl)
theorem dX1_plan_139 : decode cX1_plan 139 = .ok (.iload 5, 2) := dk_21 5 (dk_at dksX1_plan_6 0 rfl rfl)
theorem dX1_plan_141 : decode cX1_plan 141 = .ok (.ishl, 1) := dk_120 (dk_at dksX1_plan_6 2 rfl rfl)
theorem dX1_plan_142 : decode cX1_plan 142 = .ok (.ior, 1) := dk_128 (dk_at dksX1_plan_6 3 rfl rfl)
theorem dX1_plan_143 : decode cX1_plan 143 = .ok (.iload 6, 2) := dk_21 6 (dk_at dksX1_plan_6 4 rfl rfl)
theorem dX1_plan_145 : decode cX1_plan 145 = .ok (.iload 4, 2) := dk_21 4 (dk_at dksX1_plan_6 6 rfl rfl)
theorem dX1_plan_147 : decode cX1_plan 147 = .ok (.invokevirtual 396, 3) := dk_182 1 140 (dk_at dksX1_plan_6 8 rfl rfl)
theorem dX1_plan_150 : decode cX1_plan 150 = .ok (.iinc 5 1, 3) := dk_132 5 1 (dk_at dksX1_plan_6 11 rfl rfl)
theorem dX1_plan_153 : decode cX1_plan 153 = .ok (.goto (-106), 3) := dk_167 255 150 (dk_at dksX1_plan_6 14 rfl rfl)
theorem dX1_plan_156 : decode cX1_plan 156 = .ok (.return_, 1) := dk_177 (dk_at dksX1_plan_6 17 rfl rfl)
abbrev cX1_two : ByteArray := prog_1_method_61_code
def yX1_two : MethodName := ⟨RX1, "two", "(I)I"⟩
def dkwX1_two_1 : List UInt8 := [126, 128, 172]
abbrev dktX1_two_1 : List UInt8 := dkwX1_two_1 ++ []
def dkwX1_two_0 : List UInt8 := [42, 180, 0, 13, 27, 51, 17, 0, 255, 126, 16, 8, 120, 42, 180, 0, 13, 27, 4, 96, 51, 17, 0, 255]
abbrev dktX1_two_0 : List UInt8 := dkwX1_two_0 ++ dktX1_two_1
theorem dksX1_two_0 : cX1_two.data.toList.drop 0 = dktX1_two_0 := by decide +kernel
theorem dksX1_two_1 : cX1_two.data.toList.drop 24 = dktX1_two_1 := dk_seg dksX1_two_0 24 rfl rfl
theorem dX1_two_0 : decode cX1_two 0 = .ok (.aload_n 0, 1) := dk_42 (dk_at dksX1_two_0 0 rfl rfl)
theorem dX1_two_1 : decode cX1_two 1 = .ok (.getfield 13, 3) := dk_180 0 13 (dk_at dksX1_two_0 1 rfl rfl)
theorem dX1_two_4 : decode cX1_two 4 = .ok (.iload_n 1, 1) := dk_27 (dk_at dksX1_two_0 4 rfl rfl)
theorem dX1_two_5 : decode cX1_two 5 = .ok (.baload, 1) := dk_51 (dk_at dksX1_two_0 5 rfl rfl)
theorem dX1_two_6 : decode cX1_two 6 = .ok (.sipush 255, 3) := dk_17 0 255 (dk_at dksX1_two_0 6 rfl rfl)
theorem dX1_two_9 : decode cX1_two 9 = .ok (.iand, 1) := dk_126 (dk_at dksX1_two_0 9 rfl rfl)
theorem dX1_two_10 : decode cX1_two 10 = .ok (.bipush 8, 2) := dk_16 8 (dk_at dksX1_two_0 10 rfl rfl)
theorem dX1_two_12 : decode cX1_two 12 = .ok (.ishl, 1) := dk_120 (dk_at dksX1_two_0 12 rfl rfl)
theorem dX1_two_13 : decode cX1_two 13 = .ok (.aload_n 0, 1) := dk_42 (dk_at dksX1_two_0 13 rfl rfl)
theorem dX1_two_14 : decode cX1_two 14 = .ok (.getfield 13, 3) := dk_180 0 13 (dk_at dksX1_two_0 14 rfl rfl)
theorem dX1_two_17 : decode cX1_two 17 = .ok (.iload_n 1, 1) := dk_27 (dk_at dksX1_two_0 17 rfl rfl)
theorem dX1_two_18 : decode cX1_two 18 = .ok (.iconst 1, 1) := dk_4 (dk_at dksX1_two_0 18 rfl rfl)
theorem dX1_two_19 : decode cX1_two 19 = .ok (.iadd, 1) := dk_96 (dk_at dksX1_two_0 19 rfl rfl)
theorem dX1_two_20 : decode cX1_two 20 = .ok (.baload, 1) := dk_51 (dk_at dksX1_two_0 20 rfl rfl)
theorem dX1_two_21 : decode cX1_two 21 = .ok (.sipush 255, 3) := dk_17 0 255 (dk_at dksX1_two_0 21 rfl rfl)
theorem dX1_two_24 : decode cX1_two 24 = .ok (.iand, 1) := dk_126 (dk_at dksX1_two_1 0 rfl rfl)
theorem dX1_two_25 : decode cX1_two 25 = .ok (.ior, 1) := dk_128 (dk_at dksX1_two_1 1 rfl rfl)
theorem dX1_two_26 : decode cX1_two 26 = .ok (.ireturn, 1) := dk_172 (dk_at dksX1_two_1 2 rfl rfl)
abbrev cX1_fridayAt : ByteArray := prog_1_method_64_code
def yX1_fridayAt : MethodName := ⟨RX1, "fridayAt", "(I)I"⟩
def dkwX1_fridayAt_1 : List UInt8 := [172]
abbrev dktX1_fridayAt_1 : List UInt8 := dkwX1_fridayAt_1 ++ []
def dkwX1_fridayAt_0 : List UInt8 := [27, 3, 42, 180, 1, 143, 4, 100, 184, 0, 3, 153, 0, 12, 42, 180, 0, 100, 27, 46, 167, 0, 4, 2]
abbrev dktX1_fridayAt_0 : List UInt8 := dkwX1_fridayAt_0 ++ dktX1_fridayAt_1
theorem dksX1_fridayAt_0 : cX1_fridayAt.data.toList.drop 0 = dktX1_fridayAt_0 := by decide +kernel
theorem dksX1_fridayAt_1 : cX1_fridayAt.data.toList.drop 24 = dktX1_fridayAt_1 := dk_seg dksX1_fridayAt_0 24 rfl rfl
theorem dX1_fridayAt_0 : decode cX1_fridayAt 0 = .ok (.iload_n 1, 1) := dk_27 (dk_at dksX1_fridayAt_0 0 rfl rfl)
theorem dX1_fridayAt_1 : decode cX1_fridayAt 1 = .ok (.iconst 0, 1) := dk_3 (dk_at dksX1_fridayAt_0 1 rfl rfl)
theorem dX1_fridayAt_2 : decode cX1_fridayAt 2 = .ok (.aload_n 0, 1) := dk_42 (dk_at dksX1_fridayAt_0 2 rfl rfl)
theorem dX1_fridayAt_3 : decode cX1_fridayAt 3 = .ok (.getfield 399, 3) := dk_180 1 143 (dk_at dksX1_fridayAt_0 3 rfl rfl)
theorem dX1_fridayAt_6 : decode cX1_fridayAt 6 = .ok (.iconst 1, 1) := dk_4 (dk_at dksX1_fridayAt_0 6 rfl rfl)
theorem dX1_fridayAt_7 : decode cX1_fridayAt 7 = .ok (.isub, 1) := dk_100 (dk_at dksX1_fridayAt_0 7 rfl rfl)
theorem dX1_fridayAt_8 : decode cX1_fridayAt 8 = .ok (.invokestatic 3, 3) := dk_184 0 3 (dk_at dksX1_fridayAt_0 8 rfl rfl)
theorem dX1_fridayAt_11 : decode cX1_fridayAt 11 = .ok (.ifCond .eq 12, 3) := dk_153 0 12 (dk_at dksX1_fridayAt_0 11 rfl rfl)
theorem dX1_fridayAt_14 : decode cX1_fridayAt 14 = .ok (.aload_n 0, 1) := dk_42 (dk_at dksX1_fridayAt_0 14 rfl rfl)
theorem dX1_fridayAt_15 : decode cX1_fridayAt 15 = .ok (.getfield 100, 3) := dk_180 0 100 (dk_at dksX1_fridayAt_0 15 rfl rfl)
theorem dX1_fridayAt_18 : decode cX1_fridayAt 18 = .ok (.iload_n 1, 1) := dk_27 (dk_at dksX1_fridayAt_0 18 rfl rfl)
theorem dX1_fridayAt_19 : decode cX1_fridayAt 19 = .ok (.iaload, 1) := dk_46 (dk_at dksX1_fridayAt_0 19 rfl rfl)
theorem dX1_fridayAt_20 : decode cX1_fridayAt 20 = .ok (.goto 4, 3) := dk_167 0 4 (dk_at dksX1_fridayAt_0 20 rfl rfl)
theorem dX1_fridayAt_23 : decode cX1_fridayAt 23 = .ok (.iconst (-1), 1) := dk_2 (dk_at dksX1_fridayAt_0 23 rfl rfl)
theorem dX1_fridayAt_24 : decode cX1_fridayAt 24 = .ok (.ireturn, 1) := dk_172 (dk_at dksX1_fridayAt_1 0 rfl rfl)
abbrev cX1_count : ByteArray := prog_1_method_65_code
def yX1_count : MethodName := ⟨RX1, "count", "(I)I"⟩
def dkwX1_count_4 : List UInt8 := [167, 255, 232, 28, 172, 42, 180, 0, 112, 172, 2, 172]
abbrev dktX1_count_4 : List UInt8 := dkwX1_count_4 ++ []
def dkwX1_count_3 : List UInt8 := [21, 4, 162, 0, 23, 45, 21, 5, 50, 58, 6, 28, 25, 6, 180, 0, 127, 96, 61, 132, 5, 1]
abbrev dktX1_count_3 : List UInt8 := dkwX1_count_3 ++ dktX1_count_4
def dkwX1_count_2 : List UInt8 := [42, 180, 0, 26, 180, 0, 162, 172, 3, 61, 42, 180, 0, 19, 78, 45, 190, 54, 4, 3, 54, 5, 21, 5]
abbrev dktX1_count_2 : List UInt8 := dkwX1_count_2 ++ dktX1_count_3
def dkwX1_count_1 : List UInt8 := [170, 0, 0, 0, 0, 0, 83, 0, 0, 0, 0, 0, 0, 0, 2, 0, 0, 0, 27, 0, 0, 0, 35, 0, 0, 0, 78]
abbrev dktX1_count_1 : List UInt8 := dkwX1_count_1 ++ dktX1_count_2
def dkwX1_count_0 : List UInt8 := [27]
abbrev dktX1_count_0 : List UInt8 := dkwX1_count_0 ++ dktX1_count_1
theorem dksX1_count_0 : cX1_count.data.toList.drop 0 = dktX1_count_0 := by decide +kernel
theorem dksX1_count_1 : cX1_count.data.toList.drop 1 = dktX1_count_1 := dk_seg dksX1_count_0 1 rfl rfl
theorem dksX1_count_2 : cX1_count.data.toList.drop 28 = dktX1_count_2 := dk_seg dksX1_count_1 27 rfl rfl
theorem dksX1_count_3 : cX1_count.data.toList.drop 52 = dktX1_count_3 := dk_seg dksX1_count_2 24 rfl rfl
theorem dksX1_count_4 : cX1_count.data.toList.drop 74 = dktX1_count_4 := dk_seg dksX1_count_3 22 rfl rfl
theorem dX1_count_0 : decode cX1_count 0 = .ok (.iload_n 1, 1) := dk_27 (dk_at dksX1_count_0 0 rfl rfl)
theorem dX1_count_1 : decode cX1_count 1 = .ok (.tableswitch 83 0 2 #[27, 35, 78], 27) := by decide +kernel
theorem dX1_count_28 : decode cX1_count 28 = .ok (.aload_n 0, 1) := dk_42 (dk_at dksX1_count_2 0 rfl rfl)
theorem dX1_count_29 : decode cX1_count 29 = .ok (.getfield 26, 3) := dk_180 0 26 (dk_at dksX1_count_2 1 rfl rfl)
theorem dX1_count_32 : decode cX1_count 32 = .ok (.getfield 162, 3) := dk_180 0 162 (dk_at dksX1_count_2 4 rfl rfl)
theorem dX1_count_35 : decode cX1_count 35 = .ok (.ireturn, 1) := dk_172 (dk_at dksX1_count_2 7 rfl rfl)
theorem dX1_count_36 : decode cX1_count 36 = .ok (.iconst 0, 1) := dk_3 (dk_at dksX1_count_2 8 rfl rfl)
theorem dX1_count_37 : decode cX1_count 37 = .ok (.istore_n 2, 1) := dk_61 (dk_at dksX1_count_2 9 rfl rfl)
theorem dX1_count_38 : decode cX1_count 38 = .ok (.aload_n 0, 1) := dk_42 (dk_at dksX1_count_2 10 rfl rfl)
theorem dX1_count_39 : decode cX1_count 39 = .ok (.getfield 19, 3) := dk_180 0 19 (dk_at dksX1_count_2 11 rfl rfl)
theorem dX1_count_42 : decode cX1_count 42 = .ok (.astore_n 3, 1) := dk_78 (dk_at dksX1_count_2 14 rfl rfl)
theorem dX1_count_43 : decode cX1_count 43 = .ok (.aload_n 3, 1) := dk_45 (dk_at dksX1_count_2 15 rfl rfl)
theorem dX1_count_44 : decode cX1_count 44 = .ok (.arraylength, 1) := dk_190 (dk_at dksX1_count_2 16 rfl rfl)
theorem dX1_count_45 : decode cX1_count 45 = .ok (.istore 4, 2) := dk_54 4 (dk_at dksX1_count_2 17 rfl rfl)
theorem dX1_count_47 : decode cX1_count 47 = .ok (.iconst 0, 1) := dk_3 (dk_at dksX1_count_2 19 rfl rfl)
theorem dX1_count_48 : decode cX1_count 48 = .ok (.istore 5, 2) := dk_54 5 (dk_at dksX1_count_2 20 rfl rfl)
theorem dX1_count_50 : decode cX1_count 50 = .ok (.iload 5, 2) := dk_21 5 (dk_at dksX1_count_2 22 rfl rfl)
theorem dX1_count_52 : decode cX1_count 52 = .ok (.iload 4, 2) := dk_21 4 (dk_at dksX1_count_3 0 rfl rfl)
theorem dX1_count_54 : decode cX1_count 54 = .ok (.if_icmp .ge 23, 3) := dk_162 0 23 (dk_at dksX1_count_3 2 rfl rfl)
theorem dX1_count_57 : decode cX1_count 57 = .ok (.aload_n 3, 1) := dk_45 (dk_at dksX1_count_3 5 rfl rfl)
theorem dX1_count_58 : decode cX1_count 58 = .ok (.iload 5, 2) := dk_21 5 (dk_at dksX1_count_3 6 rfl rfl)
theorem dX1_count_60 : decode cX1_count 60 = .ok (.aaload, 1) := dk_50 (dk_at dksX1_count_3 8 rfl rfl)
theorem dX1_count_61 : decode cX1_count 61 = .ok (.astore 6, 2) := dk_58 6 (dk_at dksX1_count_3 9 rfl rfl)
theorem dX1_count_63 : decode cX1_count 63 = .ok (.iload_n 2, 1) := dk_28 (dk_at dksX1_count_3 11 rfl rfl)
theorem dX1_count_64 : decode cX1_count 64 = .ok (.aload 6, 2) := dk_25 6 (dk_at dksX1_count_3 12 rfl rfl)
theorem dX1_count_66 : decode cX1_count 66 = .ok (.getfield 127, 3) := dk_180 0 127 (dk_at dksX1_count_3 14 rfl rfl)
theorem dX1_count_69 : decode cX1_count 69 = .ok (.iadd, 1) := dk_96 (dk_at dksX1_count_3 17 rfl rfl)
theorem dX1_count_70 : decode cX1_count 70 = .ok (.istore_n 2, 1) := dk_61 (dk_at dksX1_count_3 18 rfl rfl)
theorem dX1_count_71 : decode cX1_count 71 = .ok (.iinc 5 1, 3) := dk_132 5 1 (dk_at dksX1_count_3 19 rfl rfl)
theorem dX1_count_74 : decode cX1_count 74 = .ok (.goto (-24), 3) := dk_167 255 232 (dk_at dksX1_count_4 0 rfl rfl)
theorem dX1_count_77 : decode cX1_count 77 = .ok (.iload_n 2, 1) := dk_28 (dk_at dksX1_count_4 3 rfl rfl)
theorem dX1_count_78 : decode cX1_count 78 = .ok (.ireturn, 1) := dk_172 (dk_at dksX1_count_4 4 rfl rfl)
theorem dX1_count_79 : decode cX1_count 79 = .ok (.aload_n 0, 1) := dk_42 (dk_at dksX1_count_4 5 rfl rfl)
theorem dX1_count_80 : decode cX1_count 80 = .ok (.getfield 112, 3) := dk_180 0 112 (dk_at dksX1_count_4 6 rfl rfl)
theorem dX1_count_83 : decode cX1_count 83 = .ok (.ireturn, 1) := dk_172 (dk_at dksX1_count_4 9 rfl rfl)
theorem dX1_count_84 : decode cX1_count 84 = .ok (.iconst (-1), 1) := dk_2 (dk_at dksX1_count_4 10 rfl rfl)
theorem dX1_count_85 : decode cX1_count 85 = .ok (.ireturn, 1) := dk_172 (dk_at dksX1_count_4 11 rfl rfl)
abbrev cX1_column : ByteArray := prog_1_method_14_code
def yX1_column : MethodName := ⟨RX1, "column", "(III)I"⟩
def dkwX1_column_2 : List UInt8 := [180, 0, 19, 27, 50, 180, 0, 133, 28, 50, 29, 4, 100, 51, 172]
abbrev dktX1_column_2 : List UInt8 := dkwX1_column_2 ++ []
def dkwX1_column_1 : List UInt8 := [153, 0, 17, 29, 4, 16, 20, 184, 0, 3, 153, 0, 7, 4, 167, 0, 4, 3, 184, 0, 146, 42]
abbrev dktX1_column_1 : List UInt8 := dkwX1_column_1 ++ dktX1_column_2
def dkwX1_column_0 : List UInt8 := [27, 184, 0, 123, 153, 0, 36, 28, 3, 42, 180, 0, 19, 27, 50, 180, 0, 127, 4, 100, 184, 0, 3]
abbrev dktX1_column_0 : List UInt8 := dkwX1_column_0 ++ dktX1_column_1
theorem dksX1_column_0 : cX1_column.data.toList.drop 0 = dktX1_column_0 := by decide +kernel
theorem dksX1_column_1 : cX1_column.data.toList.drop 23 = dktX1_column_1 := dk_seg dksX1_column_0 23 rfl rfl
theorem dksX1_column_2 : cX1_column.data.toList.drop 45 = dktX1_column_2 := dk_seg dksX1_column_1 22 rfl rfl
theorem dX1_column_0 : decode cX1_column 0 = .ok (.iload_n 1, 1) := dk_27 (dk_at dksX1_column_0 0 rfl rfl)
theorem dX1_column_1 : decode cX1_column 1 = .ok (.invokestatic 123, 3) := dk_184 0 123 (dk_at dksX1_column_0 1 rfl rfl)
theorem dX1_column_4 : decode cX1_column 4 = .ok (.ifCond .eq 36, 3) := dk_153 0 36 (dk_at dksX1_column_0 4 rfl rfl)
theorem dX1_column_7 : decode cX1_column 7 = .ok (.iload_n 2, 1) := dk_28 (dk_at dksX1_column_0 7 rfl rfl)
theorem dX1_column_8 : decode cX1_column 8 = .ok (.iconst 0, 1) := dk_3 (dk_at dksX1_column_0 8 rfl rfl)
theorem dX1_column_9 : decode cX1_column 9 = .ok (.aload_n 0, 1) := dk_42 (dk_at dksX1_column_0 9 rfl rfl)
theorem dX1_column_10 : decode cX1_column 10 = .ok (.getfield 19, 3) := dk_180 0 19 (dk_at dksX1_column_0 10 rfl rfl)
theorem dX1_column_13 : decode cX1_column 13 = .ok (.iload_n 1, 1) := dk_27 (dk_at dksX1_column_0 13 rfl rfl)
theorem dX1_column_14 : decode cX1_column 14 = .ok (.aaload, 1) := dk_50 (dk_at dksX1_column_0 14 rfl rfl)
theorem dX1_column_15 : decode cX1_column 15 = .ok (.getfield 127, 3) := dk_180 0 127 (dk_at dksX1_column_0 15 rfl rfl)
theorem dX1_column_18 : decode cX1_column 18 = .ok (.iconst 1, 1) := dk_4 (dk_at dksX1_column_0 18 rfl rfl)
theorem dX1_column_19 : decode cX1_column 19 = .ok (.isub, 1) := dk_100 (dk_at dksX1_column_0 19 rfl rfl)
theorem dX1_column_20 : decode cX1_column 20 = .ok (.invokestatic 3, 3) := dk_184 0 3 (dk_at dksX1_column_0 20 rfl rfl)
theorem dX1_column_23 : decode cX1_column 23 = .ok (.ifCond .eq 17, 3) := dk_153 0 17 (dk_at dksX1_column_1 0 rfl rfl)
theorem dX1_column_26 : decode cX1_column 26 = .ok (.iload_n 3, 1) := dk_29 (dk_at dksX1_column_1 3 rfl rfl)
theorem dX1_column_27 : decode cX1_column 27 = .ok (.iconst 1, 1) := dk_4 (dk_at dksX1_column_1 4 rfl rfl)
theorem dX1_column_28 : decode cX1_column 28 = .ok (.bipush 20, 2) := dk_16 20 (dk_at dksX1_column_1 5 rfl rfl)
theorem dX1_column_30 : decode cX1_column 30 = .ok (.invokestatic 3, 3) := dk_184 0 3 (dk_at dksX1_column_1 7 rfl rfl)
theorem dX1_column_33 : decode cX1_column 33 = .ok (.ifCond .eq 7, 3) := dk_153 0 7 (dk_at dksX1_column_1 10 rfl rfl)
theorem dX1_column_36 : decode cX1_column 36 = .ok (.iconst 1, 1) := dk_4 (dk_at dksX1_column_1 13 rfl rfl)
theorem dX1_column_37 : decode cX1_column 37 = .ok (.goto 4, 3) := dk_167 0 4 (dk_at dksX1_column_1 14 rfl rfl)
theorem dX1_column_40 : decode cX1_column 40 = .ok (.iconst 0, 1) := dk_3 (dk_at dksX1_column_1 17 rfl rfl)
theorem dX1_column_41 : decode cX1_column 41 = .ok (.invokestatic 146, 3) := dk_184 0 146 (dk_at dksX1_column_1 18 rfl rfl)
theorem dX1_column_44 : decode cX1_column 44 = .ok (.aload_n 0, 1) := dk_42 (dk_at dksX1_column_1 21 rfl rfl)
theorem dX1_column_45 : decode cX1_column 45 = .ok (.getfield 19, 3) := dk_180 0 19 (dk_at dksX1_column_2 0 rfl rfl)
theorem dX1_column_48 : decode cX1_column 48 = .ok (.iload_n 1, 1) := dk_27 (dk_at dksX1_column_2 3 rfl rfl)
theorem dX1_column_49 : decode cX1_column 49 = .ok (.aaload, 1) := dk_50 (dk_at dksX1_column_2 4 rfl rfl)
theorem dX1_column_50 : decode cX1_column 50 = .ok (.getfield 133, 3) := dk_180 0 133 (dk_at dksX1_column_2 5 rfl rfl)
theorem dX1_column_53 : decode cX1_column 53 = .ok (.iload_n 2, 1) := dk_28 (dk_at dksX1_column_2 8 rfl rfl)
theorem dX1_column_54 : decode cX1_column 54 = .ok (.aaload, 1) := dk_50 (dk_at dksX1_column_2 9 rfl rfl)
theorem dX1_column_55 : decode cX1_column 55 = .ok (.iload_n 3, 1) := dk_29 (dk_at dksX1_column_2 10 rfl rfl)
theorem dX1_column_56 : decode cX1_column 56 = .ok (.iconst 1, 1) := dk_4 (dk_at dksX1_column_2 11 rfl rfl)
theorem dX1_column_57 : decode cX1_column 57 = .ok (.isub, 1) := dk_100 (dk_at dksX1_column_2 12 rfl rfl)
theorem dX1_column_58 : decode cX1_column 58 = .ok (.baload, 1) := dk_51 (dk_at dksX1_column_2 13 rfl rfl)
theorem dX1_column_59 : decode cX1_column 59 = .ok (.ireturn, 1) := dk_172 (dk_at dksX1_column_2 14 rfl rfl)
abbrev cX1_need : ByteArray := prog_1_method_13_code
def yX1_need : MethodName := ⟨RX1, "need", "(Z)V"⟩
def dkwX1_need_0 : List UInt8 := [26, 154, 0, 11, 187, 0, 143, 89, 183, 0, 145, 191, 177]
abbrev dktX1_need_0 : List UInt8 := dkwX1_need_0 ++ []
theorem dksX1_need_0 : cX1_need.data.toList.drop 0 = dktX1_need_0 := by decide +kernel
theorem dX1_need_0 : decode cX1_need 0 = .ok (.iload_n 0, 1) := dk_26 (dk_at dksX1_need_0 0 rfl rfl)
theorem dX1_need_1 : decode cX1_need 1 = .ok (.ifCond .ne 11, 3) := dk_154 0 11 (dk_at dksX1_need_0 1 rfl rfl)
theorem dX1_need_4 : decode cX1_need 4 = .ok (.new 143, 3) := dk_187 0 143 (dk_at dksX1_need_0 4 rfl rfl)
theorem dX1_need_7 : decode cX1_need 7 = .ok (.dup, 1) := dk_89 (dk_at dksX1_need_0 7 rfl rfl)
theorem dX1_need_8 : decode cX1_need 8 = .ok (.invokespecial 145, 3) := dk_183 0 145 (dk_at dksX1_need_0 8 rfl rfl)
theorem dX1_need_11 : decode cX1_need 11 = .ok (.athrow, 1) := dk_191 (dk_at dksX1_need_0 11 rfl rfl)
theorem dX1_need_12 : decode cX1_need 12 = .ok (.return_, 1) := dk_177 (dk_at dksX1_need_0 12 rfl rfl)
abbrev cX1_bar : ByteArray := prog_1_method_20_code
def yX1_bar : MethodName := ⟨RX1, "bar", "(II)I"⟩
def dkwX1_bar_2 : List UInt8 := [180, 0, 208, 27, 50, 28, 4, 100, 51, 172]
abbrev dktX1_bar_2 : List UInt8 := dkwX1_bar_2 ++ []
def dkwX1_bar_1 : List UInt8 := [28, 4, 16, 12, 184, 0, 3, 153, 0, 7, 4, 167, 0, 4, 3, 184, 0, 146, 42, 180, 0, 40]
abbrev dktX1_bar_1 : List UInt8 := dkwX1_bar_1 ++ dktX1_bar_2
def dkwX1_bar_0 : List UInt8 := [42, 180, 0, 177, 153, 0, 34, 27, 3, 42, 180, 0, 40, 180, 0, 196, 4, 100, 184, 0, 3, 153, 0, 17]
abbrev dktX1_bar_0 : List UInt8 := dkwX1_bar_0 ++ dktX1_bar_1
theorem dksX1_bar_0 : cX1_bar.data.toList.drop 0 = dktX1_bar_0 := by decide +kernel
theorem dksX1_bar_1 : cX1_bar.data.toList.drop 24 = dktX1_bar_1 := dk_seg dksX1_bar_0 24 rfl rfl
theorem dksX1_bar_2 : cX1_bar.data.toList.drop 46 = dktX1_bar_2 := dk_seg dksX1_bar_1 22 rfl rfl
theorem dX1_bar_0 : decode cX1_bar 0 = .ok (.aload_n 0, 1) := dk_42 (dk_at dksX1_bar_0 0 rfl rfl)
theorem dX1_bar_1 : decode cX1_bar 1 = .ok (.getfield 177, 3) := dk_180 0 177 (dk_at dksX1_bar_0 1 rfl rfl)
theorem dX1_bar_4 : decode cX1_bar 4 = .ok (.ifCond .eq 34, 3) := dk_153 0 34 (dk_at dksX1_bar_0 4 rfl rfl)
theorem dX1_bar_7 : decode cX1_bar 7 = .ok (.iload_n 1, 1) := dk_27 (dk_at dksX1_bar_0 7 rfl rfl)
theorem dX1_bar_8 : decode cX1_bar 8 = .ok (.iconst 0, 1) := dk_3 (dk_at dksX1_bar_0 8 rfl rfl)
theorem dX1_bar_9 : decode cX1_bar 9 = .ok (.aload_n 0, 1) := dk_42 (dk_at dksX1_bar_0 9 rfl rfl)
theorem dX1_bar_10 : decode cX1_bar 10 = .ok (.getfield 40, 3) := dk_180 0 40 (dk_at dksX1_bar_0 10 rfl rfl)
theorem dX1_bar_13 : decode cX1_bar 13 = .ok (.getfield 196, 3) := dk_180 0 196 (dk_at dksX1_bar_0 13 rfl rfl)
theorem dX1_bar_16 : decode cX1_bar 16 = .ok (.iconst 1, 1) := dk_4 (dk_at dksX1_bar_0 16 rfl rfl)
theorem dX1_bar_17 : decode cX1_bar 17 = .ok (.isub, 1) := dk_100 (dk_at dksX1_bar_0 17 rfl rfl)
theorem dX1_bar_18 : decode cX1_bar 18 = .ok (.invokestatic 3, 3) := dk_184 0 3 (dk_at dksX1_bar_0 18 rfl rfl)
theorem dX1_bar_21 : decode cX1_bar 21 = .ok (.ifCond .eq 17, 3) := dk_153 0 17 (dk_at dksX1_bar_0 21 rfl rfl)
theorem dX1_bar_24 : decode cX1_bar 24 = .ok (.iload_n 2, 1) := dk_28 (dk_at dksX1_bar_1 0 rfl rfl)
theorem dX1_bar_25 : decode cX1_bar 25 = .ok (.iconst 1, 1) := dk_4 (dk_at dksX1_bar_1 1 rfl rfl)
theorem dX1_bar_26 : decode cX1_bar 26 = .ok (.bipush 12, 2) := dk_16 12 (dk_at dksX1_bar_1 2 rfl rfl)
theorem dX1_bar_28 : decode cX1_bar 28 = .ok (.invokestatic 3, 3) := dk_184 0 3 (dk_at dksX1_bar_1 4 rfl rfl)
theorem dX1_bar_31 : decode cX1_bar 31 = .ok (.ifCond .eq 7, 3) := dk_153 0 7 (dk_at dksX1_bar_1 7 rfl rfl)
theorem dX1_bar_34 : decode cX1_bar 34 = .ok (.iconst 1, 1) := dk_4 (dk_at dksX1_bar_1 10 rfl rfl)
theorem dX1_bar_35 : decode cX1_bar 35 = .ok (.goto 4, 3) := dk_167 0 4 (dk_at dksX1_bar_1 11 rfl rfl)
theorem dX1_bar_38 : decode cX1_bar 38 = .ok (.iconst 0, 1) := dk_3 (dk_at dksX1_bar_1 14 rfl rfl)
theorem dX1_bar_39 : decode cX1_bar 39 = .ok (.invokestatic 146, 3) := dk_184 0 146 (dk_at dksX1_bar_1 15 rfl rfl)
theorem dX1_bar_42 : decode cX1_bar 42 = .ok (.aload_n 0, 1) := dk_42 (dk_at dksX1_bar_1 18 rfl rfl)
theorem dX1_bar_43 : decode cX1_bar 43 = .ok (.getfield 40, 3) := dk_180 0 40 (dk_at dksX1_bar_1 19 rfl rfl)
theorem dX1_bar_46 : decode cX1_bar 46 = .ok (.getfield 208, 3) := dk_180 0 208 (dk_at dksX1_bar_2 0 rfl rfl)
theorem dX1_bar_49 : decode cX1_bar 49 = .ok (.iload_n 1, 1) := dk_27 (dk_at dksX1_bar_2 3 rfl rfl)
theorem dX1_bar_50 : decode cX1_bar 50 = .ok (.aaload, 1) := dk_50 (dk_at dksX1_bar_2 4 rfl rfl)
theorem dX1_bar_51 : decode cX1_bar 51 = .ok (.iload_n 2, 1) := dk_28 (dk_at dksX1_bar_2 5 rfl rfl)
theorem dX1_bar_52 : decode cX1_bar 52 = .ok (.iconst 1, 1) := dk_4 (dk_at dksX1_bar_2 6 rfl rfl)
theorem dX1_bar_53 : decode cX1_bar 53 = .ok (.isub, 1) := dk_100 (dk_at dksX1_bar_2 7 rfl rfl)
theorem dX1_bar_54 : decode cX1_bar 54 = .ok (.baload, 1) := dk_51 (dk_at dksX1_bar_2 8 rfl rfl)
theorem dX1_bar_55 : decode cX1_bar 55 = .ok (.ireturn, 1) := dk_172 (dk_at dksX1_bar_2 9 rfl rfl)
abbrev cX1_wheel : ByteArray := prog_1_method_21_code
def yX1_wheel : MethodName := ⟨RX1, "wheel", "(I)I"⟩
def dkwX1_wheel_1 : List UInt8 := [42, 180, 0, 40, 180, 0, 211, 27, 4, 100, 46, 172]
abbrev dktX1_wheel_1 : List UInt8 := dkwX1_wheel_1 ++ []
def dkwX1_wheel_0 : List UInt8 := [42, 180, 0, 177, 153, 0, 16, 27, 4, 7, 184, 0, 3, 153, 0, 7, 4, 167, 0, 4, 3, 184, 0, 146]
abbrev dktX1_wheel_0 : List UInt8 := dkwX1_wheel_0 ++ dktX1_wheel_1
theorem dksX1_wheel_0 : cX1_wheel.data.toList.drop 0 = dktX1_wheel_0 := by decide +kernel
theorem dksX1_wheel_1 : cX1_wheel.data.toList.drop 24 = dktX1_wheel_1 := dk_seg dksX1_wheel_0 24 rfl rfl
theorem dX1_wheel_0 : decode cX1_wheel 0 = .ok (.aload_n 0, 1) := dk_42 (dk_at dksX1_wheel_0 0 rfl rfl)
theorem dX1_wheel_1 : decode cX1_wheel 1 = .ok (.getfield 177, 3) := dk_180 0 177 (dk_at dksX1_wheel_0 1 rfl rfl)
theorem dX1_wheel_4 : decode cX1_wheel 4 = .ok (.ifCond .eq 16, 3) := dk_153 0 16 (dk_at dksX1_wheel_0 4 rfl rfl)
theorem dX1_wheel_7 : decode cX1_wheel 7 = .ok (.iload_n 1, 1) := dk_27 (dk_at dksX1_wheel_0 7 rfl rfl)
theorem dX1_wheel_8 : decode cX1_wheel 8 = .ok (.iconst 1, 1) := dk_4 (dk_at dksX1_wheel_0 8 rfl rfl)
theorem dX1_wheel_9 : decode cX1_wheel 9 = .ok (.iconst 4, 1) := dk_7 (dk_at dksX1_wheel_0 9 rfl rfl)
theorem dX1_wheel_10 : decode cX1_wheel 10 = .ok (.invokestatic 3, 3) := dk_184 0 3 (dk_at dksX1_wheel_0 10 rfl rfl)
theorem dX1_wheel_13 : decode cX1_wheel 13 = .ok (.ifCond .eq 7, 3) := dk_153 0 7 (dk_at dksX1_wheel_0 13 rfl rfl)
theorem dX1_wheel_16 : decode cX1_wheel 16 = .ok (.iconst 1, 1) := dk_4 (dk_at dksX1_wheel_0 16 rfl rfl)
theorem dX1_wheel_17 : decode cX1_wheel 17 = .ok (.goto 4, 3) := dk_167 0 4 (dk_at dksX1_wheel_0 17 rfl rfl)
theorem dX1_wheel_20 : decode cX1_wheel 20 = .ok (.iconst 0, 1) := dk_3 (dk_at dksX1_wheel_0 20 rfl rfl)
theorem dX1_wheel_21 : decode cX1_wheel 21 = .ok (.invokestatic 146, 3) := dk_184 0 146 (dk_at dksX1_wheel_0 21 rfl rfl)
theorem dX1_wheel_24 : decode cX1_wheel 24 = .ok (.aload_n 0, 1) := dk_42 (dk_at dksX1_wheel_1 0 rfl rfl)
theorem dX1_wheel_25 : decode cX1_wheel 25 = .ok (.getfield 40, 3) := dk_180 0 40 (dk_at dksX1_wheel_1 1 rfl rfl)
theorem dX1_wheel_28 : decode cX1_wheel 28 = .ok (.getfield 211, 3) := dk_180 0 211 (dk_at dksX1_wheel_1 4 rfl rfl)
theorem dX1_wheel_31 : decode cX1_wheel 31 = .ok (.iload_n 1, 1) := dk_27 (dk_at dksX1_wheel_1 7 rfl rfl)
theorem dX1_wheel_32 : decode cX1_wheel 32 = .ok (.iconst 1, 1) := dk_4 (dk_at dksX1_wheel_1 8 rfl rfl)
theorem dX1_wheel_33 : decode cX1_wheel 33 = .ok (.isub, 1) := dk_100 (dk_at dksX1_wheel_1 9 rfl rfl)
theorem dX1_wheel_34 : decode cX1_wheel 34 = .ok (.iaload, 1) := dk_46 (dk_at dksX1_wheel_1 10 rfl rfl)
theorem dX1_wheel_35 : decode cX1_wheel 35 = .ok (.ireturn, 1) := dk_172 (dk_at dksX1_wheel_1 11 rfl rfl)
abbrev cX1_wantedAt : ByteArray := prog_1_method_45_code
def yX1_wantedAt : MethodName := ⟨RX1, "wantedAt", "(II)I"⟩
def dkwX1_wantedAt_1 : List UInt8 := [4, 167, 0, 4, 3, 184, 0, 146, 42, 180, 0, 71, 180, 0, 208, 27, 50, 28, 4, 100, 51, 172]
abbrev dktX1_wantedAt_1 : List UInt8 := dkwX1_wantedAt_1 ++ []
def dkwX1_wantedAt_0 : List UInt8 := [27, 3, 42, 180, 0, 74, 4, 100, 184, 0, 3, 153, 0, 17, 28, 4, 16, 12, 184, 0, 3, 153, 0, 7]
abbrev dktX1_wantedAt_0 : List UInt8 := dkwX1_wantedAt_0 ++ dktX1_wantedAt_1
theorem dksX1_wantedAt_0 : cX1_wantedAt.data.toList.drop 0 = dktX1_wantedAt_0 := by decide +kernel
theorem dksX1_wantedAt_1 : cX1_wantedAt.data.toList.drop 24 = dktX1_wantedAt_1 := dk_seg dksX1_wantedAt_0 24 rfl rfl
theorem dX1_wantedAt_0 : decode cX1_wantedAt 0 = .ok (.iload_n 1, 1) := dk_27 (dk_at dksX1_wantedAt_0 0 rfl rfl)
theorem dX1_wantedAt_1 : decode cX1_wantedAt 1 = .ok (.iconst 0, 1) := dk_3 (dk_at dksX1_wantedAt_0 1 rfl rfl)
theorem dX1_wantedAt_2 : decode cX1_wantedAt 2 = .ok (.aload_n 0, 1) := dk_42 (dk_at dksX1_wantedAt_0 2 rfl rfl)
theorem dX1_wantedAt_3 : decode cX1_wantedAt 3 = .ok (.getfield 74, 3) := dk_180 0 74 (dk_at dksX1_wantedAt_0 3 rfl rfl)
theorem dX1_wantedAt_6 : decode cX1_wantedAt 6 = .ok (.iconst 1, 1) := dk_4 (dk_at dksX1_wantedAt_0 6 rfl rfl)
theorem dX1_wantedAt_7 : decode cX1_wantedAt 7 = .ok (.isub, 1) := dk_100 (dk_at dksX1_wantedAt_0 7 rfl rfl)
theorem dX1_wantedAt_8 : decode cX1_wantedAt 8 = .ok (.invokestatic 3, 3) := dk_184 0 3 (dk_at dksX1_wantedAt_0 8 rfl rfl)
theorem dX1_wantedAt_11 : decode cX1_wantedAt 11 = .ok (.ifCond .eq 17, 3) := dk_153 0 17 (dk_at dksX1_wantedAt_0 11 rfl rfl)
theorem dX1_wantedAt_14 : decode cX1_wantedAt 14 = .ok (.iload_n 2, 1) := dk_28 (dk_at dksX1_wantedAt_0 14 rfl rfl)
theorem dX1_wantedAt_15 : decode cX1_wantedAt 15 = .ok (.iconst 1, 1) := dk_4 (dk_at dksX1_wantedAt_0 15 rfl rfl)
theorem dX1_wantedAt_16 : decode cX1_wantedAt 16 = .ok (.bipush 12, 2) := dk_16 12 (dk_at dksX1_wantedAt_0 16 rfl rfl)
theorem dX1_wantedAt_18 : decode cX1_wantedAt 18 = .ok (.invokestatic 3, 3) := dk_184 0 3 (dk_at dksX1_wantedAt_0 18 rfl rfl)
theorem dX1_wantedAt_21 : decode cX1_wantedAt 21 = .ok (.ifCond .eq 7, 3) := dk_153 0 7 (dk_at dksX1_wantedAt_0 21 rfl rfl)
theorem dX1_wantedAt_24 : decode cX1_wantedAt 24 = .ok (.iconst 1, 1) := dk_4 (dk_at dksX1_wantedAt_1 0 rfl rfl)
theorem dX1_wantedAt_25 : decode cX1_wantedAt 25 = .ok (.goto 4, 3) := dk_167 0 4 (dk_at dksX1_wantedAt_1 1 rfl rfl)
theorem dX1_wantedAt_28 : decode cX1_wantedAt 28 = .ok (.iconst 0, 1) := dk_3 (dk_at dksX1_wantedAt_1 4 rfl rfl)
theorem dX1_wantedAt_29 : decode cX1_wantedAt 29 = .ok (.invokestatic 146, 3) := dk_184 0 146 (dk_at dksX1_wantedAt_1 5 rfl rfl)
theorem dX1_wantedAt_32 : decode cX1_wantedAt 32 = .ok (.aload_n 0, 1) := dk_42 (dk_at dksX1_wantedAt_1 8 rfl rfl)
theorem dX1_wantedAt_33 : decode cX1_wantedAt 33 = .ok (.getfield 71, 3) := dk_180 0 71 (dk_at dksX1_wantedAt_1 9 rfl rfl)
theorem dX1_wantedAt_36 : decode cX1_wantedAt 36 = .ok (.getfield 208, 3) := dk_180 0 208 (dk_at dksX1_wantedAt_1 12 rfl rfl)
theorem dX1_wantedAt_39 : decode cX1_wantedAt 39 = .ok (.iload_n 1, 1) := dk_27 (dk_at dksX1_wantedAt_1 15 rfl rfl)
theorem dX1_wantedAt_40 : decode cX1_wantedAt 40 = .ok (.aaload, 1) := dk_50 (dk_at dksX1_wantedAt_1 16 rfl rfl)
theorem dX1_wantedAt_41 : decode cX1_wantedAt 41 = .ok (.iload_n 2, 1) := dk_28 (dk_at dksX1_wantedAt_1 17 rfl rfl)
theorem dX1_wantedAt_42 : decode cX1_wantedAt 42 = .ok (.iconst 1, 1) := dk_4 (dk_at dksX1_wantedAt_1 18 rfl rfl)
theorem dX1_wantedAt_43 : decode cX1_wantedAt 43 = .ok (.isub, 1) := dk_100 (dk_at dksX1_wantedAt_1 19 rfl rfl)
theorem dX1_wantedAt_44 : decode cX1_wantedAt 44 = .ok (.baload, 1) := dk_51 (dk_at dksX1_wantedAt_1 20 rfl rfl)
theorem dX1_wantedAt_45 : decode cX1_wantedAt 45 = .ok (.ireturn, 1) := dk_172 (dk_at dksX1_wantedAt_1 21 rfl rfl)
