/-! methods: names, decode rows: by program out of claim/names -/
set_option maxRecDepth 100000
abbrev cX7_neededSet : ByteArray := prog_14_method_54_code
def yX7_neededSet : MethodName := ⟨RX7, "neededSet", "()I"⟩
def dkwX7_neededSet_0 : List UInt8 := [42, 3, 181, 0, 190, 42, 180, 1, 167, 172]
abbrev dktX7_neededSet_0 : List UInt8 := dkwX7_neededSet_0 ++ []
theorem dksX7_neededSet_0 : cX7_neededSet.data.toList.drop 0 = dktX7_neededSet_0 := by decide +kernel
theorem dX7_neededSet_0 : decode cX7_neededSet 0 = .ok (.aload_n 0, 1) := dk_42 (dk_at dksX7_neededSet_0 0 rfl rfl)
theorem dX7_neededSet_1 : decode cX7_neededSet 1 = .ok (.iconst 0, 1) := dk_3 (dk_at dksX7_neededSet_0 1 rfl rfl)
theorem dX7_neededSet_2 : decode cX7_neededSet 2 = .ok (.putfield 190, 3) := dk_181 0 190 (dk_at dksX7_neededSet_0 2 rfl rfl)
theorem dX7_neededSet_5 : decode cX7_neededSet 5 = .ok (.aload_n 0, 1) := dk_42 (dk_at dksX7_neededSet_0 5 rfl rfl)
theorem dX7_neededSet_6 : decode cX7_neededSet 6 = .ok (.getfield 423, 3) := dk_180 1 167 (dk_at dksX7_neededSet_0 6 rfl rfl)
theorem dX7_neededSet_9 : decode cX7_neededSet 9 = .ok (.ireturn, 1) := dk_172 (dk_at dksX7_neededSet_0 9 rfl rfl)
abbrev cX7_idle : ByteArray := prog_14_method_55_code
def yX7_idle : MethodName := ⟨RX7, "idle", "(I)I"⟩
def dkwX7_idle_5 : List UInt8 := [180, 1, 170, 172]
abbrev dktX7_idle_5 : List UInt8 := dkwX7_idle_5 ++ []
def dkwX7_idle_4 : List UInt8 := [42, 89, 180, 1, 170, 4, 96, 181, 1, 170, 132, 2, 1, 167, 255, 201, 42, 2, 181, 1, 97, 42]
abbrev dktX7_idle_4 : List UInt8 := dkwX7_idle_4 ++ dktX7_idle_5
def dkwX7_idle_3 : List UInt8 := [182, 1, 147, 42, 5, 182, 1, 173, 154, 0, 6, 167, 0, 23, 42, 180, 0, 96, 42, 180, 1, 170, 28, 79]
abbrev dktX7_idle_3 : List UInt8 := dkwX7_idle_3 ++ dktX7_idle_4
def dkwX7_idle_2 : List UInt8 := [181, 1, 170, 3, 61, 28, 42, 180, 0, 26, 3, 46, 162, 0, 51, 42, 28, 181, 1, 97, 42, 16, 40]
abbrev dktX7_idle_2 : List UInt8 := dkwX7_idle_2 ++ dktX7_idle_3
def dkwX7_idle_1 : List UInt8 := [180, 0, 17, 27, 46, 2, 182, 1, 143, 42, 16, 40, 182, 1, 147, 42, 5, 182, 1, 150, 42, 3]
abbrev dktX7_idle_1 : List UInt8 := dkwX7_idle_1 ++ dktX7_idle_2
def dkwX7_idle_0 : List UInt8 := [42, 3, 181, 0, 190, 27, 184, 0, 214, 154, 0, 5, 2, 172, 42, 2, 181, 1, 97, 42, 27, 3, 42]
abbrev dktX7_idle_0 : List UInt8 := dkwX7_idle_0 ++ dktX7_idle_1
theorem dksX7_idle_0 : cX7_idle.data.toList.drop 0 = dktX7_idle_0 := by decide +kernel
theorem dksX7_idle_1 : cX7_idle.data.toList.drop 23 = dktX7_idle_1 := dk_seg dksX7_idle_0 23 rfl rfl
theorem dksX7_idle_2 : cX7_idle.data.toList.drop 45 = dktX7_idle_2 := dk_seg dksX7_idle_1 22 rfl rfl
theorem dksX7_idle_3 : cX7_idle.data.toList.drop 68 = dktX7_idle_3 := dk_seg dksX7_idle_2 23 rfl rfl
theorem dksX7_idle_4 : cX7_idle.data.toList.drop 92 = dktX7_idle_4 := dk_seg dksX7_idle_3 24 rfl rfl
theorem dksX7_idle_5 : cX7_idle.data.toList.drop 114 = dktX7_idle_5 := dk_seg dksX7_idle_4 22 rfl rfl
theorem dX7_idle_0 : decode cX7_idle 0 = .ok (.aload_n 0, 1) := dk_42 (dk_at dksX7_idle_0 0 rfl rfl)
theorem dX7_idle_1 : decode cX7_idle 1 = .ok (.iconst 0, 1) := dk_3 (dk_at dksX7_idle_0 1 rfl rfl)
theorem dX7_idle_2 : decode cX7_idle 2 = .ok (.putfield 190, 3) := dk_181 0 190 (dk_at dksX7_idle_0 2 rfl rfl)
theorem dX7_idle_5 : decode cX7_idle 5 = .ok (.iload_n 1, 1) := dk_27 (dk_at dksX7_idle_0 5 rfl rfl)
theorem dX7_idle_6 : decode cX7_idle 6 = .ok (.invokestatic 214, 3) := dk_184 0 214 (dk_at dksX7_idle_0 6 rfl rfl)
theorem dX7_idle_9 : decode cX7_idle 9 = .ok (.ifCond .ne 5, 3) := dk_154 0 5 (dk_at dksX7_idle_0 9 rfl rfl)
theorem dX7_idle_12 : decode cX7_idle 12 = .ok (.iconst (-1), 1) := dk_2 (dk_at dksX7_idle_0 12 rfl rfl)
theorem dX7_idle_13 : decode cX7_idle 13 = .ok (.ireturn, 1) := dk_172 (dk_at dksX7_idle_0 13 rfl rfl)
theorem dX7_idle_14 : decode cX7_idle 14 = .ok (.aload_n 0, 1) := dk_42 (dk_at dksX7_idle_0 14 rfl rfl)
theorem dX7_idle_15 : decode cX7_idle 15 = .ok (.iconst (-1), 1) := dk_2 (dk_at dksX7_idle_0 15 rfl rfl)
theorem dX7_idle_16 : decode cX7_idle 16 = .ok (.putfield 353, 3) := dk_181 1 97 (dk_at dksX7_idle_0 16 rfl rfl)
theorem dX7_idle_19 : decode cX7_idle 19 = .ok (.aload_n 0, 1) := dk_42 (dk_at dksX7_idle_0 19 rfl rfl)
theorem dX7_idle_20 : decode cX7_idle 20 = .ok (.iload_n 1, 1) := dk_27 (dk_at dksX7_idle_0 20 rfl rfl)
theorem dX7_idle_21 : decode cX7_idle 21 = .ok (.iconst 0, 1) := dk_3 (dk_at dksX7_idle_0 21 rfl rfl)
theorem dX7_idle_22 : decode cX7_idle 22 = .ok (.aload_n 0, 1) := dk_42 (dk_at dksX7_idle_0 22 rfl rfl)
theorem dX7_idle_23 : decode cX7_idle 23 = .ok (.getfield 17, 3) := dk_180 0 17 (dk_at dksX7_idle_1 0 rfl rfl)
theorem dX7_idle_26 : decode cX7_idle 26 = .ok (.iload_n 1, 1) := dk_27 (dk_at dksX7_idle_1 3 rfl rfl)
theorem dX7_idle_27 : decode cX7_idle 27 = .ok (.iaload, 1) := dk_46 (dk_at dksX7_idle_1 4 rfl rfl)
theorem dX7_idle_28 : decode cX7_idle 28 = .ok (.iconst (-1), 1) := dk_2 (dk_at dksX7_idle_1 5 rfl rfl)
theorem dX7_idle_29 : decode cX7_idle 29 = .ok (.invokevirtual 399, 3) := dk_182 1 143 (dk_at dksX7_idle_1 6 rfl rfl)
theorem dX7_idle_32 : decode cX7_idle 32 = .ok (.aload_n 0, 1) := dk_42 (dk_at dksX7_idle_1 9 rfl rfl)
theorem dX7_idle_33 : decode cX7_idle 33 = .ok (.bipush 40, 2) := dk_16 40 (dk_at dksX7_idle_1 10 rfl rfl)
theorem dX7_idle_35 : decode cX7_idle 35 = .ok (.invokevirtual 403, 3) := dk_182 1 147 (dk_at dksX7_idle_1 12 rfl rfl)
theorem dX7_idle_38 : decode cX7_idle 38 = .ok (.aload_n 0, 1) := dk_42 (dk_at dksX7_idle_1 15 rfl rfl)
theorem dX7_idle_39 : decode cX7_idle 39 = .ok (.iconst 2, 1) := dk_5 (dk_at dksX7_idle_1 16 rfl rfl)
theorem dX7_idle_40 : decode cX7_idle 40 = .ok (.invokevirtual 406, 3) := dk_182 1 150 (dk_at dksX7_idle_1 17 rfl rfl)
theorem dX7_idle_43 : decode cX7_idle 43 = .ok (.aload_n 0, 1) := dk_42 (dk_at dksX7_idle_1 20 rfl rfl)
theorem dX7_idle_44 : decode cX7_idle 44 = .ok (.iconst 0, 1) := dk_3 (dk_at dksX7_idle_1 21 rfl rfl)
theorem dX7_idle_45 : decode cX7_idle 45 = .ok (.putfield 426, 3) := dk_181 1 170 (dk_at dksX7_idle_2 0 rfl rfl)
theorem dX7_idle_48 : decode cX7_idle 48 = .ok (.iconst 0, 1) := dk_3 (dk_at dksX7_idle_2 3 rfl rfl)
theorem dX7_idle_49 : decode cX7_idle 49 = .ok (.istore_n 2, 1) := dk_61 (dk_at dksX7_idle_2 4 rfl rfl)
theorem dX7_idle_50 : decode cX7_idle 50 = .ok (.iload_n 2, 1) := dk_28 (dk_at dksX7_idle_2 5 rfl rfl)
theorem dX7_idle_51 : decode cX7_idle 51 = .ok (.aload_n 0, 1) := dk_42 (dk_at dksX7_idle_2 6 rfl rfl)
theorem dX7_idle_52 : decode cX7_idle 52 = .ok (.getfield 26, 3) := dk_180 0 26 (dk_at dksX7_idle_2 7 rfl rfl)
theorem dX7_idle_55 : decode cX7_idle 55 = .ok (.iconst 0, 1) := dk_3 (dk_at dksX7_idle_2 10 rfl rfl)
theorem dX7_idle_56 : decode cX7_idle 56 = .ok (.iaload, 1) := dk_46 (dk_at dksX7_idle_2 11 rfl rfl)
theorem dX7_idle_57 : decode cX7_idle 57 = .ok (.if_icmp .ge 51, 3) := dk_162 0 51 (dk_at dksX7_idle_2 12 rfl rfl)
theorem dX7_idle_60 : decode cX7_idle 60 = .ok (.aload_n 0, 1) := dk_42 (dk_at dksX7_idle_2 15 rfl rfl)
theorem dX7_idle_61 : decode cX7_idle 61 = .ok (.iload_n 2, 1) := dk_28 (dk_at dksX7_idle_2 16 rfl rfl)
theorem dX7_idle_62 : decode cX7_idle 62 = .ok (.putfield 353, 3) := dk_181 1 97 (dk_at dksX7_idle_2 17 rfl rfl)
theorem dX7_idle_65 : decode cX7_idle 65 = .ok (.aload_n 0, 1) := dk_42 (dk_at dksX7_idle_2 20 rfl rfl)
theorem dX7_idle_66 : decode cX7_idle 66 = .ok (.bipush 40, 2) := dk_16 40 (dk_at dksX7_idle_2 21 rfl rfl)
theorem dX7_idle_68 : decode cX7_idle 68 = .ok (.invokevirtual 403, 3) := dk_182 1 147 (dk_at dksX7_idle_3 0 rfl rfl)
theorem dX7_idle_71 : decode cX7_idle 71 = .ok (.aload_n 0, 1) := dk_42 (dk_at dksX7_idle_3 3 rfl rfl)
theorem dX7_idle_72 : decode cX7_idle 72 = .ok (.iconst 2, 1) := dk_5 (dk_at dksX7_idle_3 4 rfl rfl)
theorem dX7_idle_73 : decode cX7_idle 73 = .ok (.invokevirtual 429, 3) := dk_182 1 173 (dk_at dksX7_idle_3 5 rfl rfl)
theorem dX7_idle_76 : decode cX7_idle 76 = .ok (.ifCond .ne 6, 3) := dk_154 0 6 (dk_at dksX7_idle_3 8 rfl rfl)
theorem dX7_idle_79 : decode cX7_idle 79 = .ok (.goto 23, 3) := dk_167 0 23 (dk_at dksX7_idle_3 11 rfl rfl)
theorem dX7_idle_82 : decode cX7_idle 82 = .ok (.aload_n 0, 1) := dk_42 (dk_at dksX7_idle_3 14 rfl rfl)
theorem dX7_idle_83 : decode cX7_idle 83 = .ok (.getfield 96, 3) := dk_180 0 96 (dk_at dksX7_idle_3 15 rfl rfl)
theorem dX7_idle_86 : decode cX7_idle 86 = .ok (.aload_n 0, 1) := dk_42 (dk_at dksX7_idle_3 18 rfl rfl)
theorem dX7_idle_87 : decode cX7_idle 87 = .ok (.getfield 426, 3) := dk_180 1 170 (dk_at dksX7_idle_3 19 rfl rfl)
theorem dX7_idle_90 : decode cX7_idle 90 = .ok (.iload_n 2, 1) := dk_28 (dk_at dksX7_idle_3 22 rfl rfl)
theorem dX7_idle_91 : decode cX7_idle 91 = .ok (.iastore, 1) := dk_79 (dk_at dksX7_idle_3 23 rfl rfl)
theorem dX7_idle_92 : decode cX7_idle 92 = .ok (.aload_n 0, 1) := dk_42 (dk_at dksX7_idle_4 0 rfl rfl)
theorem dX7_idle_93 : decode cX7_idle 93 = .ok (.dup, 1) := dk_89 (dk_at dksX7_idle_4 1 rfl rfl)
theorem dX7_idle_94 : decode cX7_idle 94 = .ok (.getfield 426, 3) := dk_180 1 170 (dk_at dksX7_idle_4 2 rfl rfl)
theorem dX7_idle_97 : decode cX7_idle 97 = .ok (.iconst 1, 1) := dk_4 (dk_at dksX7_idle_4 5 rfl rfl)
theorem dX7_idle_98 : decode cX7_idle 98 = .ok (.iadd, 1) := dk_96 (dk_at dksX7_idle_4 6 rfl rfl)
theorem dX7_idle_99 : decode cX7_idle 99 = .ok (.putfield 426, 3) := dk_181 1 170 (dk_at dksX7_idle_4 7 rfl rfl)
theorem dX7_idle_102 : decode cX7_idle 102 = .ok (.iinc 2 1, 3) := dk_132 2 1 (dk_at dksX7_idle_4 10 rfl rfl)
theorem dX7_idle_105 : decode cX7_idle 105 = .ok (.goto (-55), 3) := dk_167 255 201 (dk_at dksX7_idle_4 13 rfl rfl)
theorem dX7_idle_108 : decode cX7_idle 108 = .ok (.aload_n 0, 1) := dk_42 (dk_at dksX7_idle_4 16 rfl rfl)
theorem dX7_idle_109 : decode cX7_idle 109 = .ok (.iconst (-1), 1) := dk_2 (dk_at dksX7_idle_4 17 rfl rfl)
theorem dX7_idle_110 : decode cX7_idle 110 = .ok (.putfield 353, 3) := dk_181 1 97 (dk_at dksX7_idle_4 18 rfl rfl)
theorem dX7_idle_113 : decode cX7_idle 113 = .ok (.aload_n 0, 1) := dk_42 (dk_at dksX7_idle_4 21 rfl rfl)
theorem dX7_idle_114 : decode cX7_idle 114 = .ok (.getfield 426, 3) := dk_180 1 170 (dk_at dksX7_idle_5 0 rfl rfl)
theorem dX7_idle_117 : decode cX7_idle 117 = .ok (.ireturn, 1) := dk_172 (dk_at dksX7_idle_5 3 rfl rfl)
abbrev cX7_isLike : ByteArray := prog_14_method_44_code
def yX7_isLike : MethodName := ⟨RX7, "isLike", "(I)Z"⟩
def dkwX7_isLike_7 : List UInt8 := [132, 2, 1, 167, 255, 217, 4, 172]
abbrev dktX7_isLike_7 : List UInt8 := dkwX7_isLike_7 ++ []
def dkwX7_isLike_6 : List UInt8 := [180, 0, 72, 28, 46, 42, 180, 0, 72, 17, 3, 32, 27, 104, 28, 96, 46, 159, 0, 5, 3, 172]
abbrev dktX7_isLike_6 : List UInt8 := dkwX7_isLike_6 ++ dktX7_isLike_7
def dkwX7_isLike_5 : List UInt8 := [3, 172, 132, 2, 1, 167, 255, 217, 3, 61, 28, 16, 20, 42, 180, 0, 63, 3, 46, 104, 162, 0, 32, 42]
abbrev dktX7_isLike_5 : List UInt8 := dkwX7_isLike_5 ++ dktX7_isLike_6
def dkwX7_isLike_4 : List UInt8 := [162, 0, 32, 42, 180, 0, 66, 28, 46, 42, 180, 0, 66, 17, 2, 208, 27, 104, 28, 96, 46, 159, 0, 5]
abbrev dktX7_isLike_4 : List UInt8 := dkwX7_isLike_4 ++ dktX7_isLike_5
def dkwX7_isLike_3 : List UInt8 := [159, 0, 5, 3, 172, 132, 2, 1, 167, 255, 227, 3, 61, 28, 16, 12, 42, 180, 0, 60, 3, 46, 104]
abbrev dktX7_isLike_3 : List UInt8 := dkwX7_isLike_3 ++ dktX7_isLike_4
def dkwX7_isLike_2 : List UInt8 := [172, 3, 61, 28, 7, 162, 0, 30, 42, 180, 0, 69, 28, 46, 42, 180, 0, 69, 7, 27, 104, 28, 96, 46]
abbrev dktX7_isLike_2 : List UInt8 := dkwX7_isLike_2 ++ dktX7_isLike_3
def dkwX7_isLike_1 : List UInt8 := [180, 0, 60, 27, 46, 160, 0, 18, 42, 180, 0, 63, 3, 46, 42, 180, 0, 63, 27, 46, 159, 0, 5, 3]
abbrev dktX7_isLike_1 : List UInt8 := dkwX7_isLike_1 ++ dktX7_isLike_2
def dkwX7_isLike_0 : List UInt8 := [42, 180, 0, 57, 3, 46, 42, 180, 0, 57, 27, 46, 160, 0, 33, 42, 180, 0, 60, 3, 46, 42]
abbrev dktX7_isLike_0 : List UInt8 := dkwX7_isLike_0 ++ dktX7_isLike_1
theorem dksX7_isLike_0 : cX7_isLike.data.toList.drop 0 = dktX7_isLike_0 := by decide +kernel
theorem dksX7_isLike_1 : cX7_isLike.data.toList.drop 22 = dktX7_isLike_1 := dk_seg dksX7_isLike_0 22 rfl rfl
theorem dksX7_isLike_2 : cX7_isLike.data.toList.drop 46 = dktX7_isLike_2 := dk_seg dksX7_isLike_1 24 rfl rfl
theorem dksX7_isLike_3 : cX7_isLike.data.toList.drop 70 = dktX7_isLike_3 := dk_seg dksX7_isLike_2 24 rfl rfl
theorem dksX7_isLike_4 : cX7_isLike.data.toList.drop 93 = dktX7_isLike_4 := dk_seg dksX7_isLike_3 23 rfl rfl
theorem dksX7_isLike_5 : cX7_isLike.data.toList.drop 117 = dktX7_isLike_5 := dk_seg dksX7_isLike_4 24 rfl rfl
theorem dksX7_isLike_6 : cX7_isLike.data.toList.drop 141 = dktX7_isLike_6 := dk_seg dksX7_isLike_5 24 rfl rfl
theorem dksX7_isLike_7 : cX7_isLike.data.toList.drop 163 = dktX7_isLike_7 := dk_seg dksX7_isLike_6 22 rfl rfl
theorem dX7_isLike_0 : decode cX7_isLike 0 = .ok (.aload_n 0, 1) := dk_42 (dk_at dksX7_isLike_0 0 rfl rfl)
theorem dX7_isLike_1 : decode cX7_isLike 1 = .ok (.getfield 57, 3) := dk_180 0 57 (dk_at dksX7_isLike_0 1 rfl rfl)
theorem dX7_isLike_4 : decode cX7_isLike 4 = .ok (.iconst 0, 1) := dk_3 (dk_at dksX7_isLike_0 4 rfl rfl)
theorem dX7_isLike_5 : decode cX7_isLike 5 = .ok (.iaload, 1) := dk_46 (dk_at dksX7_isLike_0 5 rfl rfl)
theorem dX7_isLike_6 : decode cX7_isLike 6 = .ok (.aload_n 0, 1) := dk_42 (dk_at dksX7_isLike_0 6 rfl rfl)
theorem dX7_isLike_7 : decode cX7_isLike 7 = .ok (.getfield 57, 3) := dk_180 0 57 (dk_at dksX7_isLike_0 7 rfl rfl)
theorem dX7_isLike_10 : decode cX7_isLike 10 = .ok (.iload_n 1, 1) := dk_27 (dk_at dksX7_isLike_0 10 rfl rfl)
theorem dX7_isLike_11 : decode cX7_isLike 11 = .ok (.iaload, 1) := dk_46 (dk_at dksX7_isLike_0 11 rfl rfl)
theorem dX7_isLike_12 : decode cX7_isLike 12 = .ok (.if_icmp .ne 33, 3) := dk_160 0 33 (dk_at dksX7_isLike_0 12 rfl rfl)
theorem dX7_isLike_15 : decode cX7_isLike 15 = .ok (.aload_n 0, 1) := dk_42 (dk_at dksX7_isLike_0 15 rfl rfl)
theorem dX7_isLike_16 : decode cX7_isLike 16 = .ok (.getfield 60, 3) := dk_180 0 60 (dk_at dksX7_isLike_0 16 rfl rfl)
theorem dX7_isLike_19 : decode cX7_isLike 19 = .ok (.iconst 0, 1) := dk_3 (dk_at dksX7_isLike_0 19 rfl rfl)
theorem dX7_isLike_20 : decode cX7_isLike 20 = .ok (.iaload, 1) := dk_46 (dk_at dksX7_isLike_0 20 rfl rfl)
theorem dX7_isLike_21 : decode cX7_isLike 21 = .ok (.aload_n 0, 1) := dk_42 (dk_at dksX7_isLike_0 21 rfl rfl)
theorem dX7_isLike_22 : decode cX7_isLike 22 = .ok (.getfield 60, 3) := dk_180 0 60 (dk_at dksX7_isLike_1 0 rfl rfl)
theorem dX7_isLike_25 : decode cX7_isLike 25 = .ok (.iload_n 1, 1) := dk_27 (dk_at dksX7_isLike_1 3 rfl rfl)
theorem dX7_isLike_26 : decode cX7_isLike 26 = .ok (.iaload, 1) := dk_46 (dk_at dksX7_isLike_1 4 rfl rfl)
theorem dX7_isLike_27 : decode cX7_isLike 27 = .ok (.if_icmp .ne 18, 3) := dk_160 0 18 (dk_at dksX7_isLike_1 5 rfl rfl)
theorem dX7_isLike_30 : decode cX7_isLike 30 = .ok (.aload_n 0, 1) := dk_42 (dk_at dksX7_isLike_1 8 rfl rfl)
theorem dX7_isLike_31 : decode cX7_isLike 31 = .ok (.getfield 63, 3) := dk_180 0 63 (dk_at dksX7_isLike_1 9 rfl rfl)
theorem dX7_isLike_34 : decode cX7_isLike 34 = .ok (.iconst 0, 1) := dk_3 (dk_at dksX7_isLike_1 12 rfl rfl)
theorem dX7_isLike_35 : decode cX7_isLike 35 = .ok (.iaload, 1) := dk_46 (dk_at dksX7_isLike_1 13 rfl rfl)
theorem dX7_isLike_36 : decode cX7_isLike 36 = .ok (.aload_n 0, 1) := dk_42 (dk_at dksX7_isLike_1 14 rfl rfl)
theorem dX7_isLike_37 : decode cX7_isLike 37 = .ok (.getfield 63, 3) := dk_180 0 63 (dk_at dksX7_isLike_1 15 rfl rfl)
theorem dX7_isLike_40 : decode cX7_isLike 40 = .ok (.iload_n 1, 1) := dk_27 (dk_at dksX7_isLike_1 18 rfl rfl)
theorem dX7_isLike_41 : decode cX7_isLike 41 = .ok (.iaload, 1) := dk_46 (dk_at dksX7_isLike_1 19 rfl rfl)
theorem dX7_isLike_42 : decode cX7_isLike 42 = .ok (.if_icmp .eq 5, 3) := dk_159 0 5 (dk_at dksX7_isLike_1 20 rfl rfl)
theorem dX7_isLike_45 : decode cX7_isLike 45 = .ok (.iconst 0, 1) := dk_3 (dk_at dksX7_isLike_1 23 rfl rfl)
theorem dX7_isLike_46 : decode cX7_isLike 46 = .ok (.ireturn, 1) := dk_172 (dk_at dksX7_isLike_2 0 rfl rfl)
theorem dX7_isLike_47 : decode cX7_isLike 47 = .ok (.iconst 0, 1) := dk_3 (dk_at dksX7_isLike_2 1 rfl rfl)
theorem dX7_isLike_48 : decode cX7_isLike 48 = .ok (.istore_n 2, 1) := dk_61 (dk_at dksX7_isLike_2 2 rfl rfl)
theorem dX7_isLike_49 : decode cX7_isLike 49 = .ok (.iload_n 2, 1) := dk_28 (dk_at dksX7_isLike_2 3 rfl rfl)
theorem dX7_isLike_50 : decode cX7_isLike 50 = .ok (.iconst 4, 1) := dk_7 (dk_at dksX7_isLike_2 4 rfl rfl)
theorem dX7_isLike_51 : decode cX7_isLike 51 = .ok (.if_icmp .ge 30, 3) := dk_162 0 30 (dk_at dksX7_isLike_2 5 rfl rfl)
theorem dX7_isLike_54 : decode cX7_isLike 54 = .ok (.aload_n 0, 1) := dk_42 (dk_at dksX7_isLike_2 8 rfl rfl)
theorem dX7_isLike_55 : decode cX7_isLike 55 = .ok (.getfield 69, 3) := dk_180 0 69 (dk_at dksX7_isLike_2 9 rfl rfl)
theorem dX7_isLike_58 : decode cX7_isLike 58 = .ok (.iload_n 2, 1) := dk_28 (dk_at dksX7_isLike_2 12 rfl rfl)
theorem dX7_isLike_59 : decode cX7_isLike 59 = .ok (.iaload, 1) := dk_46 (dk_at dksX7_isLike_2 13 rfl rfl)
theorem dX7_isLike_60 : decode cX7_isLike 60 = .ok (.aload_n 0, 1) := dk_42 (dk_at dksX7_isLike_2 14 rfl rfl)
theorem dX7_isLike_61 : decode cX7_isLike 61 = .ok (.getfield 69, 3) := dk_180 0 69 (dk_at dksX7_isLike_2 15 rfl rfl)
theorem dX7_isLike_64 : decode cX7_isLike 64 = .ok (.iconst 4, 1) := dk_7 (dk_at dksX7_isLike_2 18 rfl rfl)
theorem dX7_isLike_65 : decode cX7_isLike 65 = .ok (.iload_n 1, 1) := dk_27 (dk_at dksX7_isLike_2 19 rfl rfl)
theorem dX7_isLike_66 : decode cX7_isLike 66 = .ok (.imul, 1) := dk_104 (dk_at dksX7_isLike_2 20 rfl rfl)
theorem dX7_isLike_67 : decode cX7_isLike 67 = .ok (.iload_n 2, 1) := dk_28 (dk_at dksX7_isLike_2 21 rfl rfl)
theorem dX7_isLike_68 : decode cX7_isLike 68 = .ok (.iadd, 1) := dk_96 (dk_at dksX7_isLike_2 22 rfl rfl)
theorem dX7_isLike_69 : decode cX7_isLike 69 = .ok (.iaload, 1) := dk_46 (dk_at dksX7_isLike_2 23 rfl rfl)
theorem dX7_isLike_70 : decode cX7_isLike 70 = .ok (.if_icmp .eq 5, 3) := dk_159 0 5 (dk_at dksX7_isLike_3 0 rfl rfl)
theorem dX7_isLike_73 : decode cX7_isLike 73 = .ok (.iconst 0, 1) := dk_3 (dk_at dksX7_isLike_3 3 rfl rfl)
theorem dX7_isLike_74 : decode cX7_isLike 74 = .ok (.ireturn, 1) := dk_172 (dk_at dksX7_isLike_3 4 rfl rfl)
theorem dX7_isLike_75 : decode cX7_isLike 75 = .ok (.iinc 2 1, 3) := dk_132 2 1 (dk_at dksX7_isLike_3 5 rfl rfl)
theorem dX7_isLike_78 : decode cX7_isLike 78 = .ok (.goto (-29), 3) := dk_167 255 227 (dk_at dksX7_isLike_3 8 rfl rfl)
theorem dX7_isLike_81 : decode cX7_isLike 81 = .ok (.iconst 0, 1) := dk_3 (dk_at dksX7_isLike_3 11 rfl rfl)
theorem dX7_isLike_82 : decode cX7_isLike 82 = .ok (.istore_n 2, 1) := dk_61 (dk_at dksX7_isLike_3 12 rfl rfl)
theorem dX7_isLike_83 : decode cX7_isLike 83 = .ok (.iload_n 2, 1) := dk_28 (dk_at dksX7_isLike_3 13 rfl rfl)
theorem dX7_isLike_84 : decode cX7_isLike 84 = .ok (.bipush 12, 2) := dk_16 12 (dk_at dksX7_isLike_3 14 rfl rfl)
theorem dX7_isLike_86 : decode cX7_isLike 86 = .ok (.aload_n 0, 1) := dk_42 (dk_at dksX7_isLike_3 16 rfl rfl)
theorem dX7_isLike_87 : decode cX7_isLike 87 = .ok (.getfield 60, 3) := dk_180 0 60 (dk_at dksX7_isLike_3 17 rfl rfl)
theorem dX7_isLike_90 : decode cX7_isLike 90 = .ok (.iconst 0, 1) := dk_3 (dk_at dksX7_isLike_3 20 rfl rfl)
theorem dX7_isLike_91 : decode cX7_isLike 91 = .ok (.iaload, 1) := dk_46 (dk_at dksX7_isLike_3 21 rfl rfl)
theorem dX7_isLike_92 : decode cX7_isLike 92 = .ok (.imul, 1) := dk_104 (dk_at dksX7_isLike_3 22 rfl rfl)
theorem dX7_isLike_93 : decode cX7_isLike 93 = .ok (.if_icmp .ge 32, 3) := dk_162 0 32 (dk_at dksX7_isLike_4 0 rfl rfl)
theorem dX7_isLike_96 : decode cX7_isLike 96 = .ok (.aload_n 0, 1) := dk_42 (dk_at dksX7_isLike_4 3 rfl rfl)
theorem dX7_isLike_97 : decode cX7_isLike 97 = .ok (.getfield 66, 3) := dk_180 0 66 (dk_at dksX7_isLike_4 4 rfl rfl)
theorem dX7_isLike_100 : decode cX7_isLike 100 = .ok (.iload_n 2, 1) := dk_28 (dk_at dksX7_isLike_4 7 rfl rfl)
theorem dX7_isLike_101 : decode cX7_isLike 101 = .ok (.iaload, 1) := dk_46 (dk_at dksX7_isLike_4 8 rfl rfl)
theorem dX7_isLike_102 : decode cX7_isLike 102 = .ok (.aload_n 0, 1) := dk_42 (dk_at dksX7_isLike_4 9 rfl rfl)
theorem dX7_isLike_103 : decode cX7_isLike 103 = .ok (.getfield 66, 3) := dk_180 0 66 (dk_at dksX7_isLike_4 10 rfl rfl)
theorem dX7_isLike_106 : decode cX7_isLike 106 = .ok (.sipush 720, 3) := dk_17 2 208 (dk_at dksX7_isLike_4 13 rfl rfl)
theorem dX7_isLike_109 : decode cX7_isLike 109 = .ok (.iload_n 1, 1) := dk_27 (dk_at dksX7_isLike_4 16 rfl rfl)
theorem dX7_isLike_110 : decode cX7_isLike 110 = .ok (.imul, 1) := dk_104 (dk_at dksX7_isLike_4 17 rfl rfl)
theorem dX7_isLike_111 : decode cX7_isLike 111 = .ok (.iload_n 2, 1) := dk_28 (dk_at dksX7_isLike_4 18 rfl rfl)
theorem dX7_isLike_112 : decode cX7_isLike 112 = .ok (.iadd, 1) := dk_96 (dk_at dksX7_isLike_4 19 rfl rfl)
theorem dX7_isLike_113 : decode cX7_isLike 113 = .ok (.iaload, 1) := dk_46 (dk_at dksX7_isLike_4 20 rfl rfl)
theorem dX7_isLike_114 : decode cX7_isLike 114 = .ok (.if_icmp .eq 5, 3) := dk_159 0 5 (dk_at dksX7_isLike_4 21 rfl rfl)
theorem dX7_isLike_117 : decode cX7_isLike 117 = .ok (.iconst 0, 1) := dk_3 (dk_at dksX7_isLike_5 0 rfl rfl)
theorem dX7_isLike_118 : decode cX7_isLike 118 = .ok (.ireturn, 1) := dk_172 (dk_at dksX7_isLike_5 1 rfl rfl)
theorem dX7_isLike_119 : decode cX7_isLike 119 = .ok (.iinc 2 1, 3) := dk_132 2 1 (dk_at dksX7_isLike_5 2 rfl rfl)
theorem dX7_isLike_122 : decode cX7_isLike 122 = .ok (.goto (-39), 3) := dk_167 255 217 (dk_at dksX7_isLike_5 5 rfl rfl)
theorem dX7_isLike_125 : decode cX7_isLike 125 = .ok (.iconst 0, 1) := dk_3 (dk_at dksX7_isLike_5 8 rfl rfl)
theorem dX7_isLike_126 : decode cX7_isLike 126 = .ok (.istore_n 2, 1) := dk_61 (dk_at dksX7_isLike_5 9 rfl rfl)
theorem dX7_isLike_127 : decode cX7_isLike 127 = .ok (.iload_n 2, 1) := dk_28 (dk_at dksX7_isLike_5 10 rfl rfl)
theorem dX7_isLike_128 : decode cX7_isLike 128 = .ok (.bipush 20, 2) := dk_16 20 (dk_at dksX7_isLike_5 11 rfl rfl)
theorem dX7_isLike_130 : decode cX7_isLike 130 = .ok (.aload_n 0, 1) := dk_42 (dk_at dksX7_isLike_5 13 rfl rfl)
theorem dX7_isLike_131 : decode cX7_isLike 131 = .ok (.getfield 63, 3) := dk_180 0 63 (dk_at dksX7_isLike_5 14 rfl rfl)
theorem dX7_isLike_134 : decode cX7_isLike 134 = .ok (.iconst 0, 1) := dk_3 (dk_at dksX7_isLike_5 17 rfl rfl)
theorem dX7_isLike_135 : decode cX7_isLike 135 = .ok (.iaload, 1) := dk_46 (dk_at dksX7_isLike_5 18 rfl rfl)
theorem dX7_isLike_136 : decode cX7_isLike 136 = .ok (.imul, 1) := dk_104 (dk_at dksX7_isLike_5 19 rfl rfl)
theorem dX7_isLike_137 : decode cX7_isLike 137 = .ok (.if_icmp .ge 32, 3) := dk_162 0 32 (dk_at dksX7_isLike_5 20 rfl rfl)
theorem dX7_isLike_140 : decode cX7_isLike 140 = .ok (.aload_n 0, 1) := dk_42 (dk_at dksX7_isLike_5 23 rfl rfl)
theorem dX7_isLike_141 : decode cX7_isLike 141 = .ok (.getfield 72, 3) := dk_180 0 72 (dk_at dksX7_isLike_6 0 rfl rfl)
theorem dX7_isLike_144 : decode cX7_isLike 144 = .ok (.iload_n 2, 1) := dk_28 (dk_at dksX7_isLike_6 3 rfl rfl)
theorem dX7_isLike_145 : decode cX7_isLike 145 = .ok (.iaload, 1) := dk_46 (dk_at dksX7_isLike_6 4 rfl rfl)
theorem dX7_isLike_146 : decode cX7_isLike 146 = .ok (.aload_n 0, 1) := dk_42 (dk_at dksX7_isLike_6 5 rfl rfl)
theorem dX7_isLike_147 : decode cX7_isLike 147 = .ok (.getfield 72, 3) := dk_180 0 72 (dk_at dksX7_isLike_6 6 rfl rfl)
theorem dX7_isLike_150 : decode cX7_isLike 150 = .ok (.sipush 800, 3) := dk_17 3 32 (dk_at dksX7_isLike_6 9 rfl rfl)
theorem dX7_isLike_153 : decode cX7_isLike 153 = .ok (.iload_n 1, 1) := dk_27 (dk_at dksX7_isLike_6 12 rfl rfl)
theorem dX7_isLike_154 : decode cX7_isLike 154 = .ok (.imul, 1) := dk_104 (dk_at dksX7_isLike_6 13 rfl rfl)
theorem dX7_isLike_155 : decode cX7_isLike 155 = .ok (.iload_n 2, 1) := dk_28 (dk_at dksX7_isLike_6 14 rfl rfl)
theorem dX7_isLike_156 : decode cX7_isLike 156 = .ok (.iadd, 1) := dk_96 (dk_at dksX7_isLike_6 15 rfl rfl)
theorem dX7_isLike_157 : decode cX7_isLike 157 = .ok (.iaload, 1) := dk_46 (dk_at dksX7_isLike_6 16 rfl rfl)
theorem dX7_isLike_158 : decode cX7_isLike 158 = .ok (.if_icmp .eq 5, 3) := dk_159 0 5 (dk_at dksX7_isLike_6 17 rfl rfl)
theorem dX7_isLike_161 : decode cX7_isLike 161 = .ok (.iconst 0, 1) := dk_3 (dk_at dksX7_isLike_6 20 rfl rfl)
theorem dX7_isLike_162 : decode cX7_isLike 162 = .ok (.ireturn, 1) := dk_172 (dk_at dksX7_isLike_6 21 rfl rfl)
theorem dX7_isLike_163 : decode cX7_isLike 163 = .ok (.iinc 2 1, 3) := dk_132 2 1 (dk_at dksX7_isLike_7 0 rfl rfl)
theorem dX7_isLike_166 : decode cX7_isLike 166 = .ok (.goto (-39), 3) := dk_167 255 217 (dk_at dksX7_isLike_7 3 rfl rfl)
theorem dX7_isLike_169 : decode cX7_isLike 169 = .ok (.iconst 1, 1) := dk_4 (dk_at dksX7_isLike_7 6 rfl rfl)
theorem dX7_isLike_170 : decode cX7_isLike 170 = .ok (.ireturn, 1) := dk_172 (dk_at dksX7_isLike_7 7 rfl rfl)
abbrev cX7_missing : ByteArray := prog_14_method_58_code
def yX7_missing : MethodName := ⟨RX7, "missing", "(I)I"⟩
def dkwX7_missing_4 : List UInt8 := [167, 255, 202, 42, 2, 181, 1, 97, 42, 180, 1, 170, 172]
abbrev dktX7_missing_4 : List UInt8 := dkwX7_missing_4 ++ []
def dkwX7_missing_3 : List UInt8 := [42, 180, 0, 96, 42, 180, 1, 170, 28, 79, 42, 89, 180, 1, 170, 4, 96, 181, 1, 170, 132, 2, 1]
abbrev dktX7_missing_3 : List UInt8 := dkwX7_missing_3 ++ dktX7_missing_4
def dkwX7_missing_2 : List UInt8 := [162, 0, 50, 42, 28, 181, 1, 97, 42, 16, 40, 182, 1, 147, 42, 182, 1, 182, 154, 0, 6, 167, 0, 23]
abbrev dktX7_missing_2 : List UInt8 := dkwX7_missing_2 ++ dktX7_missing_3
def dkwX7_missing_1 : List UInt8 := [42, 180, 0, 17, 27, 46, 2, 182, 1, 143, 42, 3, 181, 1, 170, 3, 61, 28, 42, 180, 0, 26, 3, 46]
abbrev dktX7_missing_1 : List UInt8 := dkwX7_missing_1 ++ dktX7_missing_2
def dkwX7_missing_0 : List UInt8 := [42, 3, 181, 0, 190, 42, 182, 1, 179, 153, 0, 10, 27, 184, 0, 214, 154, 0, 5, 2, 172, 42, 27, 3]
abbrev dktX7_missing_0 : List UInt8 := dkwX7_missing_0 ++ dktX7_missing_1
theorem dksX7_missing_0 : cX7_missing.data.toList.drop 0 = dktX7_missing_0 := by decide +kernel
theorem dksX7_missing_1 : cX7_missing.data.toList.drop 24 = dktX7_missing_1 := dk_seg dksX7_missing_0 24 rfl rfl
theorem dksX7_missing_2 : cX7_missing.data.toList.drop 48 = dktX7_missing_2 := dk_seg dksX7_missing_1 24 rfl rfl
theorem dksX7_missing_3 : cX7_missing.data.toList.drop 72 = dktX7_missing_3 := dk_seg dksX7_missing_2 24 rfl rfl
theorem dksX7_missing_4 : cX7_missing.data.toList.drop 95 = dktX7_missing_4 := dk_seg dksX7_missing_3 23 rfl rfl
theorem dX7_missing_0 : decode cX7_missing 0 = .ok (.aload_n 0, 1) := dk_42 (dk_at dksX7_missing_0 0 rfl rfl)
theorem dX7_missing_1 : decode cX7_missing 1 = .ok (.iconst 0, 1) := dk_3 (dk_at dksX7_missing_0 1 rfl rfl)
theorem dX7_missing_2 : decode cX7_missing 2 = .ok (.putfield 190, 3) := dk_181 0 190 (dk_at dksX7_missing_0 2 rfl rfl)
theorem dX7_missing_5 : decode cX7_missing 5 = .ok (.aload_n 0, 1) := dk_42 (dk_at dksX7_missing_0 5 rfl rfl)
theorem dX7_missing_6 : decode cX7_missing 6 = .ok (.invokevirtual 435, 3) := dk_182 1 179 (dk_at dksX7_missing_0 6 rfl rfl)
theorem dX7_missing_9 : decode cX7_missing 9 = .ok (.ifCond .eq 10, 3) := dk_153 0 10 (dk_at dksX7_missing_0 9 rfl rfl)
theorem dX7_missing_12 : decode cX7_missing 12 = .ok (.iload_n 1, 1) := dk_27 (dk_at dksX7_missing_0 12 rfl rfl)
theorem dX7_missing_13 : decode cX7_missing 13 = .ok (.invokestatic 214, 3) := dk_184 0 214 (dk_at dksX7_missing_0 13 rfl rfl)
theorem dX7_missing_16 : decode cX7_missing 16 = .ok (.ifCond .ne 5, 3) := dk_154 0 5 (dk_at dksX7_missing_0 16 rfl rfl)
theorem dX7_missing_19 : decode cX7_missing 19 = .ok (.iconst (-1), 1) := dk_2 (dk_at dksX7_missing_0 19 rfl rfl)
theorem dX7_missing_20 : decode cX7_missing 20 = .ok (.ireturn, 1) := dk_172 (dk_at dksX7_missing_0 20 rfl rfl)
theorem dX7_missing_21 : decode cX7_missing 21 = .ok (.aload_n 0, 1) := dk_42 (dk_at dksX7_missing_0 21 rfl rfl)
theorem dX7_missing_22 : decode cX7_missing 22 = .ok (.iload_n 1, 1) := dk_27 (dk_at dksX7_missing_0 22 rfl rfl)
theorem dX7_missing_23 : decode cX7_missing 23 = .ok (.iconst 0, 1) := dk_3 (dk_at dksX7_missing_0 23 rfl rfl)
theorem dX7_missing_24 : decode cX7_missing 24 = .ok (.aload_n 0, 1) := dk_42 (dk_at dksX7_missing_1 0 rfl rfl)
theorem dX7_missing_25 : decode cX7_missing 25 = .ok (.getfield 17, 3) := dk_180 0 17 (dk_at dksX7_missing_1 1 rfl rfl)
theorem dX7_missing_28 : decode cX7_missing 28 = .ok (.iload_n 1, 1) := dk_27 (dk_at dksX7_missing_1 4 rfl rfl)
theorem dX7_missing_29 : decode cX7_missing 29 = .ok (.iaload, 1) := dk_46 (dk_at dksX7_missing_1 5 rfl rfl)
theorem dX7_missing_30 : decode cX7_missing 30 = .ok (.iconst (-1), 1) := dk_2 (dk_at dksX7_missing_1 6 rfl rfl)
theorem dX7_missing_31 : decode cX7_missing 31 = .ok (.invokevirtual 399, 3) := dk_182 1 143 (dk_at dksX7_missing_1 7 rfl rfl)
theorem dX7_missing_34 : decode cX7_missing 34 = .ok (.aload_n 0, 1) := dk_42 (dk_at dksX7_missing_1 10 rfl rfl)
theorem dX7_missing_35 : decode cX7_missing 35 = .ok (.iconst 0, 1) := dk_3 (dk_at dksX7_missing_1 11 rfl rfl)
theorem dX7_missing_36 : decode cX7_missing 36 = .ok (.putfield 426, 3) := dk_181 1 170 (dk_at dksX7_missing_1 12 rfl rfl)
theorem dX7_missing_39 : decode cX7_missing 39 = .ok (.iconst 0, 1) := dk_3 (dk_at dksX7_missing_1 15 rfl rfl)
theorem dX7_missing_40 : decode cX7_missing 40 = .ok (.istore_n 2, 1) := dk_61 (dk_at dksX7_missing_1 16 rfl rfl)
theorem dX7_missing_41 : decode cX7_missing 41 = .ok (.iload_n 2, 1) := dk_28 (dk_at dksX7_missing_1 17 rfl rfl)
theorem dX7_missing_42 : decode cX7_missing 42 = .ok (.aload_n 0, 1) := dk_42 (dk_at dksX7_missing_1 18 rfl rfl)
theorem dX7_missing_43 : decode cX7_missing 43 = .ok (.getfield 26, 3) := dk_180 0 26 (dk_at dksX7_missing_1 19 rfl rfl)
theorem dX7_missing_46 : decode cX7_missing 46 = .ok (.iconst 0, 1) := dk_3 (dk_at dksX7_missing_1 22 rfl rfl)
theorem dX7_missing_47 : decode cX7_missing 47 = .ok (.iaload, 1) := dk_46 (dk_at dksX7_missing_1 23 rfl rfl)
theorem dX7_missing_48 : decode cX7_missing 48 = .ok (.if_icmp .ge 50, 3) := dk_162 0 50 (dk_at dksX7_missing_2 0 rfl rfl)
theorem dX7_missing_51 : decode cX7_missing 51 = .ok (.aload_n 0, 1) := dk_42 (dk_at dksX7_missing_2 3 rfl rfl)
theorem dX7_missing_52 : decode cX7_missing 52 = .ok (.iload_n 2, 1) := dk_28 (dk_at dksX7_missing_2 4 rfl rfl)
theorem dX7_missing_53 : decode cX7_missing 53 = .ok (.putfield 353, 3) := dk_181 1 97 (dk_at dksX7_missing_2 5 rfl rfl)
theorem dX7_missing_56 : decode cX7_missing 56 = .ok (.aload_n 0, 1) := dk_42 (dk_at dksX7_missing_2 8 rfl rfl)
theorem dX7_missing_57 : decode cX7_missing 57 = .ok (.bipush 40, 2) := dk_16 40 (dk_at dksX7_missing_2 9 rfl rfl)
theorem dX7_missing_59 : decode cX7_missing 59 = .ok (.invokevirtual 403, 3) := dk_182 1 147 (dk_at dksX7_missing_2 11 rfl rfl)
theorem dX7_missing_62 : decode cX7_missing 62 = .ok (.aload_n 0, 1) := dk_42 (dk_at dksX7_missing_2 14 rfl rfl)
theorem dX7_missing_63 : decode cX7_missing 63 = .ok (.invokevirtual 438, 3) := dk_182 1 182 (dk_at dksX7_missing_2 15 rfl rfl)
theorem dX7_missing_66 : decode cX7_missing 66 = .ok (.ifCond .ne 6, 3) := dk_154 0 6 (dk_at dksX7_missing_2 18 rfl rfl)
theorem dX7_missing_69 : decode cX7_missing 69 = .ok (.goto 23, 3) := dk_167 0 23 (dk_at dksX7_missing_2 21 rfl rfl)
theorem dX7_missing_72 : decode cX7_missing 72 = .ok (.aload_n 0, 1) := dk_42 (dk_at dksX7_missing_3 0 rfl rfl)
theorem dX7_missing_73 : decode cX7_missing 73 = .ok (.getfield 96, 3) := dk_180 0 96 (dk_at dksX7_missing_3 1 rfl rfl)
theorem dX7_missing_76 : decode cX7_missing 76 = .ok (.aload_n 0, 1) := dk_42 (dk_at dksX7_missing_3 4 rfl rfl)
theorem dX7_missing_77 : decode cX7_missing 77 = .ok (.getfield 426, 3) := dk_180 1 170 (dk_at dksX7_missing_3 5 rfl rfl)
theorem dX7_missing_80 : decode cX7_missing 80 = .ok (.iload_n 2, 1) := dk_28 (dk_at dksX7_missing_3 8 rfl rfl)
theorem dX7_missing_81 : decode cX7_missing 81 = .ok (.iastore, 1) := dk_79 (dk_at dksX7_missing_3 9 rfl rfl)
theorem dX7_missing_82 : decode cX7_missing 82 = .ok (.aload_n 0, 1) := dk_42 (dk_at dksX7_missing_3 10 rfl rfl)
theorem dX7_missing_83 : decode cX7_missing 83 = .ok (.dup, 1) := dk_89 (dk_at dksX7_missing_3 11 rfl rfl)
theorem dX7_missing_84 : decode cX7_missing 84 = .ok (.getfield 426, 3) := dk_180 1 170 (dk_at dksX7_missing_3 12 rfl rfl)
theorem dX7_missing_87 : decode cX7_missing 87 = .ok (.iconst 1, 1) := dk_4 (dk_at dksX7_missing_3 15 rfl rfl)
theorem dX7_missing_88 : decode cX7_missing 88 = .ok (.iadd, 1) := dk_96 (dk_at dksX7_missing_3 16 rfl rfl)
theorem dX7_missing_89 : decode cX7_missing 89 = .ok (.putfield 426, 3) := dk_181 1 170 (dk_at dksX7_missing_3 17 rfl rfl)
theorem dX7_missing_92 : decode cX7_missing 92 = .ok (.iinc 2 1, 3) := dk_132 2 1 (dk_at dksX7_missing_3 20 rfl rfl)
theorem dX7_missing_95 : decode cX7_missing 95 = .ok (.goto (-54), 3) := dk_167 255 202 (dk_at dksX7_missing_4 0 rfl rfl)
theorem dX7_missing_98 : decode cX7_missing 98 = .ok (.aload_n 0, 1) := dk_42 (dk_at dksX7_missing_4 3 rfl rfl)
theorem dX7_missing_99 : decode cX7_missing 99 = .ok (.iconst (-1), 1) := dk_2 (dk_at dksX7_missing_4 4 rfl rfl)
theorem dX7_missing_100 : decode cX7_missing 100 = .ok (.putfield 353, 3) := dk_181 1 97 (dk_at dksX7_missing_4 5 rfl rfl)
theorem dX7_missing_103 : decode cX7_missing 103 = .ok (.aload_n 0, 1) := dk_42 (dk_at dksX7_missing_4 8 rfl rfl)
theorem dX7_missing_104 : decode cX7_missing 104 = .ok (.getfield 426, 3) := dk_180 1 170 (dk_at dksX7_missing_4 9 rfl rfl)
theorem dX7_missing_107 : decode cX7_missing 107 = .ok (.ireturn, 1) := dk_172 (dk_at dksX7_missing_4 12 rfl rfl)
abbrev cX7_takeLines : ByteArray := prog_14_method_56_code
def yX7_takeLines : MethodName := ⟨RX7, "takeLines", "()Z"⟩
def dkwX7_takeLines_4 : List UInt8 := [180, 0, 201, 16, 12, 108, 181, 1, 176, 4, 172]
abbrev dktX7_takeLines_4 : List UInt8 := dkwX7_takeLines_4 ++ []
def dkwX7_takeLines_3 : List UInt8 := [162, 0, 20, 42, 180, 0, 102, 27, 42, 27, 182, 0, 218, 79, 132, 1, 1, 167, 255, 234, 42, 42]
abbrev dktX7_takeLines_3 : List UInt8 := dkwX7_takeLines_3 ++ dktX7_takeLines_4
def dkwX7_takeLines_2 : List UInt8 := [182, 0, 218, 16, 15, 159, 0, 5, 3, 172, 132, 1, 1, 167, 255, 223, 3, 60, 27, 42, 180, 0, 201]
abbrev dktX7_takeLines_2 : List UInt8 := dkwX7_takeLines_2 ++ dktX7_takeLines_3
def dkwX7_takeLines_1 : List UInt8 := [3, 172, 3, 60, 27, 42, 180, 0, 201, 162, 0, 31, 42, 27, 182, 0, 218, 16, 9, 164, 0, 15, 42, 27]
abbrev dktX7_takeLines_1 : List UInt8 := dkwX7_takeLines_1 ++ dktX7_takeLines_2
def dkwX7_takeLines_0 : List UInt8 := [42, 182, 0, 211, 42, 180, 0, 201, 16, 12, 112, 154, 0, 13, 42, 180, 0, 201, 17, 2, 208, 164, 0, 5]
abbrev dktX7_takeLines_0 : List UInt8 := dkwX7_takeLines_0 ++ dktX7_takeLines_1
theorem dksX7_takeLines_0 : cX7_takeLines.data.toList.drop 0 = dktX7_takeLines_0 := by decide +kernel
theorem dksX7_takeLines_1 : cX7_takeLines.data.toList.drop 24 = dktX7_takeLines_1 := dk_seg dksX7_takeLines_0 24 rfl rfl
theorem dksX7_takeLines_2 : cX7_takeLines.data.toList.drop 48 = dktX7_takeLines_2 := dk_seg dksX7_takeLines_1 24 rfl rfl
theorem dksX7_takeLines_3 : cX7_takeLines.data.toList.drop 71 = dktX7_takeLines_3 := dk_seg dksX7_takeLines_2 23 rfl rfl
theorem dksX7_takeLines_4 : cX7_takeLines.data.toList.drop 93 = dktX7_takeLines_4 := dk_seg dksX7_takeLines_3 22 rfl rfl
theorem dX7_takeLines_0 : decode cX7_takeLines 0 = .ok (.aload_n 0, 1) := dk_42 (dk_at dksX7_takeLines_0 0 rfl rfl)
theorem dX7_takeLines_1 : decode cX7_takeLines 1 = .ok (.invokevirtual 211, 3) := dk_182 0 211 (dk_at dksX7_takeLines_0 1 rfl rfl)
theorem dX7_takeLines_4 : decode cX7_takeLines 4 = .ok (.aload_n 0, 1) := dk_42 (dk_at dksX7_takeLines_0 4 rfl rfl)
theorem dX7_takeLines_5 : decode cX7_takeLines 5 = .ok (.getfield 201, 3) := dk_180 0 201 (dk_at dksX7_takeLines_0 5 rfl rfl)
theorem dX7_takeLines_8 : decode cX7_takeLines 8 = .ok (.bipush 12, 2) := dk_16 12 (dk_at dksX7_takeLines_0 8 rfl rfl)
theorem dX7_takeLines_10 : decode cX7_takeLines 10 = .ok (.irem, 1) := dk_112 (dk_at dksX7_takeLines_0 10 rfl rfl)
theorem dX7_takeLines_11 : decode cX7_takeLines 11 = .ok (.ifCond .ne 13, 3) := dk_154 0 13 (dk_at dksX7_takeLines_0 11 rfl rfl)
theorem dX7_takeLines_14 : decode cX7_takeLines 14 = .ok (.aload_n 0, 1) := dk_42 (dk_at dksX7_takeLines_0 14 rfl rfl)
theorem dX7_takeLines_15 : decode cX7_takeLines 15 = .ok (.getfield 201, 3) := dk_180 0 201 (dk_at dksX7_takeLines_0 15 rfl rfl)
theorem dX7_takeLines_18 : decode cX7_takeLines 18 = .ok (.sipush 720, 3) := dk_17 2 208 (dk_at dksX7_takeLines_0 18 rfl rfl)
theorem dX7_takeLines_21 : decode cX7_takeLines 21 = .ok (.if_icmp .le 5, 3) := dk_164 0 5 (dk_at dksX7_takeLines_0 21 rfl rfl)
theorem dX7_takeLines_24 : decode cX7_takeLines 24 = .ok (.iconst 0, 1) := dk_3 (dk_at dksX7_takeLines_1 0 rfl rfl)
theorem dX7_takeLines_25 : decode cX7_takeLines 25 = .ok (.ireturn, 1) := dk_172 (dk_at dksX7_takeLines_1 1 rfl rfl)
theorem dX7_takeLines_26 : decode cX7_takeLines 26 = .ok (.iconst 0, 1) := dk_3 (dk_at dksX7_takeLines_1 2 rfl rfl)
theorem dX7_takeLines_27 : decode cX7_takeLines 27 = .ok (.istore_n 1, 1) := dk_60 (dk_at dksX7_takeLines_1 3 rfl rfl)
theorem dX7_takeLines_28 : decode cX7_takeLines 28 = .ok (.iload_n 1, 1) := dk_27 (dk_at dksX7_takeLines_1 4 rfl rfl)
theorem dX7_takeLines_29 : decode cX7_takeLines 29 = .ok (.aload_n 0, 1) := dk_42 (dk_at dksX7_takeLines_1 5 rfl rfl)
theorem dX7_takeLines_30 : decode cX7_takeLines 30 = .ok (.getfield 201, 3) := dk_180 0 201 (dk_at dksX7_takeLines_1 6 rfl rfl)
theorem dX7_takeLines_33 : decode cX7_takeLines 33 = .ok (.if_icmp .ge 31, 3) := dk_162 0 31 (dk_at dksX7_takeLines_1 9 rfl rfl)
theorem dX7_takeLines_36 : decode cX7_takeLines 36 = .ok (.aload_n 0, 1) := dk_42 (dk_at dksX7_takeLines_1 12 rfl rfl)
theorem dX7_takeLines_37 : decode cX7_takeLines 37 = .ok (.iload_n 1, 1) := dk_27 (dk_at dksX7_takeLines_1 13 rfl rfl)
theorem dX7_takeLines_38 : decode cX7_takeLines 38 = .ok (.invokevirtual 218, 3) := dk_182 0 218 (dk_at dksX7_takeLines_1 14 rfl rfl)
theorem dX7_takeLines_41 : decode cX7_takeLines 41 = .ok (.bipush 9, 2) := dk_16 9 (dk_at dksX7_takeLines_1 17 rfl rfl)
theorem dX7_takeLines_43 : decode cX7_takeLines 43 = .ok (.if_icmp .le 15, 3) := dk_164 0 15 (dk_at dksX7_takeLines_1 19 rfl rfl)
theorem dX7_takeLines_46 : decode cX7_takeLines 46 = .ok (.aload_n 0, 1) := dk_42 (dk_at dksX7_takeLines_1 22 rfl rfl)
theorem dX7_takeLines_47 : decode cX7_takeLines 47 = .ok (.iload_n 1, 1) := dk_27 (dk_at dksX7_takeLines_1 23 rfl rfl)
theorem dX7_takeLines_48 : decode cX7_takeLines 48 = .ok (.invokevirtual 218, 3) := dk_182 0 218 (dk_at dksX7_takeLines_2 0 rfl rfl)
theorem dX7_takeLines_51 : decode cX7_takeLines 51 = .ok (.bipush 15, 2) := dk_16 15 (dk_at dksX7_takeLines_2 3 rfl rfl)
theorem dX7_takeLines_53 : decode cX7_takeLines 53 = .ok (.if_icmp .eq 5, 3) := dk_159 0 5 (dk_at dksX7_takeLines_2 5 rfl rfl)
theorem dX7_takeLines_56 : decode cX7_takeLines 56 = .ok (.iconst 0, 1) := dk_3 (dk_at dksX7_takeLines_2 8 rfl rfl)
theorem dX7_takeLines_57 : decode cX7_takeLines 57 = .ok (.ireturn, 1) := dk_172 (dk_at dksX7_takeLines_2 9 rfl rfl)
theorem dX7_takeLines_58 : decode cX7_takeLines 58 = .ok (.iinc 1 1, 3) := dk_132 1 1 (dk_at dksX7_takeLines_2 10 rfl rfl)
theorem dX7_takeLines_61 : decode cX7_takeLines 61 = .ok (.goto (-33), 3) := dk_167 255 223 (dk_at dksX7_takeLines_2 13 rfl rfl)
theorem dX7_takeLines_64 : decode cX7_takeLines 64 = .ok (.iconst 0, 1) := dk_3 (dk_at dksX7_takeLines_2 16 rfl rfl)
theorem dX7_takeLines_65 : decode cX7_takeLines 65 = .ok (.istore_n 1, 1) := dk_60 (dk_at dksX7_takeLines_2 17 rfl rfl)
theorem dX7_takeLines_66 : decode cX7_takeLines 66 = .ok (.iload_n 1, 1) := dk_27 (dk_at dksX7_takeLines_2 18 rfl rfl)
theorem dX7_takeLines_67 : decode cX7_takeLines 67 = .ok (.aload_n 0, 1) := dk_42 (dk_at dksX7_takeLines_2 19 rfl rfl)
theorem dX7_takeLines_68 : decode cX7_takeLines 68 = .ok (.getfield 201, 3) := dk_180 0 201 (dk_at dksX7_takeLines_2 20 rfl rfl)
theorem dX7_takeLines_71 : decode cX7_takeLines 71 = .ok (.if_icmp .ge 20, 3) := dk_162 0 20 (dk_at dksX7_takeLines_3 0 rfl rfl)
theorem dX7_takeLines_74 : decode cX7_takeLines 74 = .ok (.aload_n 0, 1) := dk_42 (dk_at dksX7_takeLines_3 3 rfl rfl)
theorem dX7_takeLines_75 : decode cX7_takeLines 75 = .ok (.getfield 102, 3) := dk_180 0 102 (dk_at dksX7_takeLines_3 4 rfl rfl)
theorem dX7_takeLines_78 : decode cX7_takeLines 78 = .ok (.iload_n 1, 1) := dk_27 (dk_at dksX7_takeLines_3 7 rfl rfl)
theorem dX7_takeLines_79 : decode cX7_takeLines 79 = .ok (.aload_n 0, 1) := dk_42 (dk_at dksX7_takeLines_3 8 rfl rfl)
theorem dX7_takeLines_80 : decode cX7_takeLines 80 = .ok (.iload_n 1, 1) := dk_27 (dk_at dksX7_takeLines_3 9 rfl rfl)
theorem dX7_takeLines_81 : decode cX7_takeLines 81 = .ok (.invokevirtual 218, 3) := dk_182 0 218 (dk_at dksX7_takeLines_3 10 rfl rfl)
theorem dX7_takeLines_84 : decode cX7_takeLines 84 = .ok (.iastore, 1) := dk_79 (dk_at dksX7_takeLines_3 13 rfl rfl)
theorem dX7_takeLines_85 : decode cX7_takeLines 85 = .ok (.iinc 1 1, 3) := dk_132 1 1 (dk_at dksX7_takeLines_3 14 rfl rfl)
theorem dX7_takeLines_88 : decode cX7_takeLines 88 = .ok (.goto (-22), 3) := dk_167 255 234 (dk_at dksX7_takeLines_3 17 rfl rfl)
theorem dX7_takeLines_91 : decode cX7_takeLines 91 = .ok (.aload_n 0, 1) := dk_42 (dk_at dksX7_takeLines_3 20 rfl rfl)
theorem dX7_takeLines_92 : decode cX7_takeLines 92 = .ok (.aload_n 0, 1) := dk_42 (dk_at dksX7_takeLines_3 21 rfl rfl)
theorem dX7_takeLines_93 : decode cX7_takeLines 93 = .ok (.getfield 201, 3) := dk_180 0 201 (dk_at dksX7_takeLines_4 0 rfl rfl)
theorem dX7_takeLines_96 : decode cX7_takeLines 96 = .ok (.bipush 12, 2) := dk_16 12 (dk_at dksX7_takeLines_4 3 rfl rfl)
theorem dX7_takeLines_98 : decode cX7_takeLines 98 = .ok (.idiv, 1) := dk_108 (dk_at dksX7_takeLines_4 5 rfl rfl)
theorem dX7_takeLines_99 : decode cX7_takeLines 99 = .ok (.putfield 432, 3) := dk_181 1 176 (dk_at dksX7_takeLines_4 6 rfl rfl)
theorem dX7_takeLines_102 : decode cX7_takeLines 102 = .ok (.iconst 1, 1) := dk_4 (dk_at dksX7_takeLines_4 9 rfl rfl)
theorem dX7_takeLines_103 : decode cX7_takeLines 103 = .ok (.ireturn, 1) := dk_172 (dk_at dksX7_takeLines_4 10 rfl rfl)
abbrev cX7_isWanted : ByteArray := prog_14_method_57_code
def yX7_isWanted : MethodName := ⟨RX7, "isWanted", "()Z"⟩
def dkwX7_isWanted_2 : List UInt8 := [167, 255, 225, 4, 172]
abbrev dktX7_isWanted_2 : List UInt8 := dkwX7_isWanted_2 ++ []
def dkwX7_isWanted_1 : List UInt8 := [104, 162, 0, 26, 42, 180, 0, 66, 27, 46, 42, 180, 0, 102, 27, 46, 159, 0, 5, 3, 172, 132, 1, 1]
abbrev dktX7_isWanted_1 : List UInt8 := dkwX7_isWanted_1 ++ dktX7_isWanted_2
def dkwX7_isWanted_0 : List UInt8 := [42, 180, 0, 60, 3, 46, 42, 180, 1, 176, 159, 0, 5, 3, 172, 3, 60, 27, 16, 12, 42, 180, 1, 176]
abbrev dktX7_isWanted_0 : List UInt8 := dkwX7_isWanted_0 ++ dktX7_isWanted_1
theorem dksX7_isWanted_0 : cX7_isWanted.data.toList.drop 0 = dktX7_isWanted_0 := by decide +kernel
theorem dksX7_isWanted_1 : cX7_isWanted.data.toList.drop 24 = dktX7_isWanted_1 := dk_seg dksX7_isWanted_0 24 rfl rfl
theorem dksX7_isWanted_2 : cX7_isWanted.data.toList.drop 48 = dktX7_isWanted_2 := dk_seg dksX7_isWanted_1 24 rfl rfl
theorem dX7_isWanted_0 : decode cX7_isWanted 0 = .ok (.aload_n 0, 1) := dk_42 (dk_at dksX7_isWanted_0 0 rfl rfl)
theorem dX7_isWanted_1 : decode cX7_isWanted 1 = .ok (.getfield 60, 3) := dk_180 0 60 (dk_at dksX7_isWanted_0 1 rfl rfl)
theorem dX7_isWanted_4 : decode cX7_isWanted 4 = .ok (.iconst 0, 1) := dk_3 (dk_at dksX7_isWanted_0 4 rfl rfl)
theorem dX7_isWanted_5 : decode cX7_isWanted 5 = .ok (.iaload, 1) := dk_46 (dk_at dksX7_isWanted_0 5 rfl rfl)
theorem dX7_isWanted_6 : decode cX7_isWanted 6 = .ok (.aload_n 0, 1) := dk_42 (dk_at dksX7_isWanted_0 6 rfl rfl)
theorem dX7_isWanted_7 : decode cX7_isWanted 7 = .ok (.getfield 432, 3) := dk_180 1 176 (dk_at dksX7_isWanted_0 7 rfl rfl)
theorem dX7_isWanted_10 : decode cX7_isWanted 10 = .ok (.if_icmp .eq 5, 3) := dk_159 0 5 (dk_at dksX7_isWanted_0 10 rfl rfl)
theorem dX7_isWanted_13 : decode cX7_isWanted 13 = .ok (.iconst 0, 1) := dk_3 (dk_at dksX7_isWanted_0 13 rfl rfl)
theorem dX7_isWanted_14 : decode cX7_isWanted 14 = .ok (.ireturn, 1) := dk_172 (dk_at dksX7_isWanted_0 14 rfl rfl)
theorem dX7_isWanted_15 : decode cX7_isWanted 15 = .ok (.iconst 0, 1) := dk_3 (dk_at dksX7_isWanted_0 15 rfl rfl)
theorem dX7_isWanted_16 : decode cX7_isWanted 16 = .ok (.istore_n 1, 1) := dk_60 (dk_at dksX7_isWanted_0 16 rfl rfl)
theorem dX7_isWanted_17 : decode cX7_isWanted 17 = .ok (.iload_n 1, 1) := dk_27 (dk_at dksX7_isWanted_0 17 rfl rfl)
theorem dX7_isWanted_18 : decode cX7_isWanted 18 = .ok (.bipush 12, 2) := dk_16 12 (dk_at dksX7_isWanted_0 18 rfl rfl)
theorem dX7_isWanted_20 : decode cX7_isWanted 20 = .ok (.aload_n 0, 1) := dk_42 (dk_at dksX7_isWanted_0 20 rfl rfl)
theorem dX7_isWanted_21 : decode cX7_isWanted 21 = .ok (.getfield 432, 3) := dk_180 1 176 (dk_at dksX7_isWanted_0 21 rfl rfl)
theorem dX7_isWanted_24 : decode cX7_isWanted 24 = .ok (.imul, 1) := dk_104 (dk_at dksX7_isWanted_1 0 rfl rfl)
theorem dX7_isWanted_25 : decode cX7_isWanted 25 = .ok (.if_icmp .ge 26, 3) := dk_162 0 26 (dk_at dksX7_isWanted_1 1 rfl rfl)
theorem dX7_isWanted_28 : decode cX7_isWanted 28 = .ok (.aload_n 0, 1) := dk_42 (dk_at dksX7_isWanted_1 4 rfl rfl)
theorem dX7_isWanted_29 : decode cX7_isWanted 29 = .ok (.getfield 66, 3) := dk_180 0 66 (dk_at dksX7_isWanted_1 5 rfl rfl)
theorem dX7_isWanted_32 : decode cX7_isWanted 32 = .ok (.iload_n 1, 1) := dk_27 (dk_at dksX7_isWanted_1 8 rfl rfl)
theorem dX7_isWanted_33 : decode cX7_isWanted 33 = .ok (.iaload, 1) := dk_46 (dk_at dksX7_isWanted_1 9 rfl rfl)
theorem dX7_isWanted_34 : decode cX7_isWanted 34 = .ok (.aload_n 0, 1) := dk_42 (dk_at dksX7_isWanted_1 10 rfl rfl)
theorem dX7_isWanted_35 : decode cX7_isWanted 35 = .ok (.getfield 102, 3) := dk_180 0 102 (dk_at dksX7_isWanted_1 11 rfl rfl)
theorem dX7_isWanted_38 : decode cX7_isWanted 38 = .ok (.iload_n 1, 1) := dk_27 (dk_at dksX7_isWanted_1 14 rfl rfl)
theorem dX7_isWanted_39 : decode cX7_isWanted 39 = .ok (.iaload, 1) := dk_46 (dk_at dksX7_isWanted_1 15 rfl rfl)
theorem dX7_isWanted_40 : decode cX7_isWanted 40 = .ok (.if_icmp .eq 5, 3) := dk_159 0 5 (dk_at dksX7_isWanted_1 16 rfl rfl)
theorem dX7_isWanted_43 : decode cX7_isWanted 43 = .ok (.iconst 0, 1) := dk_3 (dk_at dksX7_isWanted_1 19 rfl rfl)
theorem dX7_isWanted_44 : decode cX7_isWanted 44 = .ok (.ireturn, 1) := dk_172 (dk_at dksX7_isWanted_1 20 rfl rfl)
theorem dX7_isWanted_45 : decode cX7_isWanted 45 = .ok (.iinc 1 1, 3) := dk_132 1 1 (dk_at dksX7_isWanted_1 21 rfl rfl)
theorem dX7_isWanted_48 : decode cX7_isWanted 48 = .ok (.goto (-31), 3) := dk_167 255 225 (dk_at dksX7_isWanted_2 0 rfl rfl)
theorem dX7_isWanted_51 : decode cX7_isWanted 51 = .ok (.iconst 1, 1) := dk_4 (dk_at dksX7_isWanted_2 3 rfl rfl)
theorem dX7_isWanted_52 : decode cX7_isWanted 52 = .ok (.ireturn, 1) := dk_172 (dk_at dksX7_isWanted_2 4 rfl rfl)
abbrev cX7_wire : ByteArray := prog_14_method_59_code
def yX7_wire : MethodName := ⟨RX7, "wire", "(I)I"⟩
def dkwX7_wire_1 : List UInt8 := [46, 167, 0, 4, 2, 172]
abbrev dktX7_wire_1 : List UInt8 := dkwX7_wire_1 ++ []
def dkwX7_wire_0 : List UInt8 := [42, 3, 181, 0, 190, 27, 3, 42, 180, 1, 170, 4, 100, 184, 0, 207, 153, 0, 12, 42, 180, 0, 96, 27]
abbrev dktX7_wire_0 : List UInt8 := dkwX7_wire_0 ++ dktX7_wire_1
theorem dksX7_wire_0 : cX7_wire.data.toList.drop 0 = dktX7_wire_0 := by decide +kernel
theorem dksX7_wire_1 : cX7_wire.data.toList.drop 24 = dktX7_wire_1 := dk_seg dksX7_wire_0 24 rfl rfl
theorem dX7_wire_0 : decode cX7_wire 0 = .ok (.aload_n 0, 1) := dk_42 (dk_at dksX7_wire_0 0 rfl rfl)
theorem dX7_wire_1 : decode cX7_wire 1 = .ok (.iconst 0, 1) := dk_3 (dk_at dksX7_wire_0 1 rfl rfl)
theorem dX7_wire_2 : decode cX7_wire 2 = .ok (.putfield 190, 3) := dk_181 0 190 (dk_at dksX7_wire_0 2 rfl rfl)
theorem dX7_wire_5 : decode cX7_wire 5 = .ok (.iload_n 1, 1) := dk_27 (dk_at dksX7_wire_0 5 rfl rfl)
theorem dX7_wire_6 : decode cX7_wire 6 = .ok (.iconst 0, 1) := dk_3 (dk_at dksX7_wire_0 6 rfl rfl)
theorem dX7_wire_7 : decode cX7_wire 7 = .ok (.aload_n 0, 1) := dk_42 (dk_at dksX7_wire_0 7 rfl rfl)
theorem dX7_wire_8 : decode cX7_wire 8 = .ok (.getfield 426, 3) := dk_180 1 170 (dk_at dksX7_wire_0 8 rfl rfl)
theorem dX7_wire_11 : decode cX7_wire 11 = .ok (.iconst 1, 1) := dk_4 (dk_at dksX7_wire_0 11 rfl rfl)
theorem dX7_wire_12 : decode cX7_wire 12 = .ok (.isub, 1) := dk_100 (dk_at dksX7_wire_0 12 rfl rfl)
theorem dX7_wire_13 : decode cX7_wire 13 = .ok (.invokestatic 207, 3) := dk_184 0 207 (dk_at dksX7_wire_0 13 rfl rfl)
theorem dX7_wire_16 : decode cX7_wire 16 = .ok (.ifCond .eq 12, 3) := dk_153 0 12 (dk_at dksX7_wire_0 16 rfl rfl)
theorem dX7_wire_19 : decode cX7_wire 19 = .ok (.aload_n 0, 1) := dk_42 (dk_at dksX7_wire_0 19 rfl rfl)
theorem dX7_wire_20 : decode cX7_wire 20 = .ok (.getfield 96, 3) := dk_180 0 96 (dk_at dksX7_wire_0 20 rfl rfl)
theorem dX7_wire_23 : decode cX7_wire 23 = .ok (.iload_n 1, 1) := dk_27 (dk_at dksX7_wire_0 23 rfl rfl)
theorem dX7_wire_24 : decode cX7_wire 24 = .ok (.iaload, 1) := dk_46 (dk_at dksX7_wire_1 0 rfl rfl)
theorem dX7_wire_25 : decode cX7_wire 25 = .ok (.goto 4, 3) := dk_167 0 4 (dk_at dksX7_wire_1 1 rfl rfl)
theorem dX7_wire_28 : decode cX7_wire 28 = .ok (.iconst (-1), 1) := dk_2 (dk_at dksX7_wire_1 4 rfl rfl)
theorem dX7_wire_29 : decode cX7_wire 29 = .ok (.ireturn, 1) := dk_172 (dk_at dksX7_wire_1 5 rfl rfl)
abbrev cX7_tests : ByteArray := prog_14_method_60_code
def yX7_tests : MethodName := ⟨RX7, "tests", "(I)I"⟩
def dkwX7_tests_11 : List UInt8 := [132, 6, 1, 167, 255, 157, 42, 33, 184, 1, 160, 181, 1, 188, 21, 5, 172]
abbrev dktX7_tests_11 : List UInt8 := dkwX7_tests_11 ++ []
def dkwX7_tests_10 : List UInt8 := [22, 7, 33, 148, 153, 0, 6, 167, 0, 17, 21, 6, 133, 184, 1, 160, 54, 5, 42, 21, 6, 181, 1, 185]
abbrev dktX7_tests_10 : List UInt8 := dkwX7_tests_10 ++ dktX7_tests_11
def dkwX7_tests_9 : List UInt8 := [4, 160, 0, 13, 42, 180, 0, 108, 21, 9, 47, 167, 0, 4, 9, 129, 55, 7, 132, 9, 1, 167, 255, 220]
abbrev dktX7_tests_9 : List UInt8 := dkwX7_tests_9 ++ dktX7_tests_10
def dkwX7_tests_8 : List UInt8 := [167, 0, 72, 9, 55, 7, 3, 54, 9, 21, 9, 28, 162, 0, 36, 22, 7, 21, 6, 21, 9, 122, 4, 126]
abbrev dktX7_tests_8 : List UInt8 := dkwX7_tests_8 ++ dktX7_tests_9
def dkwX7_tests_7 : List UInt8 := [4, 28, 120, 162, 0, 97, 21, 5, 155, 0, 17, 21, 6, 133, 184, 1, 160, 21, 5, 161, 0, 6]
abbrev dktX7_tests_7 : List UInt8 := dkwX7_tests_7 ++ dktX7_tests_8
def dkwX7_tests_6 : List UInt8 := [21, 5, 47, 129, 66, 132, 5, 1, 167, 255, 150, 42, 2, 181, 1, 97, 2, 54, 5, 3, 54, 6, 21, 6]
abbrev dktX7_tests_6 : List UInt8 := dkwX7_tests_6 ++ dktX7_tests_7
def dkwX7_tests_5 : List UInt8 := [180, 0, 108, 21, 5, 92, 47, 10, 21, 6, 121, 129, 80, 132, 6, 1, 167, 255, 208, 33, 42, 180, 0, 108]
abbrev dktX7_tests_5 : List UInt8 := dkwX7_tests_5 ++ dktX7_tests_6
def dkwX7_tests_4 : List UInt8 := [162, 0, 43, 42, 21, 6, 181, 1, 97, 42, 16, 40, 182, 1, 147, 42, 5, 182, 1, 173, 154, 0, 17, 42]
abbrev dktX7_tests_4 : List UInt8 := dkwX7_tests_4 ++ dktX7_tests_5
def dkwX7_tests_3 : List UInt8 := [5, 182, 1, 150, 42, 180, 0, 108, 21, 5, 9, 80, 3, 54, 6, 21, 6, 42, 180, 0, 26, 3, 46]
abbrev dktX7_tests_3 : List UInt8 := dkwX7_tests_3 ++ dktX7_tests_4
def dkwX7_tests_2 : List UInt8 := [162, 0, 106, 42, 2, 181, 1, 97, 42, 27, 21, 5, 4, 2, 182, 1, 143, 42, 16, 40, 182, 1, 147, 42]
abbrev dktX7_tests_2 : List UInt8 := dkwX7_tests_2 ++ dktX7_tests_3
def dkwX7_tests_1 : List UInt8 := [162, 0, 12, 42, 180, 0, 17, 27, 46, 167, 0, 5, 16, 10, 61, 9, 66, 3, 54, 5, 21, 5, 28]
abbrev dktX7_tests_1 : List UInt8 := dkwX7_tests_1 ++ dktX7_tests_2
def dkwX7_tests_0 : List UInt8 := [42, 3, 181, 0, 190, 27, 184, 0, 214, 154, 0, 5, 2, 172, 42, 180, 0, 17, 27, 46, 16, 10]
abbrev dktX7_tests_0 : List UInt8 := dkwX7_tests_0 ++ dktX7_tests_1
theorem dksX7_tests_0 : cX7_tests.data.toList.drop 0 = dktX7_tests_0 := by decide +kernel
theorem dksX7_tests_1 : cX7_tests.data.toList.drop 22 = dktX7_tests_1 := dk_seg dksX7_tests_0 22 rfl rfl
theorem dksX7_tests_2 : cX7_tests.data.toList.drop 45 = dktX7_tests_2 := dk_seg dksX7_tests_1 23 rfl rfl
theorem dksX7_tests_3 : cX7_tests.data.toList.drop 69 = dktX7_tests_3 := dk_seg dksX7_tests_2 24 rfl rfl
theorem dksX7_tests_4 : cX7_tests.data.toList.drop 92 = dktX7_tests_4 := dk_seg dksX7_tests_3 23 rfl rfl
theorem dksX7_tests_5 : cX7_tests.data.toList.drop 116 = dktX7_tests_5 := dk_seg dksX7_tests_4 24 rfl rfl
theorem dksX7_tests_6 : cX7_tests.data.toList.drop 140 = dktX7_tests_6 := dk_seg dksX7_tests_5 24 rfl rfl
theorem dksX7_tests_7 : cX7_tests.data.toList.drop 164 = dktX7_tests_7 := dk_seg dksX7_tests_6 24 rfl rfl
theorem dksX7_tests_8 : cX7_tests.data.toList.drop 186 = dktX7_tests_8 := dk_seg dksX7_tests_7 22 rfl rfl
theorem dksX7_tests_9 : cX7_tests.data.toList.drop 210 = dktX7_tests_9 := dk_seg dksX7_tests_8 24 rfl rfl
theorem dksX7_tests_10 : cX7_tests.data.toList.drop 234 = dktX7_tests_10 := dk_seg dksX7_tests_9 24 rfl rfl
theorem dksX7_tests_11 : cX7_tests.data.toList.drop 258 = dktX7_tests_11 := dk_seg dksX7_tests_10 24 rfl rfl
theorem dX7_tests_0 : decode cX7_tests 0 = .ok (.aload_n 0, 1) := dk_42 (dk_at dksX7_tests_0 0 rfl rfl)
theorem dX7_tests_1 : decode cX7_tests 1 = .ok (.iconst 0, 1) := dk_3 (dk_at dksX7_tests_0 1 rfl rfl)
theorem dX7_tests_2 : decode cX7_tests 2 = .ok (.putfield 190, 3) := dk_181 0 190 (dk_at dksX7_tests_0 2 rfl rfl)
theorem dX7_tests_5 : decode cX7_tests 5 = .ok (.iload_n 1, 1) := dk_27 (dk_at dksX7_tests_0 5 rfl rfl)
theorem dX7_tests_6 : decode cX7_tests 6 = .ok (.invokestatic 214, 3) := dk_184 0 214 (dk_at dksX7_tests_0 6 rfl rfl)
theorem dX7_tests_9 : decode cX7_tests 9 = .ok (.ifCond .ne 5, 3) := dk_154 0 5 (dk_at dksX7_tests_0 9 rfl rfl)
theorem dX7_tests_12 : decode cX7_tests 12 = .ok (.iconst (-1), 1) := dk_2 (dk_at dksX7_tests_0 12 rfl rfl)
theorem dX7_tests_13 : decode cX7_tests 13 = .ok (.ireturn, 1) := dk_172 (dk_at dksX7_tests_0 13 rfl rfl)
theorem dX7_tests_14 : decode cX7_tests 14 = .ok (.aload_n 0, 1) := dk_42 (dk_at dksX7_tests_0 14 rfl rfl)
theorem dX7_tests_15 : decode cX7_tests 15 = .ok (.getfield 17, 3) := dk_180 0 17 (dk_at dksX7_tests_0 15 rfl rfl)
theorem dX7_tests_18 : decode cX7_tests 18 = .ok (.iload_n 1, 1) := dk_27 (dk_at dksX7_tests_0 18 rfl rfl)
theorem dX7_tests_19 : decode cX7_tests 19 = .ok (.iaload, 1) := dk_46 (dk_at dksX7_tests_0 19 rfl rfl)
theorem dX7_tests_20 : decode cX7_tests 20 = .ok (.bipush 10, 2) := dk_16 10 (dk_at dksX7_tests_0 20 rfl rfl)
theorem dX7_tests_22 : decode cX7_tests 22 = .ok (.if_icmp .ge 12, 3) := dk_162 0 12 (dk_at dksX7_tests_1 0 rfl rfl)
theorem dX7_tests_25 : decode cX7_tests 25 = .ok (.aload_n 0, 1) := dk_42 (dk_at dksX7_tests_1 3 rfl rfl)
theorem dX7_tests_26 : decode cX7_tests 26 = .ok (.getfield 17, 3) := dk_180 0 17 (dk_at dksX7_tests_1 4 rfl rfl)
theorem dX7_tests_29 : decode cX7_tests 29 = .ok (.iload_n 1, 1) := dk_27 (dk_at dksX7_tests_1 7 rfl rfl)
theorem dX7_tests_30 : decode cX7_tests 30 = .ok (.iaload, 1) := dk_46 (dk_at dksX7_tests_1 8 rfl rfl)
theorem dX7_tests_31 : decode cX7_tests 31 = .ok (.goto 5, 3) := dk_167 0 5 (dk_at dksX7_tests_1 9 rfl rfl)
theorem dX7_tests_34 : decode cX7_tests 34 = .ok (.bipush 10, 2) := dk_16 10 (dk_at dksX7_tests_1 12 rfl rfl)
theorem dX7_tests_36 : decode cX7_tests 36 = .ok (.istore_n 2, 1) := dk_61 (dk_at dksX7_tests_1 14 rfl rfl)
theorem dX7_tests_37 : decode cX7_tests 37 = .ok (.lconst 0, 1) := dk_9 (dk_at dksX7_tests_1 15 rfl rfl)
theorem dX7_tests_38 : decode cX7_tests 38 = .ok (.lstore_n 3, 1) := dk_66 (dk_at dksX7_tests_1 16 rfl rfl)
theorem dX7_tests_39 : decode cX7_tests 39 = .ok (.iconst 0, 1) := dk_3 (dk_at dksX7_tests_1 17 rfl rfl)
theorem dX7_tests_40 : decode cX7_tests 40 = .ok (.istore 5, 2) := dk_54 5 (dk_at dksX7_tests_1 18 rfl rfl)
theorem dX7_tests_42 : decode cX7_tests 42 = .ok (.iload 5, 2) := dk_21 5 (dk_at dksX7_tests_1 20 rfl rfl)
theorem dX7_tests_44 : decode cX7_tests 44 = .ok (.iload_n 2, 1) := dk_28 (dk_at dksX7_tests_1 22 rfl rfl)
theorem dX7_tests_45 : decode cX7_tests 45 = .ok (.if_icmp .ge 106, 3) := dk_162 0 106 (dk_at dksX7_tests_2 0 rfl rfl)
theorem dX7_tests_48 : decode cX7_tests 48 = .ok (.aload_n 0, 1) := dk_42 (dk_at dksX7_tests_2 3 rfl rfl)
theorem dX7_tests_49 : decode cX7_tests 49 = .ok (.iconst (-1), 1) := dk_2 (dk_at dksX7_tests_2 4 rfl rfl)
theorem dX7_tests_50 : decode cX7_tests 50 = .ok (.putfield 353, 3) := dk_181 1 97 (dk_at dksX7_tests_2 5 rfl rfl)
theorem dX7_tests_53 : decode cX7_tests 53 = .ok (.aload_n 0, 1) := dk_42 (dk_at dksX7_tests_2 8 rfl rfl)
theorem dX7_tests_54 : decode cX7_tests 54 = .ok (.iload_n 1, 1) := dk_27 (dk_at dksX7_tests_2 9 rfl rfl)
theorem dX7_tests_55 : decode cX7_tests 55 = .ok (.iload 5, 2) := dk_21 5 (dk_at dksX7_tests_2 10 rfl rfl)
theorem dX7_tests_57 : decode cX7_tests 57 = .ok (.iconst 1, 1) := dk_4 (dk_at dksX7_tests_2 12 rfl rfl)
theorem dX7_tests_58 : decode cX7_tests 58 = .ok (.iconst (-1), 1) := dk_2 (dk_at dksX7_tests_2 13 rfl rfl)
theorem dX7_tests_59 : decode cX7_tests 59 = .ok (.invokevirtual 399, 3) := dk_182 1 143 (dk_at dksX7_tests_2 14 rfl rfl)
theorem dX7_tests_62 : decode cX7_tests 62 = .ok (.aload_n 0, 1) := dk_42 (dk_at dksX7_tests_2 17 rfl rfl)
theorem dX7_tests_63 : decode cX7_tests 63 = .ok (.bipush 40, 2) := dk_16 40 (dk_at dksX7_tests_2 18 rfl rfl)
theorem dX7_tests_65 : decode cX7_tests 65 = .ok (.invokevirtual 403, 3) := dk_182 1 147 (dk_at dksX7_tests_2 20 rfl rfl)
theorem dX7_tests_68 : decode cX7_tests 68 = .ok (.aload_n 0, 1) := dk_42 (dk_at dksX7_tests_2 23 rfl rfl)
theorem dX7_tests_69 : decode cX7_tests 69 = .ok (.iconst 2, 1) := dk_5 (dk_at dksX7_tests_3 0 rfl rfl)
theorem dX7_tests_70 : decode cX7_tests 70 = .ok (.invokevirtual 406, 3) := dk_182 1 150 (dk_at dksX7_tests_3 1 rfl rfl)
theorem dX7_tests_73 : decode cX7_tests 73 = .ok (.aload_n 0, 1) := dk_42 (dk_at dksX7_tests_3 4 rfl rfl)
theorem dX7_tests_74 : decode cX7_tests 74 = .ok (.getfield 108, 3) := dk_180 0 108 (dk_at dksX7_tests_3 5 rfl rfl)
theorem dX7_tests_77 : decode cX7_tests 77 = .ok (.iload 5, 2) := dk_21 5 (dk_at dksX7_tests_3 8 rfl rfl)
theorem dX7_tests_79 : decode cX7_tests 79 = .ok (.lconst 0, 1) := dk_9 (dk_at dksX7_tests_3 10 rfl rfl)
theorem dX7_tests_80 : decode cX7_tests 80 = .ok (.lastore, 1) := dk_80 (dk_at dksX7_tests_3 11 rfl rfl)
theorem dX7_tests_81 : decode cX7_tests 81 = .ok (.iconst 0, 1) := dk_3 (dk_at dksX7_tests_3 12 rfl rfl)
theorem dX7_tests_82 : decode cX7_tests 82 = .ok (.istore 6, 2) := dk_54 6 (dk_at dksX7_tests_3 13 rfl rfl)
theorem dX7_tests_84 : decode cX7_tests 84 = .ok (.iload 6, 2) := dk_21 6 (dk_at dksX7_tests_3 15 rfl rfl)
theorem dX7_tests_86 : decode cX7_tests 86 = .ok (.aload_n 0, 1) := dk_42 (dk_at dksX7_tests_3 17 rfl rfl)
theorem dX7_tests_87 : decode cX7_tests 87 = .ok (.getfield 26, 3) := dk_180 0 26 (dk_at dksX7_tests_3 18 rfl rfl)
theorem dX7_tests_90 : decode cX7_tests 90 = .ok (.iconst 0, 1) := dk_3 (dk_at dksX7_tests_3 21 rfl rfl)
theorem dX7_tests_91 : decode cX7_tests 91 = .ok (.iaload, 1) := dk_46 (dk_at dksX7_tests_3 22 rfl rfl)
theorem dX7_tests_92 : decode cX7_tests 92 = .ok (.if_icmp .ge 43, 3) := dk_162 0 43 (dk_at dksX7_tests_4 0 rfl rfl)
theorem dX7_tests_95 : decode cX7_tests 95 = .ok (.aload_n 0, 1) := dk_42 (dk_at dksX7_tests_4 3 rfl rfl)
theorem dX7_tests_96 : decode cX7_tests 96 = .ok (.iload 6, 2) := dk_21 6 (dk_at dksX7_tests_4 4 rfl rfl)
theorem dX7_tests_98 : decode cX7_tests 98 = .ok (.putfield 353, 3) := dk_181 1 97 (dk_at dksX7_tests_4 6 rfl rfl)
theorem dX7_tests_101 : decode cX7_tests 101 = .ok (.aload_n 0, 1) := dk_42 (dk_at dksX7_tests_4 9 rfl rfl)
theorem dX7_tests_102 : decode cX7_tests 102 = .ok (.bipush 40, 2) := dk_16 40 (dk_at dksX7_tests_4 10 rfl rfl)
theorem dX7_tests_104 : decode cX7_tests 104 = .ok (.invokevirtual 403, 3) := dk_182 1 147 (dk_at dksX7_tests_4 12 rfl rfl)
theorem dX7_tests_107 : decode cX7_tests 107 = .ok (.aload_n 0, 1) := dk_42 (dk_at dksX7_tests_4 15 rfl rfl)
theorem dX7_tests_108 : decode cX7_tests 108 = .ok (.iconst 2, 1) := dk_5 (dk_at dksX7_tests_4 16 rfl rfl)
theorem dX7_tests_109 : decode cX7_tests 109 = .ok (.invokevirtual 429, 3) := dk_182 1 173 (dk_at dksX7_tests_4 17 rfl rfl)
theorem dX7_tests_112 : decode cX7_tests 112 = .ok (.ifCond .ne 17, 3) := dk_154 0 17 (dk_at dksX7_tests_4 20 rfl rfl)
theorem dX7_tests_115 : decode cX7_tests 115 = .ok (.aload_n 0, 1) := dk_42 (dk_at dksX7_tests_4 23 rfl rfl)
theorem dX7_tests_116 : decode cX7_tests 116 = .ok (.getfield 108, 3) := dk_180 0 108 (dk_at dksX7_tests_5 0 rfl rfl)
theorem dX7_tests_119 : decode cX7_tests 119 = .ok (.iload 5, 2) := dk_21 5 (dk_at dksX7_tests_5 3 rfl rfl)
theorem dX7_tests_121 : decode cX7_tests 121 = .ok (.dup2, 1) := dk_92 (dk_at dksX7_tests_5 5 rfl rfl)
theorem dX7_tests_122 : decode cX7_tests 122 = .ok (.laload, 1) := dk_47 (dk_at dksX7_tests_5 6 rfl rfl)
theorem dX7_tests_123 : decode cX7_tests 123 = .ok (.lconst 1, 1) := dk_10 (dk_at dksX7_tests_5 7 rfl rfl)
theorem dX7_tests_124 : decode cX7_tests 124 = .ok (.iload 6, 2) := dk_21 6 (dk_at dksX7_tests_5 8 rfl rfl)
theorem dX7_tests_126 : decode cX7_tests 126 = .ok (.lshl, 1) := dk_121 (dk_at dksX7_tests_5 10 rfl rfl)
theorem dX7_tests_127 : decode cX7_tests 127 = .ok (.lor, 1) := dk_129 (dk_at dksX7_tests_5 11 rfl rfl)
theorem dX7_tests_128 : decode cX7_tests 128 = .ok (.lastore, 1) := dk_80 (dk_at dksX7_tests_5 12 rfl rfl)
theorem dX7_tests_129 : decode cX7_tests 129 = .ok (.iinc 6 1, 3) := dk_132 6 1 (dk_at dksX7_tests_5 13 rfl rfl)
theorem dX7_tests_132 : decode cX7_tests 132 = .ok (.goto (-48), 3) := dk_167 255 208 (dk_at dksX7_tests_5 16 rfl rfl)
theorem dX7_tests_135 : decode cX7_tests 135 = .ok (.lload_n 3, 1) := dk_33 (dk_at dksX7_tests_5 19 rfl rfl)
theorem dX7_tests_136 : decode cX7_tests 136 = .ok (.aload_n 0, 1) := dk_42 (dk_at dksX7_tests_5 20 rfl rfl)
theorem dX7_tests_137 : decode cX7_tests 137 = .ok (.getfield 108, 3) := dk_180 0 108 (dk_at dksX7_tests_5 21 rfl rfl)
theorem dX7_tests_140 : decode cX7_tests 140 = .ok (.iload 5, 2) := dk_21 5 (dk_at dksX7_tests_6 0 rfl rfl)
theorem dX7_tests_142 : decode cX7_tests 142 = .ok (.laload, 1) := dk_47 (dk_at dksX7_tests_6 2 rfl rfl)
theorem dX7_tests_143 : decode cX7_tests 143 = .ok (.lor, 1) := dk_129 (dk_at dksX7_tests_6 3 rfl rfl)
theorem dX7_tests_144 : decode cX7_tests 144 = .ok (.lstore_n 3, 1) := dk_66 (dk_at dksX7_tests_6 4 rfl rfl)
theorem dX7_tests_145 : decode cX7_tests 145 = .ok (.iinc 5 1, 3) := dk_132 5 1 (dk_at dksX7_tests_6 5 rfl rfl)
theorem dX7_tests_148 : decode cX7_tests 148 = .ok (.goto (-106), 3) := dk_167 255 150 (dk_at dksX7_tests_6 8 rfl rfl)
theorem dX7_tests_151 : decode cX7_tests 151 = .ok (.aload_n 0, 1) := dk_42 (dk_at dksX7_tests_6 11 rfl rfl)
theorem dX7_tests_152 : decode cX7_tests 152 = .ok (.iconst (-1), 1) := dk_2 (dk_at dksX7_tests_6 12 rfl rfl)
theorem dX7_tests_153 : decode cX7_tests 153 = .ok (.putfield 353, 3) := dk_181 1 97 (dk_at dksX7_tests_6 13 rfl rfl)
theorem dX7_tests_156 : decode cX7_tests 156 = .ok (.iconst (-1), 1) := dk_2 (dk_at dksX7_tests_6 16 rfl rfl)
theorem dX7_tests_157 : decode cX7_tests 157 = .ok (.istore 5, 2) := dk_54 5 (dk_at dksX7_tests_6 17 rfl rfl)
theorem dX7_tests_159 : decode cX7_tests 159 = .ok (.iconst 0, 1) := dk_3 (dk_at dksX7_tests_6 19 rfl rfl)
theorem dX7_tests_160 : decode cX7_tests 160 = .ok (.istore 6, 2) := dk_54 6 (dk_at dksX7_tests_6 20 rfl rfl)
theorem dX7_tests_162 : decode cX7_tests 162 = .ok (.iload 6, 2) := dk_21 6 (dk_at dksX7_tests_6 22 rfl rfl)
theorem dX7_tests_164 : decode cX7_tests 164 = .ok (.iconst 1, 1) := dk_4 (dk_at dksX7_tests_7 0 rfl rfl)
theorem dX7_tests_165 : decode cX7_tests 165 = .ok (.iload_n 2, 1) := dk_28 (dk_at dksX7_tests_7 1 rfl rfl)
theorem dX7_tests_166 : decode cX7_tests 166 = .ok (.ishl, 1) := dk_120 (dk_at dksX7_tests_7 2 rfl rfl)
theorem dX7_tests_167 : decode cX7_tests 167 = .ok (.if_icmp .ge 97, 3) := dk_162 0 97 (dk_at dksX7_tests_7 3 rfl rfl)
theorem dX7_tests_170 : decode cX7_tests 170 = .ok (.iload 5, 2) := dk_21 5 (dk_at dksX7_tests_7 6 rfl rfl)
theorem dX7_tests_172 : decode cX7_tests 172 = .ok (.ifCond .lt 17, 3) := dk_155 0 17 (dk_at dksX7_tests_7 8 rfl rfl)
theorem dX7_tests_175 : decode cX7_tests 175 = .ok (.iload 6, 2) := dk_21 6 (dk_at dksX7_tests_7 11 rfl rfl)
theorem dX7_tests_177 : decode cX7_tests 177 = .ok (.i2l, 1) := dk_133 (dk_at dksX7_tests_7 13 rfl rfl)
theorem dX7_tests_178 : decode cX7_tests 178 = .ok (.invokestatic 416, 3) := dk_184 1 160 (dk_at dksX7_tests_7 14 rfl rfl)
theorem dX7_tests_181 : decode cX7_tests 181 = .ok (.iload 5, 2) := dk_21 5 (dk_at dksX7_tests_7 17 rfl rfl)
theorem dX7_tests_183 : decode cX7_tests 183 = .ok (.if_icmp .lt 6, 3) := dk_161 0 6 (dk_at dksX7_tests_7 19 rfl rfl)
theorem dX7_tests_186 : decode cX7_tests 186 = .ok (.goto 72, 3) := dk_167 0 72 (dk_at dksX7_tests_8 0 rfl rfl)
theorem dX7_tests_189 : decode cX7_tests 189 = .ok (.lconst 0, 1) := dk_9 (dk_at dksX7_tests_8 3 rfl rfl)
theorem dX7_tests_190 : decode cX7_tests 190 = .ok (.lstore 7, 2) := dk_55 7 (dk_at dksX7_tests_8 4 rfl rfl)
theorem dX7_tests_192 : decode cX7_tests 192 = .ok (.iconst 0, 1) := dk_3 (dk_at dksX7_tests_8 6 rfl rfl)
theorem dX7_tests_193 : decode cX7_tests 193 = .ok (.istore 9, 2) := dk_54 9 (dk_at dksX7_tests_8 7 rfl rfl)
theorem dX7_tests_195 : decode cX7_tests 195 = .ok (.iload 9, 2) := dk_21 9 (dk_at dksX7_tests_8 9 rfl rfl)
theorem dX7_tests_197 : decode cX7_tests 197 = .ok (.iload_n 2, 1) := dk_28 (dk_at dksX7_tests_8 11 rfl rfl)
theorem dX7_tests_198 : decode cX7_tests 198 = .ok (.if_icmp .ge 36, 3) := dk_162 0 36 (dk_at dksX7_tests_8 12 rfl rfl)
theorem dX7_tests_201 : decode cX7_tests 201 = .ok (.lload 7, 2) := dk_22 7 (dk_at dksX7_tests_8 15 rfl rfl)
theorem dX7_tests_203 : decode cX7_tests 203 = .ok (.iload 6, 2) := dk_21 6 (dk_at dksX7_tests_8 17 rfl rfl)
theorem dX7_tests_205 : decode cX7_tests 205 = .ok (.iload 9, 2) := dk_21 9 (dk_at dksX7_tests_8 19 rfl rfl)
theorem dX7_tests_207 : decode cX7_tests 207 = .ok (.ishr, 1) := dk_122 (dk_at dksX7_tests_8 21 rfl rfl)
theorem dX7_tests_208 : decode cX7_tests 208 = .ok (.iconst 1, 1) := dk_4 (dk_at dksX7_tests_8 22 rfl rfl)
theorem dX7_tests_209 : decode cX7_tests 209 = .ok (.iand, 1) := dk_126 (dk_at dksX7_tests_8 23 rfl rfl)
theorem dX7_tests_210 : decode cX7_tests 210 = .ok (.iconst 1, 1) := dk_4 (dk_at dksX7_tests_9 0 rfl rfl)
theorem dX7_tests_211 : decode cX7_tests 211 = .ok (.if_icmp .ne 13, 3) := dk_160 0 13 (dk_at dksX7_tests_9 1 rfl rfl)
theorem dX7_tests_214 : decode cX7_tests 214 = .ok (.aload_n 0, 1) := dk_42 (dk_at dksX7_tests_9 4 rfl rfl)
theorem dX7_tests_215 : decode cX7_tests 215 = .ok (.getfield 108, 3) := dk_180 0 108 (dk_at dksX7_tests_9 5 rfl rfl)
theorem dX7_tests_218 : decode cX7_tests 218 = .ok (.iload 9, 2) := dk_21 9 (dk_at dksX7_tests_9 8 rfl rfl)
theorem dX7_tests_220 : decode cX7_tests 220 = .ok (.laload, 1) := dk_47 (dk_at dksX7_tests_9 10 rfl rfl)
theorem dX7_tests_221 : decode cX7_tests 221 = .ok (.goto 4, 3) := dk_167 0 4 (dk_at dksX7_tests_9 11 rfl rfl)
theorem dX7_tests_224 : decode cX7_tests 224 = .ok (.lconst 0, 1) := dk_9 (dk_at dksX7_tests_9 14 rfl rfl)
theorem dX7_tests_225 : decode cX7_tests 225 = .ok (.lor, 1) := dk_129 (dk_at dksX7_tests_9 15 rfl rfl)
theorem dX7_tests_226 : decode cX7_tests 226 = .ok (.lstore 7, 2) := dk_55 7 (dk_at dksX7_tests_9 16 rfl rfl)
theorem dX7_tests_228 : decode cX7_tests 228 = .ok (.iinc 9 1, 3) := dk_132 9 1 (dk_at dksX7_tests_9 18 rfl rfl)
theorem dX7_tests_231 : decode cX7_tests 231 = .ok (.goto (-36), 3) := dk_167 255 220 (dk_at dksX7_tests_9 21 rfl rfl)
theorem dX7_tests_234 : decode cX7_tests 234 = .ok (.lload 7, 2) := dk_22 7 (dk_at dksX7_tests_10 0 rfl rfl)
theorem dX7_tests_236 : decode cX7_tests 236 = .ok (.lload_n 3, 1) := dk_33 (dk_at dksX7_tests_10 2 rfl rfl)
theorem dX7_tests_237 : decode cX7_tests 237 = .ok (.lcmp, 1) := dk_148 (dk_at dksX7_tests_10 3 rfl rfl)
theorem dX7_tests_238 : decode cX7_tests 238 = .ok (.ifCond .eq 6, 3) := dk_153 0 6 (dk_at dksX7_tests_10 4 rfl rfl)
theorem dX7_tests_241 : decode cX7_tests 241 = .ok (.goto 17, 3) := dk_167 0 17 (dk_at dksX7_tests_10 7 rfl rfl)
theorem dX7_tests_244 : decode cX7_tests 244 = .ok (.iload 6, 2) := dk_21 6 (dk_at dksX7_tests_10 10 rfl rfl)
theorem dX7_tests_246 : decode cX7_tests 246 = .ok (.i2l, 1) := dk_133 (dk_at dksX7_tests_10 12 rfl rfl)
theorem dX7_tests_247 : decode cX7_tests 247 = .ok (.invokestatic 416, 3) := dk_184 1 160 (dk_at dksX7_tests_10 13 rfl rfl)
theorem dX7_tests_250 : decode cX7_tests 250 = .ok (.istore 5, 2) := dk_54 5 (dk_at dksX7_tests_10 16 rfl rfl)
theorem dX7_tests_252 : decode cX7_tests 252 = .ok (.aload_n 0, 1) := dk_42 (dk_at dksX7_tests_10 18 rfl rfl)
theorem dX7_tests_253 : decode cX7_tests 253 = .ok (.iload 6, 2) := dk_21 6 (dk_at dksX7_tests_10 19 rfl rfl)
theorem dX7_tests_255 : decode cX7_tests 255 = .ok (.putfield 441, 3) := dk_181 1 185 (dk_at dksX7_tests_10 21 rfl rfl)
theorem dX7_tests_258 : decode cX7_tests 258 = .ok (.iinc 6 1, 3) := dk_132 6 1 (dk_at dksX7_tests_11 0 rfl rfl)
theorem dX7_tests_261 : decode cX7_tests 261 = .ok (.goto (-99), 3) := dk_167 255 157 (dk_at dksX7_tests_11 3 rfl rfl)
theorem dX7_tests_264 : decode cX7_tests 264 = .ok (.aload_n 0, 1) := dk_42 (dk_at dksX7_tests_11 6 rfl rfl)
theorem dX7_tests_265 : decode cX7_tests 265 = .ok (.lload_n 3, 1) := dk_33 (dk_at dksX7_tests_11 7 rfl rfl)
theorem dX7_tests_266 : decode cX7_tests 266 = .ok (.invokestatic 416, 3) := dk_184 1 160 (dk_at dksX7_tests_11 8 rfl rfl)
theorem dX7_tests_269 : decode cX7_tests 269 = .ok (.putfield 444, 3) := dk_181 1 188 (dk_at dksX7_tests_11 11 rfl rfl)
theorem dX7_tests_272 : decode cX7_tests 272 = .ok (.iload 5, 2) := dk_21 5 (dk_at dksX7_tests_11 14 rfl rfl)
theorem dX7_tests_274 : decode cX7_tests 274 = .ok (.ireturn, 1) := dk_172 (dk_at dksX7_tests_11 16 rfl rfl)
abbrev cX7_testSet : ByteArray := prog_14_method_61_code
def yX7_testSet : MethodName := ⟨RX7, "testSet", "()I"⟩
def dkwX7_testSet_0 : List UInt8 := [42, 3, 181, 0, 190, 42, 180, 1, 185, 172]
abbrev dktX7_testSet_0 : List UInt8 := dkwX7_testSet_0 ++ []
theorem dksX7_testSet_0 : cX7_testSet.data.toList.drop 0 = dktX7_testSet_0 := by decide +kernel
theorem dX7_testSet_0 : decode cX7_testSet 0 = .ok (.aload_n 0, 1) := dk_42 (dk_at dksX7_testSet_0 0 rfl rfl)
theorem dX7_testSet_1 : decode cX7_testSet 1 = .ok (.iconst 0, 1) := dk_3 (dk_at dksX7_testSet_0 1 rfl rfl)
theorem dX7_testSet_2 : decode cX7_testSet 2 = .ok (.putfield 190, 3) := dk_181 0 190 (dk_at dksX7_testSet_0 2 rfl rfl)
theorem dX7_testSet_5 : decode cX7_testSet 5 = .ok (.aload_n 0, 1) := dk_42 (dk_at dksX7_testSet_0 5 rfl rfl)
theorem dX7_testSet_6 : decode cX7_testSet 6 = .ok (.getfield 441, 3) := dk_180 1 185 (dk_at dksX7_testSet_0 6 rfl rfl)
theorem dX7_testSet_9 : decode cX7_testSet 9 = .ok (.ireturn, 1) := dk_172 (dk_at dksX7_testSet_0 9 rfl rfl)
abbrev cX7_shown : ByteArray := prog_14_method_62_code
def yX7_shown : MethodName := ⟨RX7, "shown", "()I"⟩
def dkwX7_shown_0 : List UInt8 := [42, 3, 181, 0, 190, 42, 180, 1, 188, 172]
abbrev dktX7_shown_0 : List UInt8 := dkwX7_shown_0 ++ []
theorem dksX7_shown_0 : cX7_shown.data.toList.drop 0 = dktX7_shown_0 := by decide +kernel
theorem dX7_shown_0 : decode cX7_shown 0 = .ok (.aload_n 0, 1) := dk_42 (dk_at dksX7_shown_0 0 rfl rfl)
theorem dX7_shown_1 : decode cX7_shown 1 = .ok (.iconst 0, 1) := dk_3 (dk_at dksX7_shown_0 1 rfl rfl)
theorem dX7_shown_2 : decode cX7_shown 2 = .ok (.putfield 190, 3) := dk_181 0 190 (dk_at dksX7_shown_0 2 rfl rfl)
theorem dX7_shown_5 : decode cX7_shown 5 = .ok (.aload_n 0, 1) := dk_42 (dk_at dksX7_shown_0 5 rfl rfl)
theorem dX7_shown_6 : decode cX7_shown 6 = .ok (.getfield 444, 3) := dk_180 1 188 (dk_at dksX7_shown_0 6 rfl rfl)
theorem dX7_shown_9 : decode cX7_shown 9 = .ok (.ireturn, 1) := dk_172 (dk_at dksX7_shown_0 9 rfl rfl)
abbrev cX7_unseen : ByteArray := prog_14_method_63_code
def yX7_unseen : MethodName := ⟨RX7, "unseen", "(I)I"⟩
def dkwX7_unseen_5 : List UInt8 := [132, 2, 1, 167, 255, 189, 42, 180, 1, 191, 172]
abbrev dktX7_unseen_5 : List UInt8 := dkwX7_unseen_5 ++ []
def dkwX7_unseen_4 : List UInt8 := [167, 0, 23, 42, 180, 0, 99, 42, 180, 1, 191, 28, 79, 42, 89, 180, 1, 191, 4, 96, 181, 1, 191]
abbrev dktX7_unseen_4 : List UInt8 := dkwX7_unseen_4 ++ dktX7_unseen_5
def dkwX7_unseen_3 : List UInt8 := [27, 46, 28, 4, 96, 182, 1, 143, 42, 16, 40, 182, 1, 147, 42, 5, 182, 1, 173, 154, 0, 6]
abbrev dktX7_unseen_3 : List UInt8 := dkwX7_unseen_3 ++ dktX7_unseen_4
def dkwX7_unseen_2 : List UInt8 := [181, 1, 191, 3, 61, 28, 4, 96, 42, 180, 0, 17, 27, 46, 162, 0, 61, 42, 27, 3, 42, 180, 0, 17]
abbrev dktX7_unseen_2 : List UInt8 := dkwX7_unseen_2 ++ dktX7_unseen_3
def dkwX7_unseen_1 : List UInt8 := [180, 0, 17, 27, 46, 2, 182, 1, 143, 42, 16, 40, 182, 1, 147, 42, 5, 182, 1, 150, 42, 3]
abbrev dktX7_unseen_1 : List UInt8 := dkwX7_unseen_1 ++ dktX7_unseen_2
def dkwX7_unseen_0 : List UInt8 := [42, 3, 181, 0, 190, 27, 184, 0, 214, 154, 0, 5, 2, 172, 42, 2, 181, 1, 97, 42, 27, 3, 42]
abbrev dktX7_unseen_0 : List UInt8 := dkwX7_unseen_0 ++ dktX7_unseen_1
theorem dksX7_unseen_0 : cX7_unseen.data.toList.drop 0 = dktX7_unseen_0 := by decide +kernel
theorem dksX7_unseen_1 : cX7_unseen.data.toList.drop 23 = dktX7_unseen_1 := dk_seg dksX7_unseen_0 23 rfl rfl
theorem dksX7_unseen_2 : cX7_unseen.data.toList.drop 45 = dktX7_unseen_2 := dk_seg dksX7_unseen_1 22 rfl rfl
theorem dksX7_unseen_3 : cX7_unseen.data.toList.drop 69 = dktX7_unseen_3 := dk_seg dksX7_unseen_2 24 rfl rfl
theorem dksX7_unseen_4 : cX7_unseen.data.toList.drop 91 = dktX7_unseen_4 := dk_seg dksX7_unseen_3 22 rfl rfl
theorem dksX7_unseen_5 : cX7_unseen.data.toList.drop 114 = dktX7_unseen_5 := dk_seg dksX7_unseen_4 23 rfl rfl
theorem dX7_unseen_0 : decode cX7_unseen 0 = .ok (.aload_n 0, 1) := dk_42 (dk_at dksX7_unseen_0 0 rfl rfl)
theorem dX7_unseen_1 : decode cX7_unseen 1 = .ok (.iconst 0, 1) := dk_3 (dk_at dksX7_unseen_0 1 rfl rfl)
theorem dX7_unseen_2 : decode cX7_unseen 2 = .ok (.putfield 190, 3) := dk_181 0 190 (dk_at dksX7_unseen_0 2 rfl rfl)
theorem dX7_unseen_5 : decode cX7_unseen 5 = .ok (.iload_n 1, 1) := dk_27 (dk_at dksX7_unseen_0 5 rfl rfl)
theorem dX7_unseen_6 : decode cX7_unseen 6 = .ok (.invokestatic 214, 3) := dk_184 0 214 (dk_at dksX7_unseen_0 6 rfl rfl)
theorem dX7_unseen_9 : decode cX7_unseen 9 = .ok (.ifCond .ne 5, 3) := dk_154 0 5 (dk_at dksX7_unseen_0 9 rfl rfl)
theorem dX7_unseen_12 : decode cX7_unseen 12 = .ok (.iconst (-1), 1) := dk_2 (dk_at dksX7_unseen_0 12 rfl rfl)
theorem dX7_unseen_13 : decode cX7_unseen 13 = .ok (.ireturn, 1) := dk_172 (dk_at dksX7_unseen_0 13 rfl rfl)
theorem dX7_unseen_14 : decode cX7_unseen 14 = .ok (.aload_n 0, 1) := dk_42 (dk_at dksX7_unseen_0 14 rfl rfl)
theorem dX7_unseen_15 : decode cX7_unseen 15 = .ok (.iconst (-1), 1) := dk_2 (dk_at dksX7_unseen_0 15 rfl rfl)
theorem dX7_unseen_16 : decode cX7_unseen 16 = .ok (.putfield 353, 3) := dk_181 1 97 (dk_at dksX7_unseen_0 16 rfl rfl)
theorem dX7_unseen_19 : decode cX7_unseen 19 = .ok (.aload_n 0, 1) := dk_42 (dk_at dksX7_unseen_0 19 rfl rfl)
theorem dX7_unseen_20 : decode cX7_unseen 20 = .ok (.iload_n 1, 1) := dk_27 (dk_at dksX7_unseen_0 20 rfl rfl)
theorem dX7_unseen_21 : decode cX7_unseen 21 = .ok (.iconst 0, 1) := dk_3 (dk_at dksX7_unseen_0 21 rfl rfl)
theorem dX7_unseen_22 : decode cX7_unseen 22 = .ok (.aload_n 0, 1) := dk_42 (dk_at dksX7_unseen_0 22 rfl rfl)
theorem dX7_unseen_23 : decode cX7_unseen 23 = .ok (.getfield 17, 3) := dk_180 0 17 (dk_at dksX7_unseen_1 0 rfl rfl)
theorem dX7_unseen_26 : decode cX7_unseen 26 = .ok (.iload_n 1, 1) := dk_27 (dk_at dksX7_unseen_1 3 rfl rfl)
theorem dX7_unseen_27 : decode cX7_unseen 27 = .ok (.iaload, 1) := dk_46 (dk_at dksX7_unseen_1 4 rfl rfl)
theorem dX7_unseen_28 : decode cX7_unseen 28 = .ok (.iconst (-1), 1) := dk_2 (dk_at dksX7_unseen_1 5 rfl rfl)
theorem dX7_unseen_29 : decode cX7_unseen 29 = .ok (.invokevirtual 399, 3) := dk_182 1 143 (dk_at dksX7_unseen_1 6 rfl rfl)
theorem dX7_unseen_32 : decode cX7_unseen 32 = .ok (.aload_n 0, 1) := dk_42 (dk_at dksX7_unseen_1 9 rfl rfl)
theorem dX7_unseen_33 : decode cX7_unseen 33 = .ok (.bipush 40, 2) := dk_16 40 (dk_at dksX7_unseen_1 10 rfl rfl)
theorem dX7_unseen_35 : decode cX7_unseen 35 = .ok (.invokevirtual 403, 3) := dk_182 1 147 (dk_at dksX7_unseen_1 12 rfl rfl)
theorem dX7_unseen_38 : decode cX7_unseen 38 = .ok (.aload_n 0, 1) := dk_42 (dk_at dksX7_unseen_1 15 rfl rfl)
theorem dX7_unseen_39 : decode cX7_unseen 39 = .ok (.iconst 2, 1) := dk_5 (dk_at dksX7_unseen_1 16 rfl rfl)
theorem dX7_unseen_40 : decode cX7_unseen 40 = .ok (.invokevirtual 406, 3) := dk_182 1 150 (dk_at dksX7_unseen_1 17 rfl rfl)
theorem dX7_unseen_43 : decode cX7_unseen 43 = .ok (.aload_n 0, 1) := dk_42 (dk_at dksX7_unseen_1 20 rfl rfl)
theorem dX7_unseen_44 : decode cX7_unseen 44 = .ok (.iconst 0, 1) := dk_3 (dk_at dksX7_unseen_1 21 rfl rfl)
theorem dX7_unseen_45 : decode cX7_unseen 45 = .ok (.putfield 447, 3) := dk_181 1 191 (dk_at dksX7_unseen_2 0 rfl rfl)
theorem dX7_unseen_48 : decode cX7_unseen 48 = .ok (.iconst 0, 1) := dk_3 (dk_at dksX7_unseen_2 3 rfl rfl)
theorem dX7_unseen_49 : decode cX7_unseen 49 = .ok (.istore_n 2, 1) := dk_61 (dk_at dksX7_unseen_2 4 rfl rfl)
theorem dX7_unseen_50 : decode cX7_unseen 50 = .ok (.iload_n 2, 1) := dk_28 (dk_at dksX7_unseen_2 5 rfl rfl)
theorem dX7_unseen_51 : decode cX7_unseen 51 = .ok (.iconst 1, 1) := dk_4 (dk_at dksX7_unseen_2 6 rfl rfl)
theorem dX7_unseen_52 : decode cX7_unseen 52 = .ok (.iadd, 1) := dk_96 (dk_at dksX7_unseen_2 7 rfl rfl)
theorem dX7_unseen_53 : decode cX7_unseen 53 = .ok (.aload_n 0, 1) := dk_42 (dk_at dksX7_unseen_2 8 rfl rfl)
theorem dX7_unseen_54 : decode cX7_unseen 54 = .ok (.getfield 17, 3) := dk_180 0 17 (dk_at dksX7_unseen_2 9 rfl rfl)
theorem dX7_unseen_57 : decode cX7_unseen 57 = .ok (.iload_n 1, 1) := dk_27 (dk_at dksX7_unseen_2 12 rfl rfl)
theorem dX7_unseen_58 : decode cX7_unseen 58 = .ok (.iaload, 1) := dk_46 (dk_at dksX7_unseen_2 13 rfl rfl)
theorem dX7_unseen_59 : decode cX7_unseen 59 = .ok (.if_icmp .ge 61, 3) := dk_162 0 61 (dk_at dksX7_unseen_2 14 rfl rfl)
theorem dX7_unseen_62 : decode cX7_unseen 62 = .ok (.aload_n 0, 1) := dk_42 (dk_at dksX7_unseen_2 17 rfl rfl)
theorem dX7_unseen_63 : decode cX7_unseen 63 = .ok (.iload_n 1, 1) := dk_27 (dk_at dksX7_unseen_2 18 rfl rfl)
theorem dX7_unseen_64 : decode cX7_unseen 64 = .ok (.iconst 0, 1) := dk_3 (dk_at dksX7_unseen_2 19 rfl rfl)
theorem dX7_unseen_65 : decode cX7_unseen 65 = .ok (.aload_n 0, 1) := dk_42 (dk_at dksX7_unseen_2 20 rfl rfl)
theorem dX7_unseen_66 : decode cX7_unseen 66 = .ok (.getfield 17, 3) := dk_180 0 17 (dk_at dksX7_unseen_2 21 rfl rfl)
theorem dX7_unseen_69 : decode cX7_unseen 69 = .ok (.iload_n 1, 1) := dk_27 (dk_at dksX7_unseen_3 0 rfl rfl)
theorem dX7_unseen_70 : decode cX7_unseen 70 = .ok (.iaload, 1) := dk_46 (dk_at dksX7_unseen_3 1 rfl rfl)
theorem dX7_unseen_71 : decode cX7_unseen 71 = .ok (.iload_n 2, 1) := dk_28 (dk_at dksX7_unseen_3 2 rfl rfl)
theorem dX7_unseen_72 : decode cX7_unseen 72 = .ok (.iconst 1, 1) := dk_4 (dk_at dksX7_unseen_3 3 rfl rfl)
theorem dX7_unseen_73 : decode cX7_unseen 73 = .ok (.iadd, 1) := dk_96 (dk_at dksX7_unseen_3 4 rfl rfl)
theorem dX7_unseen_74 : decode cX7_unseen 74 = .ok (.invokevirtual 399, 3) := dk_182 1 143 (dk_at dksX7_unseen_3 5 rfl rfl)
theorem dX7_unseen_77 : decode cX7_unseen 77 = .ok (.aload_n 0, 1) := dk_42 (dk_at dksX7_unseen_3 8 rfl rfl)
theorem dX7_unseen_78 : decode cX7_unseen 78 = .ok (.bipush 40, 2) := dk_16 40 (dk_at dksX7_unseen_3 9 rfl rfl)
theorem dX7_unseen_80 : decode cX7_unseen 80 = .ok (.invokevirtual 403, 3) := dk_182 1 147 (dk_at dksX7_unseen_3 11 rfl rfl)
theorem dX7_unseen_83 : decode cX7_unseen 83 = .ok (.aload_n 0, 1) := dk_42 (dk_at dksX7_unseen_3 14 rfl rfl)
theorem dX7_unseen_84 : decode cX7_unseen 84 = .ok (.iconst 2, 1) := dk_5 (dk_at dksX7_unseen_3 15 rfl rfl)
theorem dX7_unseen_85 : decode cX7_unseen 85 = .ok (.invokevirtual 429, 3) := dk_182 1 173 (dk_at dksX7_unseen_3 16 rfl rfl)
theorem dX7_unseen_88 : decode cX7_unseen 88 = .ok (.ifCond .ne 6, 3) := dk_154 0 6 (dk_at dksX7_unseen_3 19 rfl rfl)
theorem dX7_unseen_91 : decode cX7_unseen 91 = .ok (.goto 23, 3) := dk_167 0 23 (dk_at dksX7_unseen_4 0 rfl rfl)
theorem dX7_unseen_94 : decode cX7_unseen 94 = .ok (.aload_n 0, 1) := dk_42 (dk_at dksX7_unseen_4 3 rfl rfl)
theorem dX7_unseen_95 : decode cX7_unseen 95 = .ok (.getfield 99, 3) := dk_180 0 99 (dk_at dksX7_unseen_4 4 rfl rfl)
theorem dX7_unseen_98 : decode cX7_unseen 98 = .ok (.aload_n 0, 1) := dk_42 (dk_at dksX7_unseen_4 7 rfl rfl)
theorem dX7_unseen_99 : decode cX7_unseen 99 = .ok (.getfield 447, 3) := dk_180 1 191 (dk_at dksX7_unseen_4 8 rfl rfl)
theorem dX7_unseen_102 : decode cX7_unseen 102 = .ok (.iload_n 2, 1) := dk_28 (dk_at dksX7_unseen_4 11 rfl rfl)
theorem dX7_unseen_103 : decode cX7_unseen 103 = .ok (.iastore, 1) := dk_79 (dk_at dksX7_unseen_4 12 rfl rfl)
theorem dX7_unseen_104 : decode cX7_unseen 104 = .ok (.aload_n 0, 1) := dk_42 (dk_at dksX7_unseen_4 13 rfl rfl)
theorem dX7_unseen_105 : decode cX7_unseen 105 = .ok (.dup, 1) := dk_89 (dk_at dksX7_unseen_4 14 rfl rfl)
theorem dX7_unseen_106 : decode cX7_unseen 106 = .ok (.getfield 447, 3) := dk_180 1 191 (dk_at dksX7_unseen_4 15 rfl rfl)
theorem dX7_unseen_109 : decode cX7_unseen 109 = .ok (.iconst 1, 1) := dk_4 (dk_at dksX7_unseen_4 18 rfl rfl)
theorem dX7_unseen_110 : decode cX7_unseen 110 = .ok (.iadd, 1) := dk_96 (dk_at dksX7_unseen_4 19 rfl rfl)
theorem dX7_unseen_111 : decode cX7_unseen 111 = .ok (.putfield 447, 3) := dk_181 1 191 (dk_at dksX7_unseen_4 20 rfl rfl)
theorem dX7_unseen_114 : decode cX7_unseen 114 = .ok (.iinc 2 1, 3) := dk_132 2 1 (dk_at dksX7_unseen_5 0 rfl rfl)
theorem dX7_unseen_117 : decode cX7_unseen 117 = .ok (.goto (-67), 3) := dk_167 255 189 (dk_at dksX7_unseen_5 3 rfl rfl)
theorem dX7_unseen_120 : decode cX7_unseen 120 = .ok (.aload_n 0, 1) := dk_42 (dk_at dksX7_unseen_5 6 rfl rfl)
theorem dX7_unseen_121 : decode cX7_unseen 121 = .ok (.getfield 447, 3) := dk_180 1 191 (dk_at dksX7_unseen_5 7 rfl rfl)
theorem dX7_unseen_124 : decode cX7_unseen 124 = .ok (.ireturn, 1) := dk_172 (dk_at dksX7_unseen_5 10 rfl rfl)
abbrev cX7_unseenAt : ByteArray := prog_14_method_64_code
def yX7_unseenAt : MethodName := ⟨RX7, "unseenAt", "(I)I"⟩
def dkwX7_unseenAt_1 : List UInt8 := [46, 167, 0, 4, 2, 172]
abbrev dktX7_unseenAt_1 : List UInt8 := dkwX7_unseenAt_1 ++ []
def dkwX7_unseenAt_0 : List UInt8 := [42, 3, 181, 0, 190, 27, 3, 42, 180, 1, 191, 4, 100, 184, 0, 207, 153, 0, 12, 42, 180, 0, 99, 27]
abbrev dktX7_unseenAt_0 : List UInt8 := dkwX7_unseenAt_0 ++ dktX7_unseenAt_1
theorem dksX7_unseenAt_0 : cX7_unseenAt.data.toList.drop 0 = dktX7_unseenAt_0 := by decide +kernel
theorem dksX7_unseenAt_1 : cX7_unseenAt.data.toList.drop 24 = dktX7_unseenAt_1 := dk_seg dksX7_unseenAt_0 24 rfl rfl
theorem dX7_unseenAt_0 : decode cX7_unseenAt 0 = .ok (.aload_n 0, 1) := dk_42 (dk_at dksX7_unseenAt_0 0 rfl rfl)
theorem dX7_unseenAt_1 : decode cX7_unseenAt 1 = .ok (.iconst 0, 1) := dk_3 (dk_at dksX7_unseenAt_0 1 rfl rfl)
theorem dX7_unseenAt_2 : decode cX7_unseenAt 2 = .ok (.putfield 190, 3) := dk_181 0 190 (dk_at dksX7_unseenAt_0 2 rfl rfl)
theorem dX7_unseenAt_5 : decode cX7_unseenAt 5 = .ok (.iload_n 1, 1) := dk_27 (dk_at dksX7_unseenAt_0 5 rfl rfl)
theorem dX7_unseenAt_6 : decode cX7_unseenAt 6 = .ok (.iconst 0, 1) := dk_3 (dk_at dksX7_unseenAt_0 6 rfl rfl)
theorem dX7_unseenAt_7 : decode cX7_unseenAt 7 = .ok (.aload_n 0, 1) := dk_42 (dk_at dksX7_unseenAt_0 7 rfl rfl)
theorem dX7_unseenAt_8 : decode cX7_unseenAt 8 = .ok (.getfield 447, 3) := dk_180 1 191 (dk_at dksX7_unseenAt_0 8 rfl rfl)
theorem dX7_unseenAt_11 : decode cX7_unseenAt 11 = .ok (.iconst 1, 1) := dk_4 (dk_at dksX7_unseenAt_0 11 rfl rfl)
theorem dX7_unseenAt_12 : decode cX7_unseenAt 12 = .ok (.isub, 1) := dk_100 (dk_at dksX7_unseenAt_0 12 rfl rfl)
theorem dX7_unseenAt_13 : decode cX7_unseenAt 13 = .ok (.invokestatic 207, 3) := dk_184 0 207 (dk_at dksX7_unseenAt_0 13 rfl rfl)
theorem dX7_unseenAt_16 : decode cX7_unseenAt 16 = .ok (.ifCond .eq 12, 3) := dk_153 0 12 (dk_at dksX7_unseenAt_0 16 rfl rfl)
theorem dX7_unseenAt_19 : decode cX7_unseenAt 19 = .ok (.aload_n 0, 1) := dk_42 (dk_at dksX7_unseenAt_0 19 rfl rfl)
theorem dX7_unseenAt_20 : decode cX7_unseenAt 20 = .ok (.getfield 99, 3) := dk_180 0 99 (dk_at dksX7_unseenAt_0 20 rfl rfl)
theorem dX7_unseenAt_23 : decode cX7_unseenAt 23 = .ok (.iload_n 1, 1) := dk_27 (dk_at dksX7_unseenAt_0 23 rfl rfl)
theorem dX7_unseenAt_24 : decode cX7_unseenAt 24 = .ok (.iaload, 1) := dk_46 (dk_at dksX7_unseenAt_1 0 rfl rfl)
theorem dX7_unseenAt_25 : decode cX7_unseenAt 25 = .ok (.goto 4, 3) := dk_167 0 4 (dk_at dksX7_unseenAt_1 1 rfl rfl)
theorem dX7_unseenAt_28 : decode cX7_unseenAt 28 = .ok (.iconst (-1), 1) := dk_2 (dk_at dksX7_unseenAt_1 4 rfl rfl)
theorem dX7_unseenAt_29 : decode cX7_unseenAt 29 = .ok (.ireturn, 1) := dk_172 (dk_at dksX7_unseenAt_1 5 rfl rfl)
abbrev cX7_moves : ByteArray := prog_14_method_66_code
def yX7_moves : MethodName := ⟨RX7, "moves", "(I)I"⟩
def dkwX7_moves_15 : List UInt8 := [16, 100, 181, 1, 201, 28, 172]
abbrev dktX7_moves_15 : List UInt8 := dkwX7_moves_15 ++ []
def dkwX7_moves_14 : List UInt8 := [132, 4, 1, 167, 255, 67, 132, 3, 1, 167, 255, 48, 42, 28, 16, 100, 162, 0, 7, 28, 167, 0, 5]
abbrev dktX7_moves_14 : List UInt8 := dkwX7_moves_14 ++ dktX7_moves_15
def dkwX7_moves_13 : List UInt8 := [21, 4, 79, 42, 180, 0, 118, 28, 21, 8, 21, 7, 100, 79, 132, 2, 1, 132, 8, 1, 167, 255, 134]
abbrev dktX7_moves_13 : List UInt8 := dkwX7_moves_13 ++ dktX7_moves_14
def dkwX7_moves_12 : List UInt8 := [154, 0, 6, 167, 0, 38, 28, 16, 100, 162, 0, 29, 42, 180, 0, 112, 28, 29, 79, 42, 180, 0, 115, 28]
abbrev dktX7_moves_12 : List UInt8 := dkwX7_moves_12 ++ dktX7_moves_13
def dkwX7_moves_11 : List UInt8 := [182, 1, 197, 42, 16, 40, 182, 1, 147, 42, 29, 21, 4, 21, 5, 182, 1, 197, 42, 182, 1, 182]
abbrev dktX7_moves_11 : List UInt8 := dkwX7_moves_11 ++ dktX7_moves_12
def dkwX7_moves_10 : List UInt8 := [180, 0, 29, 21, 8, 46, 21, 8, 184, 1, 80, 160, 0, 6, 167, 0, 72, 42, 29, 21, 4, 21, 8]
abbrev dktX7_moves_10 : List UInt8 := dkwX7_moves_10 ++ dktX7_moves_11
def dkwX7_moves_9 : List UInt8 := [184, 1, 194, 21, 7, 160, 0, 110, 21, 8, 21, 5, 159, 0, 97, 21, 8, 21, 6, 159, 0, 90, 42]
abbrev dktX7_moves_9 : List UInt8 := dkwX7_moves_9 ++ dktX7_moves_10
def dkwX7_moves_8 : List UInt8 := [54, 6, 21, 5, 184, 1, 194, 54, 7, 21, 7, 54, 8, 21, 8, 17, 0, 217, 162, 0, 120, 21, 8]
abbrev dktX7_moves_8 : List UInt8 := dkwX7_moves_8 ++ dktX7_moves_9
def dkwX7_moves_7 : List UInt8 := [29, 46, 54, 5, 21, 4, 154, 0, 12, 42, 180, 0, 23, 29, 46, 167, 0, 9, 42, 180, 0, 20, 29, 46]
abbrev dktX7_moves_7 : List UInt8 := dkwX7_moves_7 ++ dktX7_moves_8
def dkwX7_moves_6 : List UInt8 := [21, 4, 5, 162, 0, 189, 21, 4, 154, 0, 12, 42, 180, 0, 20, 29, 46, 167, 0, 9, 42, 180, 0, 23]
abbrev dktX7_moves_6 : List UInt8 := dkwX7_moves_6 ++ dktX7_moves_7
def dkwX7_moves_5 : List UInt8 := [79, 132, 2, 1, 167, 255, 213, 3, 61, 3, 62, 29, 42, 180, 0, 26, 3, 46, 162, 0, 204, 3, 54, 4]
abbrev dktX7_moves_5 : List UInt8 := dkwX7_moves_5 ++ dktX7_moves_6
def dkwX7_moves_4 : List UInt8 := [180, 0, 20, 28, 46, 92, 46, 4, 96, 79, 42, 180, 0, 29, 42, 180, 0, 23, 28, 46, 92, 46, 4, 96]
abbrev dktX7_moves_4 : List UInt8 := dkwX7_moves_4 ++ dktX7_moves_5
def dkwX7_moves_3 : List UInt8 := [132, 2, 1, 167, 255, 239, 3, 61, 28, 42, 180, 0, 26, 3, 46, 162, 0, 39, 42, 180, 0, 29, 42]
abbrev dktX7_moves_3 : List UInt8 := dkwX7_moves_3 ++ dktX7_moves_4
def dkwX7_moves_2 : List UInt8 := [167, 0, 4, 6, 2, 182, 1, 143, 3, 61, 28, 17, 0, 217, 162, 0, 16, 42, 180, 0, 29, 28, 3, 79]
abbrev dktX7_moves_2 : List UInt8 := dkwX7_moves_2 ++ dktX7_moves_3
def dkwX7_moves_1 : List UInt8 := [181, 1, 97, 42, 27, 3, 42, 180, 0, 17, 27, 46, 6, 162, 0, 12, 42, 180, 0, 17, 27, 46]
abbrev dktX7_moves_1 : List UInt8 := dkwX7_moves_1 ++ dktX7_moves_2
def dkwX7_moves_0 : List UInt8 := [42, 3, 181, 0, 190, 42, 182, 1, 179, 153, 0, 10, 27, 184, 0, 214, 154, 0, 5, 2, 172, 42, 2]
abbrev dktX7_moves_0 : List UInt8 := dkwX7_moves_0 ++ dktX7_moves_1
theorem dksX7_moves_0 : cX7_moves.data.toList.drop 0 = dktX7_moves_0 := by decide +kernel
theorem dksX7_moves_1 : cX7_moves.data.toList.drop 23 = dktX7_moves_1 := dk_seg dksX7_moves_0 23 rfl rfl
theorem dksX7_moves_2 : cX7_moves.data.toList.drop 45 = dktX7_moves_2 := dk_seg dksX7_moves_1 22 rfl rfl
theorem dksX7_moves_3 : cX7_moves.data.toList.drop 69 = dktX7_moves_3 := dk_seg dksX7_moves_2 24 rfl rfl
theorem dksX7_moves_4 : cX7_moves.data.toList.drop 92 = dktX7_moves_4 := dk_seg dksX7_moves_3 23 rfl rfl
theorem dksX7_moves_5 : cX7_moves.data.toList.drop 116 = dktX7_moves_5 := dk_seg dksX7_moves_4 24 rfl rfl
theorem dksX7_moves_6 : cX7_moves.data.toList.drop 140 = dktX7_moves_6 := dk_seg dksX7_moves_5 24 rfl rfl
theorem dksX7_moves_7 : cX7_moves.data.toList.drop 164 = dktX7_moves_7 := dk_seg dksX7_moves_6 24 rfl rfl
theorem dksX7_moves_8 : cX7_moves.data.toList.drop 188 = dktX7_moves_8 := dk_seg dksX7_moves_7 24 rfl rfl
theorem dksX7_moves_9 : cX7_moves.data.toList.drop 211 = dktX7_moves_9 := dk_seg dksX7_moves_8 23 rfl rfl
theorem dksX7_moves_10 : cX7_moves.data.toList.drop 234 = dktX7_moves_10 := dk_seg dksX7_moves_9 23 rfl rfl
theorem dksX7_moves_11 : cX7_moves.data.toList.drop 257 = dktX7_moves_11 := dk_seg dksX7_moves_10 23 rfl rfl
theorem dksX7_moves_12 : cX7_moves.data.toList.drop 279 = dktX7_moves_12 := dk_seg dksX7_moves_11 22 rfl rfl
theorem dksX7_moves_13 : cX7_moves.data.toList.drop 303 = dktX7_moves_13 := dk_seg dksX7_moves_12 24 rfl rfl
theorem dksX7_moves_14 : cX7_moves.data.toList.drop 326 = dktX7_moves_14 := dk_seg dksX7_moves_13 23 rfl rfl
theorem dksX7_moves_15 : cX7_moves.data.toList.drop 349 = dktX7_moves_15 := dk_seg dksX7_moves_14 23 rfl rfl
theorem dX7_moves_0 : decode cX7_moves 0 = .ok (.aload_n 0, 1) := dk_42 (dk_at dksX7_moves_0 0 rfl rfl)
theorem dX7_moves_1 : decode cX7_moves 1 = .ok (.iconst 0, 1) := dk_3 (dk_at dksX7_moves_0 1 rfl rfl)
theorem dX7_moves_2 : decode cX7_moves 2 = .ok (.putfield 190, 3) := dk_181 0 190 (dk_at dksX7_moves_0 2 rfl rfl)
theorem dX7_moves_5 : decode cX7_moves 5 = .ok (.aload_n 0, 1) := dk_42 (dk_at dksX7_moves_0 5 rfl rfl)
theorem dX7_moves_6 : decode cX7_moves 6 = .ok (.invokevirtual 435, 3) := dk_182 1 179 (dk_at dksX7_moves_0 6 rfl rfl)
theorem dX7_moves_9 : decode cX7_moves 9 = .ok (.ifCond .eq 10, 3) := dk_153 0 10 (dk_at dksX7_moves_0 9 rfl rfl)
theorem dX7_moves_12 : decode cX7_moves 12 = .ok (.iload_n 1, 1) := dk_27 (dk_at dksX7_moves_0 12 rfl rfl)
theorem dX7_moves_13 : decode cX7_moves 13 = .ok (.invokestatic 214, 3) := dk_184 0 214 (dk_at dksX7_moves_0 13 rfl rfl)
theorem dX7_moves_16 : decode cX7_moves 16 = .ok (.ifCond .ne 5, 3) := dk_154 0 5 (dk_at dksX7_moves_0 16 rfl rfl)
theorem dX7_moves_19 : decode cX7_moves 19 = .ok (.iconst (-1), 1) := dk_2 (dk_at dksX7_moves_0 19 rfl rfl)
theorem dX7_moves_20 : decode cX7_moves 20 = .ok (.ireturn, 1) := dk_172 (dk_at dksX7_moves_0 20 rfl rfl)
theorem dX7_moves_21 : decode cX7_moves 21 = .ok (.aload_n 0, 1) := dk_42 (dk_at dksX7_moves_0 21 rfl rfl)
theorem dX7_moves_22 : decode cX7_moves 22 = .ok (.iconst (-1), 1) := dk_2 (dk_at dksX7_moves_0 22 rfl rfl)
theorem dX7_moves_23 : decode cX7_moves 23 = .ok (.putfield 353, 3) := dk_181 1 97 (dk_at dksX7_moves_1 0 rfl rfl)
theorem dX7_moves_26 : decode cX7_moves 26 = .ok (.aload_n 0, 1) := dk_42 (dk_at dksX7_moves_1 3 rfl rfl)
theorem dX7_moves_27 : decode cX7_moves 27 = .ok (.iload_n 1, 1) := dk_27 (dk_at dksX7_moves_1 4 rfl rfl)
theorem dX7_moves_28 : decode cX7_moves 28 = .ok (.iconst 0, 1) := dk_3 (dk_at dksX7_moves_1 5 rfl rfl)
theorem dX7_moves_29 : decode cX7_moves 29 = .ok (.aload_n 0, 1) := dk_42 (dk_at dksX7_moves_1 6 rfl rfl)
theorem dX7_moves_30 : decode cX7_moves 30 = .ok (.getfield 17, 3) := dk_180 0 17 (dk_at dksX7_moves_1 7 rfl rfl)
theorem dX7_moves_33 : decode cX7_moves 33 = .ok (.iload_n 1, 1) := dk_27 (dk_at dksX7_moves_1 10 rfl rfl)
theorem dX7_moves_34 : decode cX7_moves 34 = .ok (.iaload, 1) := dk_46 (dk_at dksX7_moves_1 11 rfl rfl)
theorem dX7_moves_35 : decode cX7_moves 35 = .ok (.iconst 3, 1) := dk_6 (dk_at dksX7_moves_1 12 rfl rfl)
theorem dX7_moves_36 : decode cX7_moves 36 = .ok (.if_icmp .ge 12, 3) := dk_162 0 12 (dk_at dksX7_moves_1 13 rfl rfl)
theorem dX7_moves_39 : decode cX7_moves 39 = .ok (.aload_n 0, 1) := dk_42 (dk_at dksX7_moves_1 16 rfl rfl)
theorem dX7_moves_40 : decode cX7_moves 40 = .ok (.getfield 17, 3) := dk_180 0 17 (dk_at dksX7_moves_1 17 rfl rfl)
theorem dX7_moves_43 : decode cX7_moves 43 = .ok (.iload_n 1, 1) := dk_27 (dk_at dksX7_moves_1 20 rfl rfl)
theorem dX7_moves_44 : decode cX7_moves 44 = .ok (.iaload, 1) := dk_46 (dk_at dksX7_moves_1 21 rfl rfl)
theorem dX7_moves_45 : decode cX7_moves 45 = .ok (.goto 4, 3) := dk_167 0 4 (dk_at dksX7_moves_2 0 rfl rfl)
theorem dX7_moves_48 : decode cX7_moves 48 = .ok (.iconst 3, 1) := dk_6 (dk_at dksX7_moves_2 3 rfl rfl)
theorem dX7_moves_49 : decode cX7_moves 49 = .ok (.iconst (-1), 1) := dk_2 (dk_at dksX7_moves_2 4 rfl rfl)
theorem dX7_moves_50 : decode cX7_moves 50 = .ok (.invokevirtual 399, 3) := dk_182 1 143 (dk_at dksX7_moves_2 5 rfl rfl)
theorem dX7_moves_53 : decode cX7_moves 53 = .ok (.iconst 0, 1) := dk_3 (dk_at dksX7_moves_2 8 rfl rfl)
theorem dX7_moves_54 : decode cX7_moves 54 = .ok (.istore_n 2, 1) := dk_61 (dk_at dksX7_moves_2 9 rfl rfl)
theorem dX7_moves_55 : decode cX7_moves 55 = .ok (.iload_n 2, 1) := dk_28 (dk_at dksX7_moves_2 10 rfl rfl)
theorem dX7_moves_56 : decode cX7_moves 56 = .ok (.sipush 217, 3) := dk_17 0 217 (dk_at dksX7_moves_2 11 rfl rfl)
theorem dX7_moves_59 : decode cX7_moves 59 = .ok (.if_icmp .ge 16, 3) := dk_162 0 16 (dk_at dksX7_moves_2 14 rfl rfl)
theorem dX7_moves_62 : decode cX7_moves 62 = .ok (.aload_n 0, 1) := dk_42 (dk_at dksX7_moves_2 17 rfl rfl)
theorem dX7_moves_63 : decode cX7_moves 63 = .ok (.getfield 29, 3) := dk_180 0 29 (dk_at dksX7_moves_2 18 rfl rfl)
theorem dX7_moves_66 : decode cX7_moves 66 = .ok (.iload_n 2, 1) := dk_28 (dk_at dksX7_moves_2 21 rfl rfl)
theorem dX7_moves_67 : decode cX7_moves 67 = .ok (.iconst 0, 1) := dk_3 (dk_at dksX7_moves_2 22 rfl rfl)
theorem dX7_moves_68 : decode cX7_moves 68 = .ok (.iastore, 1) := dk_79 (dk_at dksX7_moves_2 23 rfl rfl)
theorem dX7_moves_69 : decode cX7_moves 69 = .ok (.iinc 2 1, 3) := dk_132 2 1 (dk_at dksX7_moves_3 0 rfl rfl)
theorem dX7_moves_72 : decode cX7_moves 72 = .ok (.goto (-17), 3) := dk_167 255 239 (dk_at dksX7_moves_3 3 rfl rfl)
theorem dX7_moves_75 : decode cX7_moves 75 = .ok (.iconst 0, 1) := dk_3 (dk_at dksX7_moves_3 6 rfl rfl)
theorem dX7_moves_76 : decode cX7_moves 76 = .ok (.istore_n 2, 1) := dk_61 (dk_at dksX7_moves_3 7 rfl rfl)
theorem dX7_moves_77 : decode cX7_moves 77 = .ok (.iload_n 2, 1) := dk_28 (dk_at dksX7_moves_3 8 rfl rfl)
theorem dX7_moves_78 : decode cX7_moves 78 = .ok (.aload_n 0, 1) := dk_42 (dk_at dksX7_moves_3 9 rfl rfl)
theorem dX7_moves_79 : decode cX7_moves 79 = .ok (.getfield 26, 3) := dk_180 0 26 (dk_at dksX7_moves_3 10 rfl rfl)
theorem dX7_moves_82 : decode cX7_moves 82 = .ok (.iconst 0, 1) := dk_3 (dk_at dksX7_moves_3 13 rfl rfl)
theorem dX7_moves_83 : decode cX7_moves 83 = .ok (.iaload, 1) := dk_46 (dk_at dksX7_moves_3 14 rfl rfl)
theorem dX7_moves_84 : decode cX7_moves 84 = .ok (.if_icmp .ge 39, 3) := dk_162 0 39 (dk_at dksX7_moves_3 15 rfl rfl)
theorem dX7_moves_87 : decode cX7_moves 87 = .ok (.aload_n 0, 1) := dk_42 (dk_at dksX7_moves_3 18 rfl rfl)
theorem dX7_moves_88 : decode cX7_moves 88 = .ok (.getfield 29, 3) := dk_180 0 29 (dk_at dksX7_moves_3 19 rfl rfl)
theorem dX7_moves_91 : decode cX7_moves 91 = .ok (.aload_n 0, 1) := dk_42 (dk_at dksX7_moves_3 22 rfl rfl)
theorem dX7_moves_92 : decode cX7_moves 92 = .ok (.getfield 20, 3) := dk_180 0 20 (dk_at dksX7_moves_4 0 rfl rfl)
theorem dX7_moves_95 : decode cX7_moves 95 = .ok (.iload_n 2, 1) := dk_28 (dk_at dksX7_moves_4 3 rfl rfl)
theorem dX7_moves_96 : decode cX7_moves 96 = .ok (.iaload, 1) := dk_46 (dk_at dksX7_moves_4 4 rfl rfl)
theorem dX7_moves_97 : decode cX7_moves 97 = .ok (.dup2, 1) := dk_92 (dk_at dksX7_moves_4 5 rfl rfl)
theorem dX7_moves_98 : decode cX7_moves 98 = .ok (.iaload, 1) := dk_46 (dk_at dksX7_moves_4 6 rfl rfl)
theorem dX7_moves_99 : decode cX7_moves 99 = .ok (.iconst 1, 1) := dk_4 (dk_at dksX7_moves_4 7 rfl rfl)
theorem dX7_moves_100 : decode cX7_moves 100 = .ok (.iadd, 1) := dk_96 (dk_at dksX7_moves_4 8 rfl rfl)
theorem dX7_moves_101 : decode cX7_moves 101 = .ok (.iastore, 1) := dk_79 (dk_at dksX7_moves_4 9 rfl rfl)
theorem dX7_moves_102 : decode cX7_moves 102 = .ok (.aload_n 0, 1) := dk_42 (dk_at dksX7_moves_4 10 rfl rfl)
theorem dX7_moves_103 : decode cX7_moves 103 = .ok (.getfield 29, 3) := dk_180 0 29 (dk_at dksX7_moves_4 11 rfl rfl)
theorem dX7_moves_106 : decode cX7_moves 106 = .ok (.aload_n 0, 1) := dk_42 (dk_at dksX7_moves_4 14 rfl rfl)
theorem dX7_moves_107 : decode cX7_moves 107 = .ok (.getfield 23, 3) := dk_180 0 23 (dk_at dksX7_moves_4 15 rfl rfl)
theorem dX7_moves_110 : decode cX7_moves 110 = .ok (.iload_n 2, 1) := dk_28 (dk_at dksX7_moves_4 18 rfl rfl)
theorem dX7_moves_111 : decode cX7_moves 111 = .ok (.iaload, 1) := dk_46 (dk_at dksX7_moves_4 19 rfl rfl)
theorem dX7_moves_112 : decode cX7_moves 112 = .ok (.dup2, 1) := dk_92 (dk_at dksX7_moves_4 20 rfl rfl)
theorem dX7_moves_113 : decode cX7_moves 113 = .ok (.iaload, 1) := dk_46 (dk_at dksX7_moves_4 21 rfl rfl)
theorem dX7_moves_114 : decode cX7_moves 114 = .ok (.iconst 1, 1) := dk_4 (dk_at dksX7_moves_4 22 rfl rfl)
theorem dX7_moves_115 : decode cX7_moves 115 = .ok (.iadd, 1) := dk_96 (dk_at dksX7_moves_4 23 rfl rfl)
theorem dX7_moves_116 : decode cX7_moves 116 = .ok (.iastore, 1) := dk_79 (dk_at dksX7_moves_5 0 rfl rfl)
theorem dX7_moves_117 : decode cX7_moves 117 = .ok (.iinc 2 1, 3) := dk_132 2 1 (dk_at dksX7_moves_5 1 rfl rfl)
theorem dX7_moves_120 : decode cX7_moves 120 = .ok (.goto (-43), 3) := dk_167 255 213 (dk_at dksX7_moves_5 4 rfl rfl)
theorem dX7_moves_123 : decode cX7_moves 123 = .ok (.iconst 0, 1) := dk_3 (dk_at dksX7_moves_5 7 rfl rfl)
theorem dX7_moves_124 : decode cX7_moves 124 = .ok (.istore_n 2, 1) := dk_61 (dk_at dksX7_moves_5 8 rfl rfl)
theorem dX7_moves_125 : decode cX7_moves 125 = .ok (.iconst 0, 1) := dk_3 (dk_at dksX7_moves_5 9 rfl rfl)
theorem dX7_moves_126 : decode cX7_moves 126 = .ok (.istore_n 3, 1) := dk_62 (dk_at dksX7_moves_5 10 rfl rfl)
theorem dX7_moves_127 : decode cX7_moves 127 = .ok (.iload_n 3, 1) := dk_29 (dk_at dksX7_moves_5 11 rfl rfl)
theorem dX7_moves_128 : decode cX7_moves 128 = .ok (.aload_n 0, 1) := dk_42 (dk_at dksX7_moves_5 12 rfl rfl)
theorem dX7_moves_129 : decode cX7_moves 129 = .ok (.getfield 26, 3) := dk_180 0 26 (dk_at dksX7_moves_5 13 rfl rfl)
theorem dX7_moves_132 : decode cX7_moves 132 = .ok (.iconst 0, 1) := dk_3 (dk_at dksX7_moves_5 16 rfl rfl)
theorem dX7_moves_133 : decode cX7_moves 133 = .ok (.iaload, 1) := dk_46 (dk_at dksX7_moves_5 17 rfl rfl)
theorem dX7_moves_134 : decode cX7_moves 134 = .ok (.if_icmp .ge 204, 3) := dk_162 0 204 (dk_at dksX7_moves_5 18 rfl rfl)
theorem dX7_moves_137 : decode cX7_moves 137 = .ok (.iconst 0, 1) := dk_3 (dk_at dksX7_moves_5 21 rfl rfl)
theorem dX7_moves_138 : decode cX7_moves 138 = .ok (.istore 4, 2) := dk_54 4 (dk_at dksX7_moves_5 22 rfl rfl)
theorem dX7_moves_140 : decode cX7_moves 140 = .ok (.iload 4, 2) := dk_21 4 (dk_at dksX7_moves_6 0 rfl rfl)
theorem dX7_moves_142 : decode cX7_moves 142 = .ok (.iconst 2, 1) := dk_5 (dk_at dksX7_moves_6 2 rfl rfl)
theorem dX7_moves_143 : decode cX7_moves 143 = .ok (.if_icmp .ge 189, 3) := dk_162 0 189 (dk_at dksX7_moves_6 3 rfl rfl)
theorem dX7_moves_146 : decode cX7_moves 146 = .ok (.iload 4, 2) := dk_21 4 (dk_at dksX7_moves_6 6 rfl rfl)
theorem dX7_moves_148 : decode cX7_moves 148 = .ok (.ifCond .ne 12, 3) := dk_154 0 12 (dk_at dksX7_moves_6 8 rfl rfl)
theorem dX7_moves_151 : decode cX7_moves 151 = .ok (.aload_n 0, 1) := dk_42 (dk_at dksX7_moves_6 11 rfl rfl)
theorem dX7_moves_152 : decode cX7_moves 152 = .ok (.getfield 20, 3) := dk_180 0 20 (dk_at dksX7_moves_6 12 rfl rfl)
theorem dX7_moves_155 : decode cX7_moves 155 = .ok (.iload_n 3, 1) := dk_29 (dk_at dksX7_moves_6 15 rfl rfl)
theorem dX7_moves_156 : decode cX7_moves 156 = .ok (.iaload, 1) := dk_46 (dk_at dksX7_moves_6 16 rfl rfl)
theorem dX7_moves_157 : decode cX7_moves 157 = .ok (.goto 9, 3) := dk_167 0 9 (dk_at dksX7_moves_6 17 rfl rfl)
theorem dX7_moves_160 : decode cX7_moves 160 = .ok (.aload_n 0, 1) := dk_42 (dk_at dksX7_moves_6 20 rfl rfl)
theorem dX7_moves_161 : decode cX7_moves 161 = .ok (.getfield 23, 3) := dk_180 0 23 (dk_at dksX7_moves_6 21 rfl rfl)
theorem dX7_moves_164 : decode cX7_moves 164 = .ok (.iload_n 3, 1) := dk_29 (dk_at dksX7_moves_7 0 rfl rfl)
theorem dX7_moves_165 : decode cX7_moves 165 = .ok (.iaload, 1) := dk_46 (dk_at dksX7_moves_7 1 rfl rfl)
theorem dX7_moves_166 : decode cX7_moves 166 = .ok (.istore 5, 2) := dk_54 5 (dk_at dksX7_moves_7 2 rfl rfl)
theorem dX7_moves_168 : decode cX7_moves 168 = .ok (.iload 4, 2) := dk_21 4 (dk_at dksX7_moves_7 4 rfl rfl)
theorem dX7_moves_170 : decode cX7_moves 170 = .ok (.ifCond .ne 12, 3) := dk_154 0 12 (dk_at dksX7_moves_7 6 rfl rfl)
theorem dX7_moves_173 : decode cX7_moves 173 = .ok (.aload_n 0, 1) := dk_42 (dk_at dksX7_moves_7 9 rfl rfl)
theorem dX7_moves_174 : decode cX7_moves 174 = .ok (.getfield 23, 3) := dk_180 0 23 (dk_at dksX7_moves_7 10 rfl rfl)
theorem dX7_moves_177 : decode cX7_moves 177 = .ok (.iload_n 3, 1) := dk_29 (dk_at dksX7_moves_7 13 rfl rfl)
theorem dX7_moves_178 : decode cX7_moves 178 = .ok (.iaload, 1) := dk_46 (dk_at dksX7_moves_7 14 rfl rfl)
theorem dX7_moves_179 : decode cX7_moves 179 = .ok (.goto 9, 3) := dk_167 0 9 (dk_at dksX7_moves_7 15 rfl rfl)
theorem dX7_moves_182 : decode cX7_moves 182 = .ok (.aload_n 0, 1) := dk_42 (dk_at dksX7_moves_7 18 rfl rfl)
theorem dX7_moves_183 : decode cX7_moves 183 = .ok (.getfield 20, 3) := dk_180 0 20 (dk_at dksX7_moves_7 19 rfl rfl)
theorem dX7_moves_186 : decode cX7_moves 186 = .ok (.iload_n 3, 1) := dk_29 (dk_at dksX7_moves_7 22 rfl rfl)
theorem dX7_moves_187 : decode cX7_moves 187 = .ok (.iaload, 1) := dk_46 (dk_at dksX7_moves_7 23 rfl rfl)
theorem dX7_moves_188 : decode cX7_moves 188 = .ok (.istore 6, 2) := dk_54 6 (dk_at dksX7_moves_8 0 rfl rfl)
theorem dX7_moves_190 : decode cX7_moves 190 = .ok (.iload 5, 2) := dk_21 5 (dk_at dksX7_moves_8 2 rfl rfl)
theorem dX7_moves_192 : decode cX7_moves 192 = .ok (.invokestatic 450, 3) := dk_184 1 194 (dk_at dksX7_moves_8 4 rfl rfl)
theorem dX7_moves_195 : decode cX7_moves 195 = .ok (.istore 7, 2) := dk_54 7 (dk_at dksX7_moves_8 7 rfl rfl)
theorem dX7_moves_197 : decode cX7_moves 197 = .ok (.iload 7, 2) := dk_21 7 (dk_at dksX7_moves_8 9 rfl rfl)
theorem dX7_moves_199 : decode cX7_moves 199 = .ok (.istore 8, 2) := dk_54 8 (dk_at dksX7_moves_8 11 rfl rfl)
theorem dX7_moves_201 : decode cX7_moves 201 = .ok (.iload 8, 2) := dk_21 8 (dk_at dksX7_moves_8 13 rfl rfl)
theorem dX7_moves_203 : decode cX7_moves 203 = .ok (.sipush 217, 3) := dk_17 0 217 (dk_at dksX7_moves_8 15 rfl rfl)
theorem dX7_moves_206 : decode cX7_moves 206 = .ok (.if_icmp .ge 120, 3) := dk_162 0 120 (dk_at dksX7_moves_8 18 rfl rfl)
theorem dX7_moves_209 : decode cX7_moves 209 = .ok (.iload 8, 2) := dk_21 8 (dk_at dksX7_moves_8 21 rfl rfl)
theorem dX7_moves_211 : decode cX7_moves 211 = .ok (.invokestatic 450, 3) := dk_184 1 194 (dk_at dksX7_moves_9 0 rfl rfl)
theorem dX7_moves_214 : decode cX7_moves 214 = .ok (.iload 7, 2) := dk_21 7 (dk_at dksX7_moves_9 3 rfl rfl)
theorem dX7_moves_216 : decode cX7_moves 216 = .ok (.if_icmp .ne 110, 3) := dk_160 0 110 (dk_at dksX7_moves_9 5 rfl rfl)
theorem dX7_moves_219 : decode cX7_moves 219 = .ok (.iload 8, 2) := dk_21 8 (dk_at dksX7_moves_9 8 rfl rfl)
theorem dX7_moves_221 : decode cX7_moves 221 = .ok (.iload 5, 2) := dk_21 5 (dk_at dksX7_moves_9 10 rfl rfl)
theorem dX7_moves_223 : decode cX7_moves 223 = .ok (.if_icmp .eq 97, 3) := dk_159 0 97 (dk_at dksX7_moves_9 12 rfl rfl)
theorem dX7_moves_226 : decode cX7_moves 226 = .ok (.iload 8, 2) := dk_21 8 (dk_at dksX7_moves_9 15 rfl rfl)
theorem dX7_moves_228 : decode cX7_moves 228 = .ok (.iload 6, 2) := dk_21 6 (dk_at dksX7_moves_9 17 rfl rfl)
theorem dX7_moves_230 : decode cX7_moves 230 = .ok (.if_icmp .eq 90, 3) := dk_159 0 90 (dk_at dksX7_moves_9 19 rfl rfl)
theorem dX7_moves_233 : decode cX7_moves 233 = .ok (.aload_n 0, 1) := dk_42 (dk_at dksX7_moves_9 22 rfl rfl)
theorem dX7_moves_234 : decode cX7_moves 234 = .ok (.getfield 29, 3) := dk_180 0 29 (dk_at dksX7_moves_10 0 rfl rfl)
theorem dX7_moves_237 : decode cX7_moves 237 = .ok (.iload 8, 2) := dk_21 8 (dk_at dksX7_moves_10 3 rfl rfl)
theorem dX7_moves_239 : decode cX7_moves 239 = .ok (.iaload, 1) := dk_46 (dk_at dksX7_moves_10 5 rfl rfl)
theorem dX7_moves_240 : decode cX7_moves 240 = .ok (.iload 8, 2) := dk_21 8 (dk_at dksX7_moves_10 6 rfl rfl)
theorem dX7_moves_242 : decode cX7_moves 242 = .ok (.invokestatic 336, 3) := dk_184 1 80 (dk_at dksX7_moves_10 8 rfl rfl)
theorem dX7_moves_245 : decode cX7_moves 245 = .ok (.if_icmp .ne 6, 3) := dk_160 0 6 (dk_at dksX7_moves_10 11 rfl rfl)
theorem dX7_moves_248 : decode cX7_moves 248 = .ok (.goto 72, 3) := dk_167 0 72 (dk_at dksX7_moves_10 14 rfl rfl)
theorem dX7_moves_251 : decode cX7_moves 251 = .ok (.aload_n 0, 1) := dk_42 (dk_at dksX7_moves_10 17 rfl rfl)
theorem dX7_moves_252 : decode cX7_moves 252 = .ok (.iload_n 3, 1) := dk_29 (dk_at dksX7_moves_10 18 rfl rfl)
theorem dX7_moves_253 : decode cX7_moves 253 = .ok (.iload 4, 2) := dk_21 4 (dk_at dksX7_moves_10 19 rfl rfl)
theorem dX7_moves_255 : decode cX7_moves 255 = .ok (.iload 8, 2) := dk_21 8 (dk_at dksX7_moves_10 21 rfl rfl)
theorem dX7_moves_257 : decode cX7_moves 257 = .ok (.invokevirtual 453, 3) := dk_182 1 197 (dk_at dksX7_moves_11 0 rfl rfl)
theorem dX7_moves_260 : decode cX7_moves 260 = .ok (.aload_n 0, 1) := dk_42 (dk_at dksX7_moves_11 3 rfl rfl)
theorem dX7_moves_261 : decode cX7_moves 261 = .ok (.bipush 40, 2) := dk_16 40 (dk_at dksX7_moves_11 4 rfl rfl)
theorem dX7_moves_263 : decode cX7_moves 263 = .ok (.invokevirtual 403, 3) := dk_182 1 147 (dk_at dksX7_moves_11 6 rfl rfl)
theorem dX7_moves_266 : decode cX7_moves 266 = .ok (.aload_n 0, 1) := dk_42 (dk_at dksX7_moves_11 9 rfl rfl)
theorem dX7_moves_267 : decode cX7_moves 267 = .ok (.iload_n 3, 1) := dk_29 (dk_at dksX7_moves_11 10 rfl rfl)
theorem dX7_moves_268 : decode cX7_moves 268 = .ok (.iload 4, 2) := dk_21 4 (dk_at dksX7_moves_11 11 rfl rfl)
theorem dX7_moves_270 : decode cX7_moves 270 = .ok (.iload 5, 2) := dk_21 5 (dk_at dksX7_moves_11 13 rfl rfl)
theorem dX7_moves_272 : decode cX7_moves 272 = .ok (.invokevirtual 453, 3) := dk_182 1 197 (dk_at dksX7_moves_11 15 rfl rfl)
theorem dX7_moves_275 : decode cX7_moves 275 = .ok (.aload_n 0, 1) := dk_42 (dk_at dksX7_moves_11 18 rfl rfl)
theorem dX7_moves_276 : decode cX7_moves 276 = .ok (.invokevirtual 438, 3) := dk_182 1 182 (dk_at dksX7_moves_11 19 rfl rfl)
theorem dX7_moves_279 : decode cX7_moves 279 = .ok (.ifCond .ne 6, 3) := dk_154 0 6 (dk_at dksX7_moves_12 0 rfl rfl)
theorem dX7_moves_282 : decode cX7_moves 282 = .ok (.goto 38, 3) := dk_167 0 38 (dk_at dksX7_moves_12 3 rfl rfl)
theorem dX7_moves_285 : decode cX7_moves 285 = .ok (.iload_n 2, 1) := dk_28 (dk_at dksX7_moves_12 6 rfl rfl)
theorem dX7_moves_286 : decode cX7_moves 286 = .ok (.bipush 100, 2) := dk_16 100 (dk_at dksX7_moves_12 7 rfl rfl)
theorem dX7_moves_288 : decode cX7_moves 288 = .ok (.if_icmp .ge 29, 3) := dk_162 0 29 (dk_at dksX7_moves_12 9 rfl rfl)
theorem dX7_moves_291 : decode cX7_moves 291 = .ok (.aload_n 0, 1) := dk_42 (dk_at dksX7_moves_12 12 rfl rfl)
theorem dX7_moves_292 : decode cX7_moves 292 = .ok (.getfield 112, 3) := dk_180 0 112 (dk_at dksX7_moves_12 13 rfl rfl)
theorem dX7_moves_295 : decode cX7_moves 295 = .ok (.iload_n 2, 1) := dk_28 (dk_at dksX7_moves_12 16 rfl rfl)
theorem dX7_moves_296 : decode cX7_moves 296 = .ok (.iload_n 3, 1) := dk_29 (dk_at dksX7_moves_12 17 rfl rfl)
theorem dX7_moves_297 : decode cX7_moves 297 = .ok (.iastore, 1) := dk_79 (dk_at dksX7_moves_12 18 rfl rfl)
theorem dX7_moves_298 : decode cX7_moves 298 = .ok (.aload_n 0, 1) := dk_42 (dk_at dksX7_moves_12 19 rfl rfl)
theorem dX7_moves_299 : decode cX7_moves 299 = .ok (.getfield 115, 3) := dk_180 0 115 (dk_at dksX7_moves_12 20 rfl rfl)
theorem dX7_moves_302 : decode cX7_moves 302 = .ok (.iload_n 2, 1) := dk_28 (dk_at dksX7_moves_12 23 rfl rfl)
theorem dX7_moves_303 : decode cX7_moves 303 = .ok (.iload 4, 2) := dk_21 4 (dk_at dksX7_moves_13 0 rfl rfl)
theorem dX7_moves_305 : decode cX7_moves 305 = .ok (.iastore, 1) := dk_79 (dk_at dksX7_moves_13 2 rfl rfl)
theorem dX7_moves_306 : decode cX7_moves 306 = .ok (.aload_n 0, 1) := dk_42 (dk_at dksX7_moves_13 3 rfl rfl)
theorem dX7_moves_307 : decode cX7_moves 307 = .ok (.getfield 118, 3) := dk_180 0 118 (dk_at dksX7_moves_13 4 rfl rfl)
theorem dX7_moves_310 : decode cX7_moves 310 = .ok (.iload_n 2, 1) := dk_28 (dk_at dksX7_moves_13 7 rfl rfl)
theorem dX7_moves_311 : decode cX7_moves 311 = .ok (.iload 8, 2) := dk_21 8 (dk_at dksX7_moves_13 8 rfl rfl)
theorem dX7_moves_313 : decode cX7_moves 313 = .ok (.iload 7, 2) := dk_21 7 (dk_at dksX7_moves_13 10 rfl rfl)
theorem dX7_moves_315 : decode cX7_moves 315 = .ok (.isub, 1) := dk_100 (dk_at dksX7_moves_13 12 rfl rfl)
theorem dX7_moves_316 : decode cX7_moves 316 = .ok (.iastore, 1) := dk_79 (dk_at dksX7_moves_13 13 rfl rfl)
theorem dX7_moves_317 : decode cX7_moves 317 = .ok (.iinc 2 1, 3) := dk_132 2 1 (dk_at dksX7_moves_13 14 rfl rfl)
theorem dX7_moves_320 : decode cX7_moves 320 = .ok (.iinc 8 1, 3) := dk_132 8 1 (dk_at dksX7_moves_13 17 rfl rfl)
theorem dX7_moves_323 : decode cX7_moves 323 = .ok (.goto (-122), 3) := dk_167 255 134 (dk_at dksX7_moves_13 20 rfl rfl)
theorem dX7_moves_326 : decode cX7_moves 326 = .ok (.iinc 4 1, 3) := dk_132 4 1 (dk_at dksX7_moves_14 0 rfl rfl)
theorem dX7_moves_329 : decode cX7_moves 329 = .ok (.goto (-189), 3) := dk_167 255 67 (dk_at dksX7_moves_14 3 rfl rfl)
theorem dX7_moves_332 : decode cX7_moves 332 = .ok (.iinc 3 1, 3) := dk_132 3 1 (dk_at dksX7_moves_14 6 rfl rfl)
theorem dX7_moves_335 : decode cX7_moves 335 = .ok (.goto (-208), 3) := dk_167 255 48 (dk_at dksX7_moves_14 9 rfl rfl)
theorem dX7_moves_338 : decode cX7_moves 338 = .ok (.aload_n 0, 1) := dk_42 (dk_at dksX7_moves_14 12 rfl rfl)
theorem dX7_moves_339 : decode cX7_moves 339 = .ok (.iload_n 2, 1) := dk_28 (dk_at dksX7_moves_14 13 rfl rfl)
theorem dX7_moves_340 : decode cX7_moves 340 = .ok (.bipush 100, 2) := dk_16 100 (dk_at dksX7_moves_14 14 rfl rfl)
theorem dX7_moves_342 : decode cX7_moves 342 = .ok (.if_icmp .ge 7, 3) := dk_162 0 7 (dk_at dksX7_moves_14 16 rfl rfl)
theorem dX7_moves_345 : decode cX7_moves 345 = .ok (.iload_n 2, 1) := dk_28 (dk_at dksX7_moves_14 19 rfl rfl)
theorem dX7_moves_346 : decode cX7_moves 346 = .ok (.goto 5, 3) := dk_167 0 5 (dk_at dksX7_moves_14 20 rfl rfl)
theorem dX7_moves_349 : decode cX7_moves 349 = .ok (.bipush 100, 2) := dk_16 100 (dk_at dksX7_moves_15 0 rfl rfl)
theorem dX7_moves_351 : decode cX7_moves 351 = .ok (.putfield 457, 3) := dk_181 1 201 (dk_at dksX7_moves_15 2 rfl rfl)
theorem dX7_moves_354 : decode cX7_moves 354 = .ok (.iload_n 2, 1) := dk_28 (dk_at dksX7_moves_15 5 rfl rfl)
theorem dX7_moves_355 : decode cX7_moves 355 = .ok (.ireturn, 1) := dk_172 (dk_at dksX7_moves_15 6 rfl rfl)
abbrev cX7_beginOf : ByteArray := prog_14_method_65_code
def yX7_beginOf : MethodName := ⟨RX7, "beginOf", "(I)I"⟩
def dkwX7_beginOf_11 : List UInt8 := [167, 0, 19, 26, 17, 0, 205, 162, 0, 9, 17, 0, 193, 167, 0, 6, 17, 0, 205, 172]
abbrev dktX7_beginOf_11 : List UInt8 := dkwX7_beginOf_11 ++ []
def dkwX7_beginOf_10 : List UInt8 := [17, 0, 181, 162, 0, 9, 17, 0, 180, 167, 0, 32, 26, 17, 0, 193, 162, 0, 9, 17, 0, 181]
abbrev dktX7_beginOf_10 : List UInt8 := dkwX7_beginOf_10 ++ dktX7_beginOf_11
def dkwX7_beginOf_9 : List UInt8 := [162, 0, 9, 17, 0, 159, 167, 0, 58, 26, 17, 0, 180, 162, 0, 9, 17, 0, 179, 167, 0, 45, 26]
abbrev dktX7_beginOf_9 : List UInt8 := dkwX7_beginOf_9 ++ dktX7_beginOf_10
def dkwX7_beginOf_8 : List UInt8 := [17, 0, 152, 167, 0, 84, 26, 17, 0, 159, 162, 0, 9, 17, 0, 156, 167, 0, 71, 26, 17, 0, 179]
abbrev dktX7_beginOf_8 : List UInt8 := dkwX7_beginOf_8 ++ dktX7_beginOf_9
def dkwX7_beginOf_7 : List UInt8 := [167, 0, 110, 26, 17, 0, 152, 162, 0, 9, 17, 0, 148, 167, 0, 97, 26, 17, 0, 156, 162, 0, 9]
abbrev dktX7_beginOf_7 : List UInt8 := dkwX7_beginOf_7 ++ dktX7_beginOf_8
def dkwX7_beginOf_6 : List UInt8 := [17, 0, 144, 162, 0, 9, 17, 0, 132, 167, 0, 123, 26, 17, 0, 148, 162, 0, 9, 17, 0, 144]
abbrev dktX7_beginOf_6 : List UInt8 := dkwX7_beginOf_6 ++ dktX7_beginOf_7
def dkwX7_beginOf_5 : List UInt8 := [162, 0, 8, 16, 124, 167, 0, 149, 26, 17, 0, 132, 162, 0, 9, 17, 0, 128, 167, 0, 136, 26]
abbrev dktX7_beginOf_5 : List UInt8 := dkwX7_beginOf_5 ++ dktX7_beginOf_6
def dkwX7_beginOf_4 : List UInt8 := [162, 0, 8, 16, 96, 167, 0, 172, 26, 16, 124, 162, 0, 8, 16, 120, 167, 0, 161, 26, 17, 0, 128]
abbrev dktX7_beginOf_4 : List UInt8 := dkwX7_beginOf_4 ++ dktX7_beginOf_5
def dkwX7_beginOf_3 : List UInt8 := [162, 0, 8, 16, 68, 167, 0, 194, 26, 16, 96, 162, 0, 8, 16, 92, 167, 0, 183, 26, 16, 120]
abbrev dktX7_beginOf_3 : List UInt8 := dkwX7_beginOf_3 ++ dktX7_beginOf_4
def dkwX7_beginOf_2 : List UInt8 := [162, 0, 8, 16, 61, 167, 0, 216, 26, 16, 68, 162, 0, 8, 16, 65, 167, 0, 205, 26, 16, 92]
abbrev dktX7_beginOf_2 : List UInt8 := dkwX7_beginOf_2 ++ dktX7_beginOf_3
def dkwX7_beginOf_1 : List UInt8 := [162, 0, 8, 16, 40, 167, 0, 238, 26, 16, 61, 162, 0, 8, 16, 60, 167, 0, 227, 26, 16, 65]
abbrev dktX7_beginOf_1 : List UInt8 := dkwX7_beginOf_1 ++ dktX7_beginOf_2
def dkwX7_beginOf_0 : List UInt8 := [26, 16, 20, 162, 0, 7, 3, 167, 1, 4, 26, 16, 40, 162, 0, 8, 16, 20, 167, 0, 249, 26, 16, 60]
abbrev dktX7_beginOf_0 : List UInt8 := dkwX7_beginOf_0 ++ dktX7_beginOf_1
theorem dksX7_beginOf_0 : cX7_beginOf.data.toList.drop 0 = dktX7_beginOf_0 := by decide +kernel
theorem dksX7_beginOf_1 : cX7_beginOf.data.toList.drop 24 = dktX7_beginOf_1 := dk_seg dksX7_beginOf_0 24 rfl rfl
theorem dksX7_beginOf_2 : cX7_beginOf.data.toList.drop 46 = dktX7_beginOf_2 := dk_seg dksX7_beginOf_1 22 rfl rfl
theorem dksX7_beginOf_3 : cX7_beginOf.data.toList.drop 68 = dktX7_beginOf_3 := dk_seg dksX7_beginOf_2 22 rfl rfl
theorem dksX7_beginOf_4 : cX7_beginOf.data.toList.drop 90 = dktX7_beginOf_4 := dk_seg dksX7_beginOf_3 22 rfl rfl
theorem dksX7_beginOf_5 : cX7_beginOf.data.toList.drop 113 = dktX7_beginOf_5 := dk_seg dksX7_beginOf_4 23 rfl rfl
theorem dksX7_beginOf_6 : cX7_beginOf.data.toList.drop 135 = dktX7_beginOf_6 := dk_seg dksX7_beginOf_5 22 rfl rfl
theorem dksX7_beginOf_7 : cX7_beginOf.data.toList.drop 157 = dktX7_beginOf_7 := dk_seg dksX7_beginOf_6 22 rfl rfl
theorem dksX7_beginOf_8 : cX7_beginOf.data.toList.drop 180 = dktX7_beginOf_8 := dk_seg dksX7_beginOf_7 23 rfl rfl
theorem dksX7_beginOf_9 : cX7_beginOf.data.toList.drop 203 = dktX7_beginOf_9 := dk_seg dksX7_beginOf_8 23 rfl rfl
theorem dksX7_beginOf_10 : cX7_beginOf.data.toList.drop 226 = dktX7_beginOf_10 := dk_seg dksX7_beginOf_9 23 rfl rfl
theorem dksX7_beginOf_11 : cX7_beginOf.data.toList.drop 248 = dktX7_beginOf_11 := dk_seg dksX7_beginOf_10 22 rfl rfl
theorem dX7_beginOf_0 : decode cX7_beginOf 0 = .ok (.iload_n 0, 1) := dk_26 (dk_at dksX7_beginOf_0 0 rfl rfl)
theorem dX7_beginOf_1 : decode cX7_beginOf 1 = .ok (.bipush 20, 2) := dk_16 20 (dk_at dksX7_beginOf_0 1 rfl rfl)
theorem dX7_beginOf_3 : decode cX7_beginOf 3 = .ok (.if_icmp .ge 7, 3) := dk_162 0 7 (dk_at dksX7_beginOf_0 3 rfl rfl)
theorem dX7_beginOf_6 : decode cX7_beginOf 6 = .ok (.iconst 0, 1) := dk_3 (dk_at dksX7_beginOf_0 6 rfl rfl)
theorem dX7_beginOf_7 : decode cX7_beginOf 7 = .ok (.goto 260, 3) := dk_167 1 4 (dk_at dksX7_beginOf_0 7 rfl rfl)
theorem dX7_beginOf_10 : decode cX7_beginOf 10 = .ok (.iload_n 0, 1) := dk_26 (dk_at dksX7_beginOf_0 10 rfl rfl)
theorem dX7_beginOf_11 : decode cX7_beginOf 11 = .ok (.bipush 40, 2) := dk_16 40 (dk_at dksX7_beginOf_0 11 rfl rfl)
theorem dX7_beginOf_13 : decode cX7_beginOf 13 = .ok (.if_icmp .ge 8, 3) := dk_162 0 8 (dk_at dksX7_beginOf_0 13 rfl rfl)
theorem dX7_beginOf_16 : decode cX7_beginOf 16 = .ok (.bipush 20, 2) := dk_16 20 (dk_at dksX7_beginOf_0 16 rfl rfl)
theorem dX7_beginOf_18 : decode cX7_beginOf 18 = .ok (.goto 249, 3) := dk_167 0 249 (dk_at dksX7_beginOf_0 18 rfl rfl)
theorem dX7_beginOf_21 : decode cX7_beginOf 21 = .ok (.iload_n 0, 1) := dk_26 (dk_at dksX7_beginOf_0 21 rfl rfl)
theorem dX7_beginOf_22 : decode cX7_beginOf 22 = .ok (.bipush 60, 2) := dk_16 60 (dk_at dksX7_beginOf_0 22 rfl rfl)
theorem dX7_beginOf_24 : decode cX7_beginOf 24 = .ok (.if_icmp .ge 8, 3) := dk_162 0 8 (dk_at dksX7_beginOf_1 0 rfl rfl)
theorem dX7_beginOf_27 : decode cX7_beginOf 27 = .ok (.bipush 40, 2) := dk_16 40 (dk_at dksX7_beginOf_1 3 rfl rfl)
theorem dX7_beginOf_29 : decode cX7_beginOf 29 = .ok (.goto 238, 3) := dk_167 0 238 (dk_at dksX7_beginOf_1 5 rfl rfl)
theorem dX7_beginOf_32 : decode cX7_beginOf 32 = .ok (.iload_n 0, 1) := dk_26 (dk_at dksX7_beginOf_1 8 rfl rfl)
theorem dX7_beginOf_33 : decode cX7_beginOf 33 = .ok (.bipush 61, 2) := dk_16 61 (dk_at dksX7_beginOf_1 9 rfl rfl)
theorem dX7_beginOf_35 : decode cX7_beginOf 35 = .ok (.if_icmp .ge 8, 3) := dk_162 0 8 (dk_at dksX7_beginOf_1 11 rfl rfl)
theorem dX7_beginOf_38 : decode cX7_beginOf 38 = .ok (.bipush 60, 2) := dk_16 60 (dk_at dksX7_beginOf_1 14 rfl rfl)
theorem dX7_beginOf_40 : decode cX7_beginOf 40 = .ok (.goto 227, 3) := dk_167 0 227 (dk_at dksX7_beginOf_1 16 rfl rfl)
theorem dX7_beginOf_43 : decode cX7_beginOf 43 = .ok (.iload_n 0, 1) := dk_26 (dk_at dksX7_beginOf_1 19 rfl rfl)
theorem dX7_beginOf_44 : decode cX7_beginOf 44 = .ok (.bipush 65, 2) := dk_16 65 (dk_at dksX7_beginOf_1 20 rfl rfl)
theorem dX7_beginOf_46 : decode cX7_beginOf 46 = .ok (.if_icmp .ge 8, 3) := dk_162 0 8 (dk_at dksX7_beginOf_2 0 rfl rfl)
theorem dX7_beginOf_49 : decode cX7_beginOf 49 = .ok (.bipush 61, 2) := dk_16 61 (dk_at dksX7_beginOf_2 3 rfl rfl)
theorem dX7_beginOf_51 : decode cX7_beginOf 51 = .ok (.goto 216, 3) := dk_167 0 216 (dk_at dksX7_beginOf_2 5 rfl rfl)
theorem dX7_beginOf_54 : decode cX7_beginOf 54 = .ok (.iload_n 0, 1) := dk_26 (dk_at dksX7_beginOf_2 8 rfl rfl)
theorem dX7_beginOf_55 : decode cX7_beginOf 55 = .ok (.bipush 68, 2) := dk_16 68 (dk_at dksX7_beginOf_2 9 rfl rfl)
theorem dX7_beginOf_57 : decode cX7_beginOf 57 = .ok (.if_icmp .ge 8, 3) := dk_162 0 8 (dk_at dksX7_beginOf_2 11 rfl rfl)
theorem dX7_beginOf_60 : decode cX7_beginOf 60 = .ok (.bipush 65, 2) := dk_16 65 (dk_at dksX7_beginOf_2 14 rfl rfl)
theorem dX7_beginOf_62 : decode cX7_beginOf 62 = .ok (.goto 205, 3) := dk_167 0 205 (dk_at dksX7_beginOf_2 16 rfl rfl)
theorem dX7_beginOf_65 : decode cX7_beginOf 65 = .ok (.iload_n 0, 1) := dk_26 (dk_at dksX7_beginOf_2 19 rfl rfl)
theorem dX7_beginOf_66 : decode cX7_beginOf 66 = .ok (.bipush 92, 2) := dk_16 92 (dk_at dksX7_beginOf_2 20 rfl rfl)
theorem dX7_beginOf_68 : decode cX7_beginOf 68 = .ok (.if_icmp .ge 8, 3) := dk_162 0 8 (dk_at dksX7_beginOf_3 0 rfl rfl)
theorem dX7_beginOf_71 : decode cX7_beginOf 71 = .ok (.bipush 68, 2) := dk_16 68 (dk_at dksX7_beginOf_3 3 rfl rfl)
theorem dX7_beginOf_73 : decode cX7_beginOf 73 = .ok (.goto 194, 3) := dk_167 0 194 (dk_at dksX7_beginOf_3 5 rfl rfl)
theorem dX7_beginOf_76 : decode cX7_beginOf 76 = .ok (.iload_n 0, 1) := dk_26 (dk_at dksX7_beginOf_3 8 rfl rfl)
theorem dX7_beginOf_77 : decode cX7_beginOf 77 = .ok (.bipush 96, 2) := dk_16 96 (dk_at dksX7_beginOf_3 9 rfl rfl)
theorem dX7_beginOf_79 : decode cX7_beginOf 79 = .ok (.if_icmp .ge 8, 3) := dk_162 0 8 (dk_at dksX7_beginOf_3 11 rfl rfl)
theorem dX7_beginOf_82 : decode cX7_beginOf 82 = .ok (.bipush 92, 2) := dk_16 92 (dk_at dksX7_beginOf_3 14 rfl rfl)
theorem dX7_beginOf_84 : decode cX7_beginOf 84 = .ok (.goto 183, 3) := dk_167 0 183 (dk_at dksX7_beginOf_3 16 rfl rfl)
theorem dX7_beginOf_87 : decode cX7_beginOf 87 = .ok (.iload_n 0, 1) := dk_26 (dk_at dksX7_beginOf_3 19 rfl rfl)
theorem dX7_beginOf_88 : decode cX7_beginOf 88 = .ok (.bipush 120, 2) := dk_16 120 (dk_at dksX7_beginOf_3 20 rfl rfl)
theorem dX7_beginOf_90 : decode cX7_beginOf 90 = .ok (.if_icmp .ge 8, 3) := dk_162 0 8 (dk_at dksX7_beginOf_4 0 rfl rfl)
theorem dX7_beginOf_93 : decode cX7_beginOf 93 = .ok (.bipush 96, 2) := dk_16 96 (dk_at dksX7_beginOf_4 3 rfl rfl)
theorem dX7_beginOf_95 : decode cX7_beginOf 95 = .ok (.goto 172, 3) := dk_167 0 172 (dk_at dksX7_beginOf_4 5 rfl rfl)
theorem dX7_beginOf_98 : decode cX7_beginOf 98 = .ok (.iload_n 0, 1) := dk_26 (dk_at dksX7_beginOf_4 8 rfl rfl)
theorem dX7_beginOf_99 : decode cX7_beginOf 99 = .ok (.bipush 124, 2) := dk_16 124 (dk_at dksX7_beginOf_4 9 rfl rfl)
theorem dX7_beginOf_101 : decode cX7_beginOf 101 = .ok (.if_icmp .ge 8, 3) := dk_162 0 8 (dk_at dksX7_beginOf_4 11 rfl rfl)
theorem dX7_beginOf_104 : decode cX7_beginOf 104 = .ok (.bipush 120, 2) := dk_16 120 (dk_at dksX7_beginOf_4 14 rfl rfl)
theorem dX7_beginOf_106 : decode cX7_beginOf 106 = .ok (.goto 161, 3) := dk_167 0 161 (dk_at dksX7_beginOf_4 16 rfl rfl)
theorem dX7_beginOf_109 : decode cX7_beginOf 109 = .ok (.iload_n 0, 1) := dk_26 (dk_at dksX7_beginOf_4 19 rfl rfl)
theorem dX7_beginOf_110 : decode cX7_beginOf 110 = .ok (.sipush 128, 3) := dk_17 0 128 (dk_at dksX7_beginOf_4 20 rfl rfl)
theorem dX7_beginOf_113 : decode cX7_beginOf 113 = .ok (.if_icmp .ge 8, 3) := dk_162 0 8 (dk_at dksX7_beginOf_5 0 rfl rfl)
theorem dX7_beginOf_116 : decode cX7_beginOf 116 = .ok (.bipush 124, 2) := dk_16 124 (dk_at dksX7_beginOf_5 3 rfl rfl)
theorem dX7_beginOf_118 : decode cX7_beginOf 118 = .ok (.goto 149, 3) := dk_167 0 149 (dk_at dksX7_beginOf_5 5 rfl rfl)
theorem dX7_beginOf_121 : decode cX7_beginOf 121 = .ok (.iload_n 0, 1) := dk_26 (dk_at dksX7_beginOf_5 8 rfl rfl)
theorem dX7_beginOf_122 : decode cX7_beginOf 122 = .ok (.sipush 132, 3) := dk_17 0 132 (dk_at dksX7_beginOf_5 9 rfl rfl)
theorem dX7_beginOf_125 : decode cX7_beginOf 125 = .ok (.if_icmp .ge 9, 3) := dk_162 0 9 (dk_at dksX7_beginOf_5 12 rfl rfl)
theorem dX7_beginOf_128 : decode cX7_beginOf 128 = .ok (.sipush 128, 3) := dk_17 0 128 (dk_at dksX7_beginOf_5 15 rfl rfl)
theorem dX7_beginOf_131 : decode cX7_beginOf 131 = .ok (.goto 136, 3) := dk_167 0 136 (dk_at dksX7_beginOf_5 18 rfl rfl)
theorem dX7_beginOf_134 : decode cX7_beginOf 134 = .ok (.iload_n 0, 1) := dk_26 (dk_at dksX7_beginOf_5 21 rfl rfl)
theorem dX7_beginOf_135 : decode cX7_beginOf 135 = .ok (.sipush 144, 3) := dk_17 0 144 (dk_at dksX7_beginOf_6 0 rfl rfl)
theorem dX7_beginOf_138 : decode cX7_beginOf 138 = .ok (.if_icmp .ge 9, 3) := dk_162 0 9 (dk_at dksX7_beginOf_6 3 rfl rfl)
theorem dX7_beginOf_141 : decode cX7_beginOf 141 = .ok (.sipush 132, 3) := dk_17 0 132 (dk_at dksX7_beginOf_6 6 rfl rfl)
theorem dX7_beginOf_144 : decode cX7_beginOf 144 = .ok (.goto 123, 3) := dk_167 0 123 (dk_at dksX7_beginOf_6 9 rfl rfl)
theorem dX7_beginOf_147 : decode cX7_beginOf 147 = .ok (.iload_n 0, 1) := dk_26 (dk_at dksX7_beginOf_6 12 rfl rfl)
theorem dX7_beginOf_148 : decode cX7_beginOf 148 = .ok (.sipush 148, 3) := dk_17 0 148 (dk_at dksX7_beginOf_6 13 rfl rfl)
theorem dX7_beginOf_151 : decode cX7_beginOf 151 = .ok (.if_icmp .ge 9, 3) := dk_162 0 9 (dk_at dksX7_beginOf_6 16 rfl rfl)
theorem dX7_beginOf_154 : decode cX7_beginOf 154 = .ok (.sipush 144, 3) := dk_17 0 144 (dk_at dksX7_beginOf_6 19 rfl rfl)
theorem dX7_beginOf_157 : decode cX7_beginOf 157 = .ok (.goto 110, 3) := dk_167 0 110 (dk_at dksX7_beginOf_7 0 rfl rfl)
theorem dX7_beginOf_160 : decode cX7_beginOf 160 = .ok (.iload_n 0, 1) := dk_26 (dk_at dksX7_beginOf_7 3 rfl rfl)
theorem dX7_beginOf_161 : decode cX7_beginOf 161 = .ok (.sipush 152, 3) := dk_17 0 152 (dk_at dksX7_beginOf_7 4 rfl rfl)
theorem dX7_beginOf_164 : decode cX7_beginOf 164 = .ok (.if_icmp .ge 9, 3) := dk_162 0 9 (dk_at dksX7_beginOf_7 7 rfl rfl)
theorem dX7_beginOf_167 : decode cX7_beginOf 167 = .ok (.sipush 148, 3) := dk_17 0 148 (dk_at dksX7_beginOf_7 10 rfl rfl)
theorem dX7_beginOf_170 : decode cX7_beginOf 170 = .ok (.goto 97, 3) := dk_167 0 97 (dk_at dksX7_beginOf_7 13 rfl rfl)
theorem dX7_beginOf_173 : decode cX7_beginOf 173 = .ok (.iload_n 0, 1) := dk_26 (dk_at dksX7_beginOf_7 16 rfl rfl)
theorem dX7_beginOf_174 : decode cX7_beginOf 174 = .ok (.sipush 156, 3) := dk_17 0 156 (dk_at dksX7_beginOf_7 17 rfl rfl)
theorem dX7_beginOf_177 : decode cX7_beginOf 177 = .ok (.if_icmp .ge 9, 3) := dk_162 0 9 (dk_at dksX7_beginOf_7 20 rfl rfl)
theorem dX7_beginOf_180 : decode cX7_beginOf 180 = .ok (.sipush 152, 3) := dk_17 0 152 (dk_at dksX7_beginOf_8 0 rfl rfl)
theorem dX7_beginOf_183 : decode cX7_beginOf 183 = .ok (.goto 84, 3) := dk_167 0 84 (dk_at dksX7_beginOf_8 3 rfl rfl)
theorem dX7_beginOf_186 : decode cX7_beginOf 186 = .ok (.iload_n 0, 1) := dk_26 (dk_at dksX7_beginOf_8 6 rfl rfl)
theorem dX7_beginOf_187 : decode cX7_beginOf 187 = .ok (.sipush 159, 3) := dk_17 0 159 (dk_at dksX7_beginOf_8 7 rfl rfl)
theorem dX7_beginOf_190 : decode cX7_beginOf 190 = .ok (.if_icmp .ge 9, 3) := dk_162 0 9 (dk_at dksX7_beginOf_8 10 rfl rfl)
theorem dX7_beginOf_193 : decode cX7_beginOf 193 = .ok (.sipush 156, 3) := dk_17 0 156 (dk_at dksX7_beginOf_8 13 rfl rfl)
theorem dX7_beginOf_196 : decode cX7_beginOf 196 = .ok (.goto 71, 3) := dk_167 0 71 (dk_at dksX7_beginOf_8 16 rfl rfl)
theorem dX7_beginOf_199 : decode cX7_beginOf 199 = .ok (.iload_n 0, 1) := dk_26 (dk_at dksX7_beginOf_8 19 rfl rfl)
theorem dX7_beginOf_200 : decode cX7_beginOf 200 = .ok (.sipush 179, 3) := dk_17 0 179 (dk_at dksX7_beginOf_8 20 rfl rfl)
theorem dX7_beginOf_203 : decode cX7_beginOf 203 = .ok (.if_icmp .ge 9, 3) := dk_162 0 9 (dk_at dksX7_beginOf_9 0 rfl rfl)
theorem dX7_beginOf_206 : decode cX7_beginOf 206 = .ok (.sipush 159, 3) := dk_17 0 159 (dk_at dksX7_beginOf_9 3 rfl rfl)
theorem dX7_beginOf_209 : decode cX7_beginOf 209 = .ok (.goto 58, 3) := dk_167 0 58 (dk_at dksX7_beginOf_9 6 rfl rfl)
theorem dX7_beginOf_212 : decode cX7_beginOf 212 = .ok (.iload_n 0, 1) := dk_26 (dk_at dksX7_beginOf_9 9 rfl rfl)
theorem dX7_beginOf_213 : decode cX7_beginOf 213 = .ok (.sipush 180, 3) := dk_17 0 180 (dk_at dksX7_beginOf_9 10 rfl rfl)
theorem dX7_beginOf_216 : decode cX7_beginOf 216 = .ok (.if_icmp .ge 9, 3) := dk_162 0 9 (dk_at dksX7_beginOf_9 13 rfl rfl)
theorem dX7_beginOf_219 : decode cX7_beginOf 219 = .ok (.sipush 179, 3) := dk_17 0 179 (dk_at dksX7_beginOf_9 16 rfl rfl)
theorem dX7_beginOf_222 : decode cX7_beginOf 222 = .ok (.goto 45, 3) := dk_167 0 45 (dk_at dksX7_beginOf_9 19 rfl rfl)
theorem dX7_beginOf_225 : decode cX7_beginOf 225 = .ok (.iload_n 0, 1) := dk_26 (dk_at dksX7_beginOf_9 22 rfl rfl)
theorem dX7_beginOf_226 : decode cX7_beginOf 226 = .ok (.sipush 181, 3) := dk_17 0 181 (dk_at dksX7_beginOf_10 0 rfl rfl)
theorem dX7_beginOf_229 : decode cX7_beginOf 229 = .ok (.if_icmp .ge 9, 3) := dk_162 0 9 (dk_at dksX7_beginOf_10 3 rfl rfl)
theorem dX7_beginOf_232 : decode cX7_beginOf 232 = .ok (.sipush 180, 3) := dk_17 0 180 (dk_at dksX7_beginOf_10 6 rfl rfl)
theorem dX7_beginOf_235 : decode cX7_beginOf 235 = .ok (.goto 32, 3) := dk_167 0 32 (dk_at dksX7_beginOf_10 9 rfl rfl)
theorem dX7_beginOf_238 : decode cX7_beginOf 238 = .ok (.iload_n 0, 1) := dk_26 (dk_at dksX7_beginOf_10 12 rfl rfl)
theorem dX7_beginOf_239 : decode cX7_beginOf 239 = .ok (.sipush 193, 3) := dk_17 0 193 (dk_at dksX7_beginOf_10 13 rfl rfl)
theorem dX7_beginOf_242 : decode cX7_beginOf 242 = .ok (.if_icmp .ge 9, 3) := dk_162 0 9 (dk_at dksX7_beginOf_10 16 rfl rfl)
theorem dX7_beginOf_245 : decode cX7_beginOf 245 = .ok (.sipush 181, 3) := dk_17 0 181 (dk_at dksX7_beginOf_10 19 rfl rfl)
theorem dX7_beginOf_248 : decode cX7_beginOf 248 = .ok (.goto 19, 3) := dk_167 0 19 (dk_at dksX7_beginOf_11 0 rfl rfl)
theorem dX7_beginOf_251 : decode cX7_beginOf 251 = .ok (.iload_n 0, 1) := dk_26 (dk_at dksX7_beginOf_11 3 rfl rfl)
theorem dX7_beginOf_252 : decode cX7_beginOf 252 = .ok (.sipush 205, 3) := dk_17 0 205 (dk_at dksX7_beginOf_11 4 rfl rfl)
theorem dX7_beginOf_255 : decode cX7_beginOf 255 = .ok (.if_icmp .ge 9, 3) := dk_162 0 9 (dk_at dksX7_beginOf_11 7 rfl rfl)
theorem dX7_beginOf_258 : decode cX7_beginOf 258 = .ok (.sipush 193, 3) := dk_17 0 193 (dk_at dksX7_beginOf_11 10 rfl rfl)
theorem dX7_beginOf_261 : decode cX7_beginOf 261 = .ok (.goto 6, 3) := dk_167 0 6 (dk_at dksX7_beginOf_11 13 rfl rfl)
theorem dX7_beginOf_264 : decode cX7_beginOf 264 = .ok (.sipush 205, 3) := dk_17 0 205 (dk_at dksX7_beginOf_11 16 rfl rfl)
theorem dX7_beginOf_267 : decode cX7_beginOf 267 = .ok (.ireturn, 1) := dk_172 (dk_at dksX7_beginOf_11 19 rfl rfl)
abbrev cX7_put : ByteArray := prog_14_method_67_code
def yX7_put : MethodName := ⟨RX7, "put", "(III)V"⟩
def dkwX7_put_0 : List UInt8 := [28, 154, 0, 13, 42, 180, 0, 20, 27, 29, 79, 167, 0, 10, 42, 180, 0, 23, 27, 29, 79, 177]
abbrev dktX7_put_0 : List UInt8 := dkwX7_put_0 ++ []
theorem dksX7_put_0 : cX7_put.data.toList.drop 0 = dktX7_put_0 := by decide +kernel
theorem dX7_put_0 : decode cX7_put 0 = .ok (.iload_n 2, 1) := dk_28 (dk_at dksX7_put_0 0 rfl rfl)
theorem dX7_put_1 : decode cX7_put 1 = .ok (.ifCond .ne 13, 3) := dk_154 0 13 (dk_at dksX7_put_0 1 rfl rfl)
theorem dX7_put_4 : decode cX7_put 4 = .ok (.aload_n 0, 1) := dk_42 (dk_at dksX7_put_0 4 rfl rfl)
theorem dX7_put_5 : decode cX7_put 5 = .ok (.getfield 20, 3) := dk_180 0 20 (dk_at dksX7_put_0 5 rfl rfl)
theorem dX7_put_8 : decode cX7_put 8 = .ok (.iload_n 1, 1) := dk_27 (dk_at dksX7_put_0 8 rfl rfl)
theorem dX7_put_9 : decode cX7_put 9 = .ok (.iload_n 3, 1) := dk_29 (dk_at dksX7_put_0 9 rfl rfl)
theorem dX7_put_10 : decode cX7_put 10 = .ok (.iastore, 1) := dk_79 (dk_at dksX7_put_0 10 rfl rfl)
theorem dX7_put_11 : decode cX7_put 11 = .ok (.goto 10, 3) := dk_167 0 10 (dk_at dksX7_put_0 11 rfl rfl)
theorem dX7_put_14 : decode cX7_put 14 = .ok (.aload_n 0, 1) := dk_42 (dk_at dksX7_put_0 14 rfl rfl)
theorem dX7_put_15 : decode cX7_put 15 = .ok (.getfield 23, 3) := dk_180 0 23 (dk_at dksX7_put_0 15 rfl rfl)
theorem dX7_put_18 : decode cX7_put 18 = .ok (.iload_n 1, 1) := dk_27 (dk_at dksX7_put_0 18 rfl rfl)
theorem dX7_put_19 : decode cX7_put 19 = .ok (.iload_n 3, 1) := dk_29 (dk_at dksX7_put_0 19 rfl rfl)
theorem dX7_put_20 : decode cX7_put 20 = .ok (.iastore, 1) := dk_79 (dk_at dksX7_put_0 20 rfl rfl)
theorem dX7_put_21 : decode cX7_put 21 = .ok (.return_, 1) := dk_177 (dk_at dksX7_put_0 21 rfl rfl)
abbrev cX7_move : ByteArray := prog_14_method_68_code
def yX7_move : MethodName := ⟨RX7, "move", "(II)I"⟩
def dkwX7_move_2 : List UInt8 := [167, 0, 18, 28, 5, 160, 0, 12, 42, 180, 0, 118, 27, 46, 167, 0, 4, 2, 172]
abbrev dktX7_move_2 : List UInt8 := dkwX7_move_2 ++ []
def dkwX7_move_1 : List UInt8 := [154, 0, 12, 42, 180, 0, 112, 27, 46, 167, 0, 32, 28, 4, 160, 0, 12, 42, 180, 0, 115, 27, 46]
abbrev dktX7_move_1 : List UInt8 := dkwX7_move_1 ++ dktX7_move_2
def dkwX7_move_0 : List UInt8 := [42, 3, 181, 0, 190, 27, 3, 42, 180, 1, 201, 4, 100, 184, 0, 207, 154, 0, 5, 2, 172, 28]
abbrev dktX7_move_0 : List UInt8 := dkwX7_move_0 ++ dktX7_move_1
theorem dksX7_move_0 : cX7_move.data.toList.drop 0 = dktX7_move_0 := by decide +kernel
theorem dksX7_move_1 : cX7_move.data.toList.drop 22 = dktX7_move_1 := dk_seg dksX7_move_0 22 rfl rfl
theorem dksX7_move_2 : cX7_move.data.toList.drop 45 = dktX7_move_2 := dk_seg dksX7_move_1 23 rfl rfl
theorem dX7_move_0 : decode cX7_move 0 = .ok (.aload_n 0, 1) := dk_42 (dk_at dksX7_move_0 0 rfl rfl)
theorem dX7_move_1 : decode cX7_move 1 = .ok (.iconst 0, 1) := dk_3 (dk_at dksX7_move_0 1 rfl rfl)
theorem dX7_move_2 : decode cX7_move 2 = .ok (.putfield 190, 3) := dk_181 0 190 (dk_at dksX7_move_0 2 rfl rfl)
theorem dX7_move_5 : decode cX7_move 5 = .ok (.iload_n 1, 1) := dk_27 (dk_at dksX7_move_0 5 rfl rfl)
theorem dX7_move_6 : decode cX7_move 6 = .ok (.iconst 0, 1) := dk_3 (dk_at dksX7_move_0 6 rfl rfl)
theorem dX7_move_7 : decode cX7_move 7 = .ok (.aload_n 0, 1) := dk_42 (dk_at dksX7_move_0 7 rfl rfl)
theorem dX7_move_8 : decode cX7_move 8 = .ok (.getfield 457, 3) := dk_180 1 201 (dk_at dksX7_move_0 8 rfl rfl)
theorem dX7_move_11 : decode cX7_move 11 = .ok (.iconst 1, 1) := dk_4 (dk_at dksX7_move_0 11 rfl rfl)
theorem dX7_move_12 : decode cX7_move 12 = .ok (.isub, 1) := dk_100 (dk_at dksX7_move_0 12 rfl rfl)
theorem dX7_move_13 : decode cX7_move 13 = .ok (.invokestatic 207, 3) := dk_184 0 207 (dk_at dksX7_move_0 13 rfl rfl)
theorem dX7_move_16 : decode cX7_move 16 = .ok (.ifCond .ne 5, 3) := dk_154 0 5 (dk_at dksX7_move_0 16 rfl rfl)
theorem dX7_move_19 : decode cX7_move 19 = .ok (.iconst (-1), 1) := dk_2 (dk_at dksX7_move_0 19 rfl rfl)
theorem dX7_move_20 : decode cX7_move 20 = .ok (.ireturn, 1) := dk_172 (dk_at dksX7_move_0 20 rfl rfl)
theorem dX7_move_21 : decode cX7_move 21 = .ok (.iload_n 2, 1) := dk_28 (dk_at dksX7_move_0 21 rfl rfl)
theorem dX7_move_22 : decode cX7_move 22 = .ok (.ifCond .ne 12, 3) := dk_154 0 12 (dk_at dksX7_move_1 0 rfl rfl)
theorem dX7_move_25 : decode cX7_move 25 = .ok (.aload_n 0, 1) := dk_42 (dk_at dksX7_move_1 3 rfl rfl)
theorem dX7_move_26 : decode cX7_move 26 = .ok (.getfield 112, 3) := dk_180 0 112 (dk_at dksX7_move_1 4 rfl rfl)
theorem dX7_move_29 : decode cX7_move 29 = .ok (.iload_n 1, 1) := dk_27 (dk_at dksX7_move_1 7 rfl rfl)
theorem dX7_move_30 : decode cX7_move 30 = .ok (.iaload, 1) := dk_46 (dk_at dksX7_move_1 8 rfl rfl)
theorem dX7_move_31 : decode cX7_move 31 = .ok (.goto 32, 3) := dk_167 0 32 (dk_at dksX7_move_1 9 rfl rfl)
theorem dX7_move_34 : decode cX7_move 34 = .ok (.iload_n 2, 1) := dk_28 (dk_at dksX7_move_1 12 rfl rfl)
theorem dX7_move_35 : decode cX7_move 35 = .ok (.iconst 1, 1) := dk_4 (dk_at dksX7_move_1 13 rfl rfl)
theorem dX7_move_36 : decode cX7_move 36 = .ok (.if_icmp .ne 12, 3) := dk_160 0 12 (dk_at dksX7_move_1 14 rfl rfl)
theorem dX7_move_39 : decode cX7_move 39 = .ok (.aload_n 0, 1) := dk_42 (dk_at dksX7_move_1 17 rfl rfl)
theorem dX7_move_40 : decode cX7_move 40 = .ok (.getfield 115, 3) := dk_180 0 115 (dk_at dksX7_move_1 18 rfl rfl)
theorem dX7_move_43 : decode cX7_move 43 = .ok (.iload_n 1, 1) := dk_27 (dk_at dksX7_move_1 21 rfl rfl)
theorem dX7_move_44 : decode cX7_move 44 = .ok (.iaload, 1) := dk_46 (dk_at dksX7_move_1 22 rfl rfl)
theorem dX7_move_45 : decode cX7_move 45 = .ok (.goto 18, 3) := dk_167 0 18 (dk_at dksX7_move_2 0 rfl rfl)
theorem dX7_move_48 : decode cX7_move 48 = .ok (.iload_n 2, 1) := dk_28 (dk_at dksX7_move_2 3 rfl rfl)
theorem dX7_move_49 : decode cX7_move 49 = .ok (.iconst 2, 1) := dk_5 (dk_at dksX7_move_2 4 rfl rfl)
theorem dX7_move_50 : decode cX7_move 50 = .ok (.if_icmp .ne 12, 3) := dk_160 0 12 (dk_at dksX7_move_2 5 rfl rfl)
theorem dX7_move_53 : decode cX7_move 53 = .ok (.aload_n 0, 1) := dk_42 (dk_at dksX7_move_2 8 rfl rfl)
theorem dX7_move_54 : decode cX7_move 54 = .ok (.getfield 118, 3) := dk_180 0 118 (dk_at dksX7_move_2 9 rfl rfl)
theorem dX7_move_57 : decode cX7_move 57 = .ok (.iload_n 1, 1) := dk_27 (dk_at dksX7_move_2 12 rfl rfl)
theorem dX7_move_58 : decode cX7_move 58 = .ok (.iaload, 1) := dk_46 (dk_at dksX7_move_2 13 rfl rfl)
theorem dX7_move_59 : decode cX7_move 59 = .ok (.goto 4, 3) := dk_167 0 4 (dk_at dksX7_move_2 14 rfl rfl)
theorem dX7_move_62 : decode cX7_move 62 = .ok (.iconst (-1), 1) := dk_2 (dk_at dksX7_move_2 17 rfl rfl)
theorem dX7_move_63 : decode cX7_move 63 = .ok (.ireturn, 1) := dk_172 (dk_at dksX7_move_2 18 rfl rfl)
abbrev cX7_job : ByteArray := prog_14_method_76_code
def yX7_job : MethodName := ⟨RX7, "job", "()I"⟩
def dkwX7_job_10 : List UInt8 := [16, 8, 27, 96, 46, 79, 132, 1, 1, 167, 255, 187, 42, 180, 0, 133, 3, 46, 172]
abbrev dktX7_job_10 : List UInt8 := dkwX7_job_10 ++ []
def dkwX7_job_9 : List UInt8 := [180, 0, 142, 27, 42, 180, 0, 142, 16, 8, 27, 96, 46, 79, 42, 180, 0, 145, 27, 42, 180, 0, 145]
abbrev dktX7_job_9 : List UInt8 := dkwX7_job_9 ++ dktX7_job_10
def dkwX7_job_8 : List UInt8 := [16, 8, 27, 96, 46, 79, 42, 180, 0, 139, 27, 42, 180, 0, 139, 16, 8, 27, 96, 46, 79, 42]
abbrev dktX7_job_8 : List UInt8 := dkwX7_job_8 ++ dktX7_job_9
def dkwX7_job_7 : List UInt8 := [132, 1, 1, 167, 255, 217, 3, 60, 27, 16, 8, 162, 0, 69, 42, 180, 0, 136, 27, 42, 180, 0, 136]
abbrev dktX7_job_7 : List UInt8 := dkwX7_job_7 ++ dktX7_job_8
def dkwX7_job_6 : List UInt8 := [180, 0, 124, 16, 6, 27, 96, 46, 79, 42, 180, 0, 127, 27, 42, 180, 0, 127, 16, 6, 27, 96, 46, 79]
abbrev dktX7_job_6 : List UInt8 := dkwX7_job_6 ++ dktX7_job_7
def dkwX7_job_5 : List UInt8 := [96, 46, 79, 132, 1, 1, 167, 255, 234, 3, 60, 27, 16, 6, 162, 0, 39, 42, 180, 0, 124, 27, 42]
abbrev dktX7_job_5 : List UInt8 := dkwX7_job_5 ++ dktX7_job_6
def dkwX7_job_4 : List UInt8 := [180, 0, 133, 4, 46, 79, 3, 60, 27, 6, 162, 0, 23, 42, 180, 0, 130, 27, 42, 180, 0, 130, 6, 27]
abbrev dktX7_job_4 : List UInt8 := dkwX7_job_4 ++ dktX7_job_5
def dkwX7_job_3 : List UInt8 := [180, 0, 255, 100, 172, 42, 180, 0, 121, 3, 42, 180, 0, 121, 4, 46, 79, 42, 180, 0, 133, 3, 42]
abbrev dktX7_job_3 : List UInt8 := dkwX7_job_3 ++ dktX7_job_4
def dkwX7_job_2 : List UInt8 := [6, 27, 96, 3, 79, 132, 1, 1, 167, 255, 239, 42, 182, 1, 6, 42, 182, 1, 232, 154, 0, 10, 2, 42]
abbrev dktX7_job_2 : List UInt8 := dkwX7_job_2 ++ dktX7_job_3
def dkwX7_job_1 : List UInt8 := [180, 0, 121, 4, 3, 79, 42, 180, 0, 133, 4, 3, 79, 3, 60, 27, 6, 162, 0, 18, 42, 180, 0, 130]
abbrev dktX7_job_1 : List UInt8 := dkwX7_job_1 ++ dktX7_job_2
def dkwX7_job_0 : List UInt8 := [42, 3, 181, 0, 190, 42, 182, 0, 211, 42, 3, 181, 0, 252, 42, 17, 1, 44, 181, 0, 233, 42]
abbrev dktX7_job_0 : List UInt8 := dkwX7_job_0 ++ dktX7_job_1
theorem dksX7_job_0 : cX7_job.data.toList.drop 0 = dktX7_job_0 := by decide +kernel
theorem dksX7_job_1 : cX7_job.data.toList.drop 22 = dktX7_job_1 := dk_seg dksX7_job_0 22 rfl rfl
theorem dksX7_job_2 : cX7_job.data.toList.drop 46 = dktX7_job_2 := dk_seg dksX7_job_1 24 rfl rfl
theorem dksX7_job_3 : cX7_job.data.toList.drop 70 = dktX7_job_3 := dk_seg dksX7_job_2 24 rfl rfl
theorem dksX7_job_4 : cX7_job.data.toList.drop 93 = dktX7_job_4 := dk_seg dksX7_job_3 23 rfl rfl
theorem dksX7_job_5 : cX7_job.data.toList.drop 117 = dktX7_job_5 := dk_seg dksX7_job_4 24 rfl rfl
theorem dksX7_job_6 : cX7_job.data.toList.drop 140 = dktX7_job_6 := dk_seg dksX7_job_5 23 rfl rfl
theorem dksX7_job_7 : cX7_job.data.toList.drop 164 = dktX7_job_7 := dk_seg dksX7_job_6 24 rfl rfl
theorem dksX7_job_8 : cX7_job.data.toList.drop 187 = dktX7_job_8 := dk_seg dksX7_job_7 23 rfl rfl
theorem dksX7_job_9 : cX7_job.data.toList.drop 209 = dktX7_job_9 := dk_seg dksX7_job_8 22 rfl rfl
theorem dksX7_job_10 : cX7_job.data.toList.drop 232 = dktX7_job_10 := dk_seg dksX7_job_9 23 rfl rfl
theorem dX7_job_0 : decode cX7_job 0 = .ok (.aload_n 0, 1) := dk_42 (dk_at dksX7_job_0 0 rfl rfl)
theorem dX7_job_1 : decode cX7_job 1 = .ok (.iconst 0, 1) := dk_3 (dk_at dksX7_job_0 1 rfl rfl)
theorem dX7_job_2 : decode cX7_job 2 = .ok (.putfield 190, 3) := dk_181 0 190 (dk_at dksX7_job_0 2 rfl rfl)
theorem dX7_job_5 : decode cX7_job 5 = .ok (.aload_n 0, 1) := dk_42 (dk_at dksX7_job_0 5 rfl rfl)
theorem dX7_job_6 : decode cX7_job 6 = .ok (.invokevirtual 211, 3) := dk_182 0 211 (dk_at dksX7_job_0 6 rfl rfl)
theorem dX7_job_9 : decode cX7_job 9 = .ok (.aload_n 0, 1) := dk_42 (dk_at dksX7_job_0 9 rfl rfl)
theorem dX7_job_10 : decode cX7_job 10 = .ok (.iconst 0, 1) := dk_3 (dk_at dksX7_job_0 10 rfl rfl)
theorem dX7_job_11 : decode cX7_job 11 = .ok (.putfield 252, 3) := dk_181 0 252 (dk_at dksX7_job_0 11 rfl rfl)
theorem dX7_job_14 : decode cX7_job 14 = .ok (.aload_n 0, 1) := dk_42 (dk_at dksX7_job_0 14 rfl rfl)
theorem dX7_job_15 : decode cX7_job 15 = .ok (.sipush 300, 3) := dk_17 1 44 (dk_at dksX7_job_0 15 rfl rfl)
theorem dX7_job_18 : decode cX7_job 18 = .ok (.putfield 233, 3) := dk_181 0 233 (dk_at dksX7_job_0 18 rfl rfl)
theorem dX7_job_21 : decode cX7_job 21 = .ok (.aload_n 0, 1) := dk_42 (dk_at dksX7_job_0 21 rfl rfl)
theorem dX7_job_22 : decode cX7_job 22 = .ok (.getfield 121, 3) := dk_180 0 121 (dk_at dksX7_job_1 0 rfl rfl)
theorem dX7_job_25 : decode cX7_job 25 = .ok (.iconst 1, 1) := dk_4 (dk_at dksX7_job_1 3 rfl rfl)
theorem dX7_job_26 : decode cX7_job 26 = .ok (.iconst 0, 1) := dk_3 (dk_at dksX7_job_1 4 rfl rfl)
theorem dX7_job_27 : decode cX7_job 27 = .ok (.iastore, 1) := dk_79 (dk_at dksX7_job_1 5 rfl rfl)
theorem dX7_job_28 : decode cX7_job 28 = .ok (.aload_n 0, 1) := dk_42 (dk_at dksX7_job_1 6 rfl rfl)
theorem dX7_job_29 : decode cX7_job 29 = .ok (.getfield 133, 3) := dk_180 0 133 (dk_at dksX7_job_1 7 rfl rfl)
theorem dX7_job_32 : decode cX7_job 32 = .ok (.iconst 1, 1) := dk_4 (dk_at dksX7_job_1 10 rfl rfl)
theorem dX7_job_33 : decode cX7_job 33 = .ok (.iconst 0, 1) := dk_3 (dk_at dksX7_job_1 11 rfl rfl)
theorem dX7_job_34 : decode cX7_job 34 = .ok (.iastore, 1) := dk_79 (dk_at dksX7_job_1 12 rfl rfl)
theorem dX7_job_35 : decode cX7_job 35 = .ok (.iconst 0, 1) := dk_3 (dk_at dksX7_job_1 13 rfl rfl)
theorem dX7_job_36 : decode cX7_job 36 = .ok (.istore_n 1, 1) := dk_60 (dk_at dksX7_job_1 14 rfl rfl)
theorem dX7_job_37 : decode cX7_job 37 = .ok (.iload_n 1, 1) := dk_27 (dk_at dksX7_job_1 15 rfl rfl)
theorem dX7_job_38 : decode cX7_job 38 = .ok (.iconst 3, 1) := dk_6 (dk_at dksX7_job_1 16 rfl rfl)
theorem dX7_job_39 : decode cX7_job 39 = .ok (.if_icmp .ge 18, 3) := dk_162 0 18 (dk_at dksX7_job_1 17 rfl rfl)
theorem dX7_job_42 : decode cX7_job 42 = .ok (.aload_n 0, 1) := dk_42 (dk_at dksX7_job_1 20 rfl rfl)
theorem dX7_job_43 : decode cX7_job 43 = .ok (.getfield 130, 3) := dk_180 0 130 (dk_at dksX7_job_1 21 rfl rfl)
theorem dX7_job_46 : decode cX7_job 46 = .ok (.iconst 3, 1) := dk_6 (dk_at dksX7_job_2 0 rfl rfl)
theorem dX7_job_47 : decode cX7_job 47 = .ok (.iload_n 1, 1) := dk_27 (dk_at dksX7_job_2 1 rfl rfl)
theorem dX7_job_48 : decode cX7_job 48 = .ok (.iadd, 1) := dk_96 (dk_at dksX7_job_2 2 rfl rfl)
theorem dX7_job_49 : decode cX7_job 49 = .ok (.iconst 0, 1) := dk_3 (dk_at dksX7_job_2 3 rfl rfl)
theorem dX7_job_50 : decode cX7_job 50 = .ok (.iastore, 1) := dk_79 (dk_at dksX7_job_2 4 rfl rfl)
theorem dX7_job_51 : decode cX7_job 51 = .ok (.iinc 1 1, 3) := dk_132 1 1 (dk_at dksX7_job_2 5 rfl rfl)
theorem dX7_job_54 : decode cX7_job 54 = .ok (.goto (-17), 3) := dk_167 255 239 (dk_at dksX7_job_2 8 rfl rfl)
theorem dX7_job_57 : decode cX7_job 57 = .ok (.aload_n 0, 1) := dk_42 (dk_at dksX7_job_2 11 rfl rfl)
theorem dX7_job_58 : decode cX7_job 58 = .ok (.invokevirtual 262, 3) := dk_182 1 6 (dk_at dksX7_job_2 12 rfl rfl)
theorem dX7_job_61 : decode cX7_job 61 = .ok (.aload_n 0, 1) := dk_42 (dk_at dksX7_job_2 15 rfl rfl)
theorem dX7_job_62 : decode cX7_job 62 = .ok (.invokevirtual 488, 3) := dk_182 1 232 (dk_at dksX7_job_2 16 rfl rfl)
theorem dX7_job_65 : decode cX7_job 65 = .ok (.ifCond .ne 10, 3) := dk_154 0 10 (dk_at dksX7_job_2 19 rfl rfl)
theorem dX7_job_68 : decode cX7_job 68 = .ok (.iconst (-1), 1) := dk_2 (dk_at dksX7_job_2 22 rfl rfl)
theorem dX7_job_69 : decode cX7_job 69 = .ok (.aload_n 0, 1) := dk_42 (dk_at dksX7_job_2 23 rfl rfl)
theorem dX7_job_70 : decode cX7_job 70 = .ok (.getfield 255, 3) := dk_180 0 255 (dk_at dksX7_job_3 0 rfl rfl)
theorem dX7_job_73 : decode cX7_job 73 = .ok (.isub, 1) := dk_100 (dk_at dksX7_job_3 3 rfl rfl)
theorem dX7_job_74 : decode cX7_job 74 = .ok (.ireturn, 1) := dk_172 (dk_at dksX7_job_3 4 rfl rfl)
theorem dX7_job_75 : decode cX7_job 75 = .ok (.aload_n 0, 1) := dk_42 (dk_at dksX7_job_3 5 rfl rfl)
theorem dX7_job_76 : decode cX7_job 76 = .ok (.getfield 121, 3) := dk_180 0 121 (dk_at dksX7_job_3 6 rfl rfl)
theorem dX7_job_79 : decode cX7_job 79 = .ok (.iconst 0, 1) := dk_3 (dk_at dksX7_job_3 9 rfl rfl)
theorem dX7_job_80 : decode cX7_job 80 = .ok (.aload_n 0, 1) := dk_42 (dk_at dksX7_job_3 10 rfl rfl)
theorem dX7_job_81 : decode cX7_job 81 = .ok (.getfield 121, 3) := dk_180 0 121 (dk_at dksX7_job_3 11 rfl rfl)
theorem dX7_job_84 : decode cX7_job 84 = .ok (.iconst 1, 1) := dk_4 (dk_at dksX7_job_3 14 rfl rfl)
theorem dX7_job_85 : decode cX7_job 85 = .ok (.iaload, 1) := dk_46 (dk_at dksX7_job_3 15 rfl rfl)
theorem dX7_job_86 : decode cX7_job 86 = .ok (.iastore, 1) := dk_79 (dk_at dksX7_job_3 16 rfl rfl)
theorem dX7_job_87 : decode cX7_job 87 = .ok (.aload_n 0, 1) := dk_42 (dk_at dksX7_job_3 17 rfl rfl)
theorem dX7_job_88 : decode cX7_job 88 = .ok (.getfield 133, 3) := dk_180 0 133 (dk_at dksX7_job_3 18 rfl rfl)
theorem dX7_job_91 : decode cX7_job 91 = .ok (.iconst 0, 1) := dk_3 (dk_at dksX7_job_3 21 rfl rfl)
theorem dX7_job_92 : decode cX7_job 92 = .ok (.aload_n 0, 1) := dk_42 (dk_at dksX7_job_3 22 rfl rfl)
theorem dX7_job_93 : decode cX7_job 93 = .ok (.getfield 133, 3) := dk_180 0 133 (dk_at dksX7_job_4 0 rfl rfl)
theorem dX7_job_96 : decode cX7_job 96 = .ok (.iconst 1, 1) := dk_4 (dk_at dksX7_job_4 3 rfl rfl)
theorem dX7_job_97 : decode cX7_job 97 = .ok (.iaload, 1) := dk_46 (dk_at dksX7_job_4 4 rfl rfl)
theorem dX7_job_98 : decode cX7_job 98 = .ok (.iastore, 1) := dk_79 (dk_at dksX7_job_4 5 rfl rfl)
theorem dX7_job_99 : decode cX7_job 99 = .ok (.iconst 0, 1) := dk_3 (dk_at dksX7_job_4 6 rfl rfl)
theorem dX7_job_100 : decode cX7_job 100 = .ok (.istore_n 1, 1) := dk_60 (dk_at dksX7_job_4 7 rfl rfl)
theorem dX7_job_101 : decode cX7_job 101 = .ok (.iload_n 1, 1) := dk_27 (dk_at dksX7_job_4 8 rfl rfl)
theorem dX7_job_102 : decode cX7_job 102 = .ok (.iconst 3, 1) := dk_6 (dk_at dksX7_job_4 9 rfl rfl)
theorem dX7_job_103 : decode cX7_job 103 = .ok (.if_icmp .ge 23, 3) := dk_162 0 23 (dk_at dksX7_job_4 10 rfl rfl)
theorem dX7_job_106 : decode cX7_job 106 = .ok (.aload_n 0, 1) := dk_42 (dk_at dksX7_job_4 13 rfl rfl)
theorem dX7_job_107 : decode cX7_job 107 = .ok (.getfield 130, 3) := dk_180 0 130 (dk_at dksX7_job_4 14 rfl rfl)
theorem dX7_job_110 : decode cX7_job 110 = .ok (.iload_n 1, 1) := dk_27 (dk_at dksX7_job_4 17 rfl rfl)
theorem dX7_job_111 : decode cX7_job 111 = .ok (.aload_n 0, 1) := dk_42 (dk_at dksX7_job_4 18 rfl rfl)
theorem dX7_job_112 : decode cX7_job 112 = .ok (.getfield 130, 3) := dk_180 0 130 (dk_at dksX7_job_4 19 rfl rfl)
theorem dX7_job_115 : decode cX7_job 115 = .ok (.iconst 3, 1) := dk_6 (dk_at dksX7_job_4 22 rfl rfl)
theorem dX7_job_116 : decode cX7_job 116 = .ok (.iload_n 1, 1) := dk_27 (dk_at dksX7_job_4 23 rfl rfl)
theorem dX7_job_117 : decode cX7_job 117 = .ok (.iadd, 1) := dk_96 (dk_at dksX7_job_5 0 rfl rfl)
theorem dX7_job_118 : decode cX7_job 118 = .ok (.iaload, 1) := dk_46 (dk_at dksX7_job_5 1 rfl rfl)
theorem dX7_job_119 : decode cX7_job 119 = .ok (.iastore, 1) := dk_79 (dk_at dksX7_job_5 2 rfl rfl)
theorem dX7_job_120 : decode cX7_job 120 = .ok (.iinc 1 1, 3) := dk_132 1 1 (dk_at dksX7_job_5 3 rfl rfl)
theorem dX7_job_123 : decode cX7_job 123 = .ok (.goto (-22), 3) := dk_167 255 234 (dk_at dksX7_job_5 6 rfl rfl)
theorem dX7_job_126 : decode cX7_job 126 = .ok (.iconst 0, 1) := dk_3 (dk_at dksX7_job_5 9 rfl rfl)
theorem dX7_job_127 : decode cX7_job 127 = .ok (.istore_n 1, 1) := dk_60 (dk_at dksX7_job_5 10 rfl rfl)
theorem dX7_job_128 : decode cX7_job 128 = .ok (.iload_n 1, 1) := dk_27 (dk_at dksX7_job_5 11 rfl rfl)
theorem dX7_job_129 : decode cX7_job 129 = .ok (.bipush 6, 2) := dk_16 6 (dk_at dksX7_job_5 12 rfl rfl)
theorem dX7_job_131 : decode cX7_job 131 = .ok (.if_icmp .ge 39, 3) := dk_162 0 39 (dk_at dksX7_job_5 14 rfl rfl)
theorem dX7_job_134 : decode cX7_job 134 = .ok (.aload_n 0, 1) := dk_42 (dk_at dksX7_job_5 17 rfl rfl)
theorem dX7_job_135 : decode cX7_job 135 = .ok (.getfield 124, 3) := dk_180 0 124 (dk_at dksX7_job_5 18 rfl rfl)
theorem dX7_job_138 : decode cX7_job 138 = .ok (.iload_n 1, 1) := dk_27 (dk_at dksX7_job_5 21 rfl rfl)
theorem dX7_job_139 : decode cX7_job 139 = .ok (.aload_n 0, 1) := dk_42 (dk_at dksX7_job_5 22 rfl rfl)
theorem dX7_job_140 : decode cX7_job 140 = .ok (.getfield 124, 3) := dk_180 0 124 (dk_at dksX7_job_6 0 rfl rfl)
theorem dX7_job_143 : decode cX7_job 143 = .ok (.bipush 6, 2) := dk_16 6 (dk_at dksX7_job_6 3 rfl rfl)
theorem dX7_job_145 : decode cX7_job 145 = .ok (.iload_n 1, 1) := dk_27 (dk_at dksX7_job_6 5 rfl rfl)
theorem dX7_job_146 : decode cX7_job 146 = .ok (.iadd, 1) := dk_96 (dk_at dksX7_job_6 6 rfl rfl)
theorem dX7_job_147 : decode cX7_job 147 = .ok (.iaload, 1) := dk_46 (dk_at dksX7_job_6 7 rfl rfl)
theorem dX7_job_148 : decode cX7_job 148 = .ok (.iastore, 1) := dk_79 (dk_at dksX7_job_6 8 rfl rfl)
theorem dX7_job_149 : decode cX7_job 149 = .ok (.aload_n 0, 1) := dk_42 (dk_at dksX7_job_6 9 rfl rfl)
theorem dX7_job_150 : decode cX7_job 150 = .ok (.getfield 127, 3) := dk_180 0 127 (dk_at dksX7_job_6 10 rfl rfl)
theorem dX7_job_153 : decode cX7_job 153 = .ok (.iload_n 1, 1) := dk_27 (dk_at dksX7_job_6 13 rfl rfl)
theorem dX7_job_154 : decode cX7_job 154 = .ok (.aload_n 0, 1) := dk_42 (dk_at dksX7_job_6 14 rfl rfl)
theorem dX7_job_155 : decode cX7_job 155 = .ok (.getfield 127, 3) := dk_180 0 127 (dk_at dksX7_job_6 15 rfl rfl)
theorem dX7_job_158 : decode cX7_job 158 = .ok (.bipush 6, 2) := dk_16 6 (dk_at dksX7_job_6 18 rfl rfl)
theorem dX7_job_160 : decode cX7_job 160 = .ok (.iload_n 1, 1) := dk_27 (dk_at dksX7_job_6 20 rfl rfl)
theorem dX7_job_161 : decode cX7_job 161 = .ok (.iadd, 1) := dk_96 (dk_at dksX7_job_6 21 rfl rfl)
theorem dX7_job_162 : decode cX7_job 162 = .ok (.iaload, 1) := dk_46 (dk_at dksX7_job_6 22 rfl rfl)
theorem dX7_job_163 : decode cX7_job 163 = .ok (.iastore, 1) := dk_79 (dk_at dksX7_job_6 23 rfl rfl)
theorem dX7_job_164 : decode cX7_job 164 = .ok (.iinc 1 1, 3) := dk_132 1 1 (dk_at dksX7_job_7 0 rfl rfl)
theorem dX7_job_167 : decode cX7_job 167 = .ok (.goto (-39), 3) := dk_167 255 217 (dk_at dksX7_job_7 3 rfl rfl)
theorem dX7_job_170 : decode cX7_job 170 = .ok (.iconst 0, 1) := dk_3 (dk_at dksX7_job_7 6 rfl rfl)
theorem dX7_job_171 : decode cX7_job 171 = .ok (.istore_n 1, 1) := dk_60 (dk_at dksX7_job_7 7 rfl rfl)
theorem dX7_job_172 : decode cX7_job 172 = .ok (.iload_n 1, 1) := dk_27 (dk_at dksX7_job_7 8 rfl rfl)
theorem dX7_job_173 : decode cX7_job 173 = .ok (.bipush 8, 2) := dk_16 8 (dk_at dksX7_job_7 9 rfl rfl)
theorem dX7_job_175 : decode cX7_job 175 = .ok (.if_icmp .ge 69, 3) := dk_162 0 69 (dk_at dksX7_job_7 11 rfl rfl)
theorem dX7_job_178 : decode cX7_job 178 = .ok (.aload_n 0, 1) := dk_42 (dk_at dksX7_job_7 14 rfl rfl)
theorem dX7_job_179 : decode cX7_job 179 = .ok (.getfield 136, 3) := dk_180 0 136 (dk_at dksX7_job_7 15 rfl rfl)
theorem dX7_job_182 : decode cX7_job 182 = .ok (.iload_n 1, 1) := dk_27 (dk_at dksX7_job_7 18 rfl rfl)
theorem dX7_job_183 : decode cX7_job 183 = .ok (.aload_n 0, 1) := dk_42 (dk_at dksX7_job_7 19 rfl rfl)
theorem dX7_job_184 : decode cX7_job 184 = .ok (.getfield 136, 3) := dk_180 0 136 (dk_at dksX7_job_7 20 rfl rfl)
theorem dX7_job_187 : decode cX7_job 187 = .ok (.bipush 8, 2) := dk_16 8 (dk_at dksX7_job_8 0 rfl rfl)
theorem dX7_job_189 : decode cX7_job 189 = .ok (.iload_n 1, 1) := dk_27 (dk_at dksX7_job_8 2 rfl rfl)
theorem dX7_job_190 : decode cX7_job 190 = .ok (.iadd, 1) := dk_96 (dk_at dksX7_job_8 3 rfl rfl)
theorem dX7_job_191 : decode cX7_job 191 = .ok (.iaload, 1) := dk_46 (dk_at dksX7_job_8 4 rfl rfl)
theorem dX7_job_192 : decode cX7_job 192 = .ok (.iastore, 1) := dk_79 (dk_at dksX7_job_8 5 rfl rfl)
theorem dX7_job_193 : decode cX7_job 193 = .ok (.aload_n 0, 1) := dk_42 (dk_at dksX7_job_8 6 rfl rfl)
theorem dX7_job_194 : decode cX7_job 194 = .ok (.getfield 139, 3) := dk_180 0 139 (dk_at dksX7_job_8 7 rfl rfl)
theorem dX7_job_197 : decode cX7_job 197 = .ok (.iload_n 1, 1) := dk_27 (dk_at dksX7_job_8 10 rfl rfl)
theorem dX7_job_198 : decode cX7_job 198 = .ok (.aload_n 0, 1) := dk_42 (dk_at dksX7_job_8 11 rfl rfl)
theorem dX7_job_199 : decode cX7_job 199 = .ok (.getfield 139, 3) := dk_180 0 139 (dk_at dksX7_job_8 12 rfl rfl)
theorem dX7_job_202 : decode cX7_job 202 = .ok (.bipush 8, 2) := dk_16 8 (dk_at dksX7_job_8 15 rfl rfl)
theorem dX7_job_204 : decode cX7_job 204 = .ok (.iload_n 1, 1) := dk_27 (dk_at dksX7_job_8 17 rfl rfl)
theorem dX7_job_205 : decode cX7_job 205 = .ok (.iadd, 1) := dk_96 (dk_at dksX7_job_8 18 rfl rfl)
theorem dX7_job_206 : decode cX7_job 206 = .ok (.iaload, 1) := dk_46 (dk_at dksX7_job_8 19 rfl rfl)
theorem dX7_job_207 : decode cX7_job 207 = .ok (.iastore, 1) := dk_79 (dk_at dksX7_job_8 20 rfl rfl)
theorem dX7_job_208 : decode cX7_job 208 = .ok (.aload_n 0, 1) := dk_42 (dk_at dksX7_job_8 21 rfl rfl)
theorem dX7_job_209 : decode cX7_job 209 = .ok (.getfield 142, 3) := dk_180 0 142 (dk_at dksX7_job_9 0 rfl rfl)
theorem dX7_job_212 : decode cX7_job 212 = .ok (.iload_n 1, 1) := dk_27 (dk_at dksX7_job_9 3 rfl rfl)
theorem dX7_job_213 : decode cX7_job 213 = .ok (.aload_n 0, 1) := dk_42 (dk_at dksX7_job_9 4 rfl rfl)
theorem dX7_job_214 : decode cX7_job 214 = .ok (.getfield 142, 3) := dk_180 0 142 (dk_at dksX7_job_9 5 rfl rfl)
theorem dX7_job_217 : decode cX7_job 217 = .ok (.bipush 8, 2) := dk_16 8 (dk_at dksX7_job_9 8 rfl rfl)
theorem dX7_job_219 : decode cX7_job 219 = .ok (.iload_n 1, 1) := dk_27 (dk_at dksX7_job_9 10 rfl rfl)
theorem dX7_job_220 : decode cX7_job 220 = .ok (.iadd, 1) := dk_96 (dk_at dksX7_job_9 11 rfl rfl)
theorem dX7_job_221 : decode cX7_job 221 = .ok (.iaload, 1) := dk_46 (dk_at dksX7_job_9 12 rfl rfl)
theorem dX7_job_222 : decode cX7_job 222 = .ok (.iastore, 1) := dk_79 (dk_at dksX7_job_9 13 rfl rfl)
theorem dX7_job_223 : decode cX7_job 223 = .ok (.aload_n 0, 1) := dk_42 (dk_at dksX7_job_9 14 rfl rfl)
theorem dX7_job_224 : decode cX7_job 224 = .ok (.getfield 145, 3) := dk_180 0 145 (dk_at dksX7_job_9 15 rfl rfl)
theorem dX7_job_227 : decode cX7_job 227 = .ok (.iload_n 1, 1) := dk_27 (dk_at dksX7_job_9 18 rfl rfl)
theorem dX7_job_228 : decode cX7_job 228 = .ok (.aload_n 0, 1) := dk_42 (dk_at dksX7_job_9 19 rfl rfl)
theorem dX7_job_229 : decode cX7_job 229 = .ok (.getfield 145, 3) := dk_180 0 145 (dk_at dksX7_job_9 20 rfl rfl)
theorem dX7_job_232 : decode cX7_job 232 = .ok (.bipush 8, 2) := dk_16 8 (dk_at dksX7_job_10 0 rfl rfl)
theorem dX7_job_234 : decode cX7_job 234 = .ok (.iload_n 1, 1) := dk_27 (dk_at dksX7_job_10 2 rfl rfl)
theorem dX7_job_235 : decode cX7_job 235 = .ok (.iadd, 1) := dk_96 (dk_at dksX7_job_10 3 rfl rfl)
theorem dX7_job_236 : decode cX7_job 236 = .ok (.iaload, 1) := dk_46 (dk_at dksX7_job_10 4 rfl rfl)
theorem dX7_job_237 : decode cX7_job 237 = .ok (.iastore, 1) := dk_79 (dk_at dksX7_job_10 5 rfl rfl)
theorem dX7_job_238 : decode cX7_job 238 = .ok (.iinc 1 1, 3) := dk_132 1 1 (dk_at dksX7_job_10 6 rfl rfl)
theorem dX7_job_241 : decode cX7_job 241 = .ok (.goto (-69), 3) := dk_167 255 187 (dk_at dksX7_job_10 9 rfl rfl)
theorem dX7_job_244 : decode cX7_job 244 = .ok (.aload_n 0, 1) := dk_42 (dk_at dksX7_job_10 12 rfl rfl)
theorem dX7_job_245 : decode cX7_job 245 = .ok (.getfield 133, 3) := dk_180 0 133 (dk_at dksX7_job_10 13 rfl rfl)
theorem dX7_job_248 : decode cX7_job 248 = .ok (.iconst 0, 1) := dk_3 (dk_at dksX7_job_10 16 rfl rfl)
theorem dX7_job_249 : decode cX7_job 249 = .ok (.iaload, 1) := dk_46 (dk_at dksX7_job_10 17 rfl rfl)
theorem dX7_job_250 : decode cX7_job 250 = .ok (.ireturn, 1) := dk_172 (dk_at dksX7_job_10 18 rfl rfl)
abbrev cX7_readJob : ByteArray := prog_14_method_72_code
def yX7_readJob : MethodName := ⟨RX7, "readJob", "()Z"⟩
def dkwX7_readJob_6 : List UInt8 := [182, 1, 223, 61, 28, 153, 0, 12, 42, 16, 59, 182, 1, 77, 154, 0, 5, 3, 172, 167, 255, 95, 4, 172]
abbrev dktX7_readJob_6 : List UInt8 := dkwX7_readJob_6 ++ []
def dkwX7_readJob_5 : List UInt8 := [182, 1, 217, 167, 0, 24, 42, 20, 1, 204, 182, 1, 214, 153, 0, 10, 42, 182, 1, 220, 167, 0, 7, 42]
abbrev dktX7_readJob_5 : List UInt8 := dkwX7_readJob_5 ++ dktX7_readJob_6
def dkwX7_readJob_4 : List UInt8 := [4, 46, 16, 6, 160, 0, 13, 42, 7, 42, 180, 0, 230, 182, 1, 2, 172, 27, 153, 0, 10, 42]
abbrev dktX7_readJob_4 : List UInt8 := dkwX7_readJob_4 ++ dktX7_readJob_5
def dkwX7_readJob_3 : List UInt8 := [180, 0, 133, 4, 46, 16, 8, 159, 0, 24, 42, 20, 1, 204, 182, 1, 214, 153, 0, 24, 42, 180, 0, 121]
abbrev dktX7_readJob_3 : List UInt8 := dkwX7_readJob_3 ++ dktX7_readJob_4
def dkwX7_readJob_2 : List UInt8 := [20, 1, 206, 182, 1, 214, 154, 0, 13, 42, 4, 42, 180, 0, 230, 182, 1, 2, 172, 27, 153, 0, 14, 42]
abbrev dktX7_readJob_2 : List UInt8 := dkwX7_readJob_2 ++ dktX7_readJob_3
def dkwX7_readJob_1 : List UInt8 := [153, 0, 7, 4, 167, 0, 4, 3, 60, 27, 154, 0, 33, 42, 20, 1, 204, 182, 1, 214, 154, 0, 23, 42]
abbrev dktX7_readJob_1 : List UInt8 := dkwX7_readJob_1 ++ dktX7_readJob_2
def dkwX7_readJob_0 : List UInt8 := [42, 180, 0, 236, 153, 0, 160, 42, 20, 1, 208, 182, 1, 214, 154, 0, 13, 42, 20, 1, 210, 182, 1, 214]
abbrev dktX7_readJob_0 : List UInt8 := dkwX7_readJob_0 ++ dktX7_readJob_1
theorem dksX7_readJob_0 : cX7_readJob.data.toList.drop 0 = dktX7_readJob_0 := by decide +kernel
theorem dksX7_readJob_1 : cX7_readJob.data.toList.drop 24 = dktX7_readJob_1 := dk_seg dksX7_readJob_0 24 rfl rfl
theorem dksX7_readJob_2 : cX7_readJob.data.toList.drop 48 = dktX7_readJob_2 := dk_seg dksX7_readJob_1 24 rfl rfl
theorem dksX7_readJob_3 : cX7_readJob.data.toList.drop 72 = dktX7_readJob_3 := dk_seg dksX7_readJob_2 24 rfl rfl
theorem dksX7_readJob_4 : cX7_readJob.data.toList.drop 96 = dktX7_readJob_4 := dk_seg dksX7_readJob_3 24 rfl rfl
theorem dksX7_readJob_5 : cX7_readJob.data.toList.drop 118 = dktX7_readJob_5 := dk_seg dksX7_readJob_4 22 rfl rfl
theorem dksX7_readJob_6 : cX7_readJob.data.toList.drop 142 = dktX7_readJob_6 := dk_seg dksX7_readJob_5 24 rfl rfl
theorem dX7_readJob_0 : decode cX7_readJob 0 = .ok (.aload_n 0, 1) := dk_42 (dk_at dksX7_readJob_0 0 rfl rfl)
theorem dX7_readJob_1 : decode cX7_readJob 1 = .ok (.getfield 236, 3) := dk_180 0 236 (dk_at dksX7_readJob_0 1 rfl rfl)
theorem dX7_readJob_4 : decode cX7_readJob 4 = .ok (.ifCond .eq 160, 3) := dk_153 0 160 (dk_at dksX7_readJob_0 4 rfl rfl)
theorem dX7_readJob_7 : decode cX7_readJob 7 = .ok (.aload_n 0, 1) := dk_42 (dk_at dksX7_readJob_0 7 rfl rfl)
theorem dX7_readJob_8 : decode cX7_readJob 8 = .ok (.ldc2_w 464, 3) := dk_20 1 208 (dk_at dksX7_readJob_0 8 rfl rfl)
theorem dX7_readJob_11 : decode cX7_readJob 11 = .ok (.invokevirtual 470, 3) := dk_182 1 214 (dk_at dksX7_readJob_0 11 rfl rfl)
theorem dX7_readJob_14 : decode cX7_readJob 14 = .ok (.ifCond .ne 13, 3) := dk_154 0 13 (dk_at dksX7_readJob_0 14 rfl rfl)
theorem dX7_readJob_17 : decode cX7_readJob 17 = .ok (.aload_n 0, 1) := dk_42 (dk_at dksX7_readJob_0 17 rfl rfl)
theorem dX7_readJob_18 : decode cX7_readJob 18 = .ok (.ldc2_w 466, 3) := dk_20 1 210 (dk_at dksX7_readJob_0 18 rfl rfl)
theorem dX7_readJob_21 : decode cX7_readJob 21 = .ok (.invokevirtual 470, 3) := dk_182 1 214 (dk_at dksX7_readJob_0 21 rfl rfl)
theorem dX7_readJob_24 : decode cX7_readJob 24 = .ok (.ifCond .eq 7, 3) := dk_153 0 7 (dk_at dksX7_readJob_1 0 rfl rfl)
theorem dX7_readJob_27 : decode cX7_readJob 27 = .ok (.iconst 1, 1) := dk_4 (dk_at dksX7_readJob_1 3 rfl rfl)
theorem dX7_readJob_28 : decode cX7_readJob 28 = .ok (.goto 4, 3) := dk_167 0 4 (dk_at dksX7_readJob_1 4 rfl rfl)
theorem dX7_readJob_31 : decode cX7_readJob 31 = .ok (.iconst 0, 1) := dk_3 (dk_at dksX7_readJob_1 7 rfl rfl)
theorem dX7_readJob_32 : decode cX7_readJob 32 = .ok (.istore_n 1, 1) := dk_60 (dk_at dksX7_readJob_1 8 rfl rfl)
theorem dX7_readJob_33 : decode cX7_readJob 33 = .ok (.iload_n 1, 1) := dk_27 (dk_at dksX7_readJob_1 9 rfl rfl)
theorem dX7_readJob_34 : decode cX7_readJob 34 = .ok (.ifCond .ne 33, 3) := dk_154 0 33 (dk_at dksX7_readJob_1 10 rfl rfl)
theorem dX7_readJob_37 : decode cX7_readJob 37 = .ok (.aload_n 0, 1) := dk_42 (dk_at dksX7_readJob_1 13 rfl rfl)
theorem dX7_readJob_38 : decode cX7_readJob 38 = .ok (.ldc2_w 460, 3) := dk_20 1 204 (dk_at dksX7_readJob_1 14 rfl rfl)
theorem dX7_readJob_41 : decode cX7_readJob 41 = .ok (.invokevirtual 470, 3) := dk_182 1 214 (dk_at dksX7_readJob_1 17 rfl rfl)
theorem dX7_readJob_44 : decode cX7_readJob 44 = .ok (.ifCond .ne 23, 3) := dk_154 0 23 (dk_at dksX7_readJob_1 20 rfl rfl)
theorem dX7_readJob_47 : decode cX7_readJob 47 = .ok (.aload_n 0, 1) := dk_42 (dk_at dksX7_readJob_1 23 rfl rfl)
theorem dX7_readJob_48 : decode cX7_readJob 48 = .ok (.ldc2_w 462, 3) := dk_20 1 206 (dk_at dksX7_readJob_2 0 rfl rfl)
theorem dX7_readJob_51 : decode cX7_readJob 51 = .ok (.invokevirtual 470, 3) := dk_182 1 214 (dk_at dksX7_readJob_2 3 rfl rfl)
theorem dX7_readJob_54 : decode cX7_readJob 54 = .ok (.ifCond .ne 13, 3) := dk_154 0 13 (dk_at dksX7_readJob_2 6 rfl rfl)
theorem dX7_readJob_57 : decode cX7_readJob 57 = .ok (.aload_n 0, 1) := dk_42 (dk_at dksX7_readJob_2 9 rfl rfl)
theorem dX7_readJob_58 : decode cX7_readJob 58 = .ok (.iconst 1, 1) := dk_4 (dk_at dksX7_readJob_2 10 rfl rfl)
theorem dX7_readJob_59 : decode cX7_readJob 59 = .ok (.aload_n 0, 1) := dk_42 (dk_at dksX7_readJob_2 11 rfl rfl)
theorem dX7_readJob_60 : decode cX7_readJob 60 = .ok (.getfield 230, 3) := dk_180 0 230 (dk_at dksX7_readJob_2 12 rfl rfl)
theorem dX7_readJob_63 : decode cX7_readJob 63 = .ok (.invokevirtual 258, 3) := dk_182 1 2 (dk_at dksX7_readJob_2 15 rfl rfl)
theorem dX7_readJob_66 : decode cX7_readJob 66 = .ok (.ireturn, 1) := dk_172 (dk_at dksX7_readJob_2 18 rfl rfl)
theorem dX7_readJob_67 : decode cX7_readJob 67 = .ok (.iload_n 1, 1) := dk_27 (dk_at dksX7_readJob_2 19 rfl rfl)
theorem dX7_readJob_68 : decode cX7_readJob 68 = .ok (.ifCond .eq 14, 3) := dk_153 0 14 (dk_at dksX7_readJob_2 20 rfl rfl)
theorem dX7_readJob_71 : decode cX7_readJob 71 = .ok (.aload_n 0, 1) := dk_42 (dk_at dksX7_readJob_2 23 rfl rfl)
theorem dX7_readJob_72 : decode cX7_readJob 72 = .ok (.getfield 133, 3) := dk_180 0 133 (dk_at dksX7_readJob_3 0 rfl rfl)
theorem dX7_readJob_75 : decode cX7_readJob 75 = .ok (.iconst 1, 1) := dk_4 (dk_at dksX7_readJob_3 3 rfl rfl)
theorem dX7_readJob_76 : decode cX7_readJob 76 = .ok (.iaload, 1) := dk_46 (dk_at dksX7_readJob_3 4 rfl rfl)
theorem dX7_readJob_77 : decode cX7_readJob 77 = .ok (.bipush 8, 2) := dk_16 8 (dk_at dksX7_readJob_3 5 rfl rfl)
theorem dX7_readJob_79 : decode cX7_readJob 79 = .ok (.if_icmp .eq 24, 3) := dk_159 0 24 (dk_at dksX7_readJob_3 7 rfl rfl)
theorem dX7_readJob_82 : decode cX7_readJob 82 = .ok (.aload_n 0, 1) := dk_42 (dk_at dksX7_readJob_3 10 rfl rfl)
theorem dX7_readJob_83 : decode cX7_readJob 83 = .ok (.ldc2_w 460, 3) := dk_20 1 204 (dk_at dksX7_readJob_3 11 rfl rfl)
theorem dX7_readJob_86 : decode cX7_readJob 86 = .ok (.invokevirtual 470, 3) := dk_182 1 214 (dk_at dksX7_readJob_3 14 rfl rfl)
theorem dX7_readJob_89 : decode cX7_readJob 89 = .ok (.ifCond .eq 24, 3) := dk_153 0 24 (dk_at dksX7_readJob_3 17 rfl rfl)
theorem dX7_readJob_92 : decode cX7_readJob 92 = .ok (.aload_n 0, 1) := dk_42 (dk_at dksX7_readJob_3 20 rfl rfl)
theorem dX7_readJob_93 : decode cX7_readJob 93 = .ok (.getfield 121, 3) := dk_180 0 121 (dk_at dksX7_readJob_3 21 rfl rfl)
theorem dX7_readJob_96 : decode cX7_readJob 96 = .ok (.iconst 1, 1) := dk_4 (dk_at dksX7_readJob_4 0 rfl rfl)
theorem dX7_readJob_97 : decode cX7_readJob 97 = .ok (.iaload, 1) := dk_46 (dk_at dksX7_readJob_4 1 rfl rfl)
theorem dX7_readJob_98 : decode cX7_readJob 98 = .ok (.bipush 6, 2) := dk_16 6 (dk_at dksX7_readJob_4 2 rfl rfl)
theorem dX7_readJob_100 : decode cX7_readJob 100 = .ok (.if_icmp .ne 13, 3) := dk_160 0 13 (dk_at dksX7_readJob_4 4 rfl rfl)
theorem dX7_readJob_103 : decode cX7_readJob 103 = .ok (.aload_n 0, 1) := dk_42 (dk_at dksX7_readJob_4 7 rfl rfl)
theorem dX7_readJob_104 : decode cX7_readJob 104 = .ok (.iconst 4, 1) := dk_7 (dk_at dksX7_readJob_4 8 rfl rfl)
theorem dX7_readJob_105 : decode cX7_readJob 105 = .ok (.aload_n 0, 1) := dk_42 (dk_at dksX7_readJob_4 9 rfl rfl)
theorem dX7_readJob_106 : decode cX7_readJob 106 = .ok (.getfield 230, 3) := dk_180 0 230 (dk_at dksX7_readJob_4 10 rfl rfl)
theorem dX7_readJob_109 : decode cX7_readJob 109 = .ok (.invokevirtual 258, 3) := dk_182 1 2 (dk_at dksX7_readJob_4 13 rfl rfl)
theorem dX7_readJob_112 : decode cX7_readJob 112 = .ok (.ireturn, 1) := dk_172 (dk_at dksX7_readJob_4 16 rfl rfl)
theorem dX7_readJob_113 : decode cX7_readJob 113 = .ok (.iload_n 1, 1) := dk_27 (dk_at dksX7_readJob_4 17 rfl rfl)
theorem dX7_readJob_114 : decode cX7_readJob 114 = .ok (.ifCond .eq 10, 3) := dk_153 0 10 (dk_at dksX7_readJob_4 18 rfl rfl)
theorem dX7_readJob_117 : decode cX7_readJob 117 = .ok (.aload_n 0, 1) := dk_42 (dk_at dksX7_readJob_4 21 rfl rfl)
theorem dX7_readJob_118 : decode cX7_readJob 118 = .ok (.invokevirtual 473, 3) := dk_182 1 217 (dk_at dksX7_readJob_5 0 rfl rfl)
theorem dX7_readJob_121 : decode cX7_readJob 121 = .ok (.goto 24, 3) := dk_167 0 24 (dk_at dksX7_readJob_5 3 rfl rfl)
theorem dX7_readJob_124 : decode cX7_readJob 124 = .ok (.aload_n 0, 1) := dk_42 (dk_at dksX7_readJob_5 6 rfl rfl)
theorem dX7_readJob_125 : decode cX7_readJob 125 = .ok (.ldc2_w 460, 3) := dk_20 1 204 (dk_at dksX7_readJob_5 7 rfl rfl)
theorem dX7_readJob_128 : decode cX7_readJob 128 = .ok (.invokevirtual 470, 3) := dk_182 1 214 (dk_at dksX7_readJob_5 10 rfl rfl)
theorem dX7_readJob_131 : decode cX7_readJob 131 = .ok (.ifCond .eq 10, 3) := dk_153 0 10 (dk_at dksX7_readJob_5 13 rfl rfl)
theorem dX7_readJob_134 : decode cX7_readJob 134 = .ok (.aload_n 0, 1) := dk_42 (dk_at dksX7_readJob_5 16 rfl rfl)
theorem dX7_readJob_135 : decode cX7_readJob 135 = .ok (.invokevirtual 476, 3) := dk_182 1 220 (dk_at dksX7_readJob_5 17 rfl rfl)
theorem dX7_readJob_138 : decode cX7_readJob 138 = .ok (.goto 7, 3) := dk_167 0 7 (dk_at dksX7_readJob_5 20 rfl rfl)
theorem dX7_readJob_141 : decode cX7_readJob 141 = .ok (.aload_n 0, 1) := dk_42 (dk_at dksX7_readJob_5 23 rfl rfl)
theorem dX7_readJob_142 : decode cX7_readJob 142 = .ok (.invokevirtual 479, 3) := dk_182 1 223 (dk_at dksX7_readJob_6 0 rfl rfl)
theorem dX7_readJob_145 : decode cX7_readJob 145 = .ok (.istore_n 2, 1) := dk_61 (dk_at dksX7_readJob_6 3 rfl rfl)
theorem dX7_readJob_146 : decode cX7_readJob 146 = .ok (.iload_n 2, 1) := dk_28 (dk_at dksX7_readJob_6 4 rfl rfl)
theorem dX7_readJob_147 : decode cX7_readJob 147 = .ok (.ifCond .eq 12, 3) := dk_153 0 12 (dk_at dksX7_readJob_6 5 rfl rfl)
theorem dX7_readJob_150 : decode cX7_readJob 150 = .ok (.aload_n 0, 1) := dk_42 (dk_at dksX7_readJob_6 8 rfl rfl)
theorem dX7_readJob_151 : decode cX7_readJob 151 = .ok (.bipush 59, 2) := dk_16 59 (dk_at dksX7_readJob_6 9 rfl rfl)
theorem dX7_readJob_153 : decode cX7_readJob 153 = .ok (.invokevirtual 333, 3) := dk_182 1 77 (dk_at dksX7_readJob_6 11 rfl rfl)
theorem dX7_readJob_156 : decode cX7_readJob 156 = .ok (.ifCond .ne 5, 3) := dk_154 0 5 (dk_at dksX7_readJob_6 14 rfl rfl)
theorem dX7_readJob_159 : decode cX7_readJob 159 = .ok (.iconst 0, 1) := dk_3 (dk_at dksX7_readJob_6 17 rfl rfl)
theorem dX7_readJob_160 : decode cX7_readJob 160 = .ok (.ireturn, 1) := dk_172 (dk_at dksX7_readJob_6 18 rfl rfl)
theorem dX7_readJob_161 : decode cX7_readJob 161 = .ok (.goto (-161), 3) := dk_167 255 95 (dk_at dksX7_readJob_6 19 rfl rfl)
theorem dX7_readJob_164 : decode cX7_readJob 164 = .ok (.iconst 1, 1) := dk_4 (dk_at dksX7_readJob_6 22 rfl rfl)
theorem dX7_readJob_165 : decode cX7_readJob 165 = .ok (.ireturn, 1) := dk_172 (dk_at dksX7_readJob_6 23 rfl rfl)
abbrev cX7_isWord : ByteArray := prog_14_method_69_code
def yX7_isWord : MethodName := ⟨RX7, "isWord", "(J)Z"⟩
def dkwX7_isWord_0 : List UInt8 := [42, 180, 0, 236, 4, 160, 0, 16, 42, 180, 0, 239, 31, 148, 154, 0, 7, 4, 167, 0, 4, 3, 172]
abbrev dktX7_isWord_0 : List UInt8 := dkwX7_isWord_0 ++ []
theorem dksX7_isWord_0 : cX7_isWord.data.toList.drop 0 = dktX7_isWord_0 := by decide +kernel
theorem dX7_isWord_0 : decode cX7_isWord 0 = .ok (.aload_n 0, 1) := dk_42 (dk_at dksX7_isWord_0 0 rfl rfl)
theorem dX7_isWord_1 : decode cX7_isWord 1 = .ok (.getfield 236, 3) := dk_180 0 236 (dk_at dksX7_isWord_0 1 rfl rfl)
theorem dX7_isWord_4 : decode cX7_isWord 4 = .ok (.iconst 1, 1) := dk_4 (dk_at dksX7_isWord_0 4 rfl rfl)
theorem dX7_isWord_5 : decode cX7_isWord 5 = .ok (.if_icmp .ne 16, 3) := dk_160 0 16 (dk_at dksX7_isWord_0 5 rfl rfl)
theorem dX7_isWord_8 : decode cX7_isWord 8 = .ok (.aload_n 0, 1) := dk_42 (dk_at dksX7_isWord_0 8 rfl rfl)
theorem dX7_isWord_9 : decode cX7_isWord 9 = .ok (.getfield 239, 3) := dk_180 0 239 (dk_at dksX7_isWord_0 9 rfl rfl)
theorem dX7_isWord_12 : decode cX7_isWord 12 = .ok (.lload_n 1, 1) := dk_31 (dk_at dksX7_isWord_0 12 rfl rfl)
theorem dX7_isWord_13 : decode cX7_isWord 13 = .ok (.lcmp, 1) := dk_148 (dk_at dksX7_isWord_0 13 rfl rfl)
theorem dX7_isWord_14 : decode cX7_isWord 14 = .ok (.ifCond .ne 7, 3) := dk_154 0 7 (dk_at dksX7_isWord_0 14 rfl rfl)
theorem dX7_isWord_17 : decode cX7_isWord 17 = .ok (.iconst 1, 1) := dk_4 (dk_at dksX7_isWord_0 17 rfl rfl)
theorem dX7_isWord_18 : decode cX7_isWord 18 = .ok (.goto 4, 3) := dk_167 0 4 (dk_at dksX7_isWord_0 18 rfl rfl)
theorem dX7_isWord_21 : decode cX7_isWord 21 = .ok (.iconst 0, 1) := dk_3 (dk_at dksX7_isWord_0 21 rfl rfl)
theorem dX7_isWord_22 : decode cX7_isWord 22 = .ok (.ireturn, 1) := dk_172 (dk_at dksX7_isWord_0 22 rfl rfl)
abbrev cX7_want : ByteArray := prog_14_method_75_code
def yX7_want : MethodName := ⟨RX7, "want", "()Z"⟩
def dkwX7_want_7 : List UInt8 := [172, 42, 180, 0, 145, 28, 42, 180, 1, 9, 79, 42, 180, 0, 133, 4, 92, 46, 4, 96, 79, 4, 172]
abbrev dktX7_want_7 : List UInt8 := dkwX7_want_7 ++ []
def dkwX7_want_6 : List UInt8 := [20, 1, 212, 182, 1, 214, 153, 0, 29, 42, 182, 1, 6, 42, 4, 16, 20, 182, 1, 74, 154, 0, 5, 3]
abbrev dktX7_want_6 : List UInt8 := dkwX7_want_6 ++ dktX7_want_7
def dkwX7_want_5 : List UInt8 := [182, 1, 74, 154, 0, 5, 3, 172, 42, 180, 0, 142, 28, 42, 180, 1, 9, 79, 27, 153, 0, 39, 42]
abbrev dktX7_want_5 : List UInt8 := dkwX7_want_5 ++ dktX7_want_6
def dkwX7_want_4 : List UInt8 := [16, 6, 182, 1, 74, 154, 0, 5, 3, 172, 42, 180, 0, 139, 28, 42, 180, 1, 9, 79, 42, 4, 6]
abbrev dktX7_want_4 : List UInt8 := dkwX7_want_4 ++ dktX7_want_5
def dkwX7_want_3 : List UInt8 := [180, 0, 136, 28, 46, 156, 0, 13, 42, 6, 42, 180, 0, 230, 182, 1, 2, 172, 42, 182, 1, 6, 42, 4]
abbrev dktX7_want_3 : List UInt8 := dkwX7_want_3 ++ dktX7_want_4
def dkwX7_want_2 : List UInt8 := [4, 42, 180, 0, 230, 182, 1, 2, 172, 42, 180, 0, 136, 28, 42, 42, 180, 0, 239, 182, 1, 229, 79, 42]
abbrev dktX7_want_2 : List UInt8 := dkwX7_want_2 ++ dktX7_want_3
def dkwX7_want_1 : List UInt8 := [79, 42, 180, 0, 145, 28, 3, 79, 42, 182, 1, 6, 27, 153, 0, 57, 42, 182, 1, 226, 154, 0, 13, 42]
abbrev dktX7_want_1 : List UInt8 := dkwX7_want_1 ++ dktX7_want_2
def dkwX7_want_0 : List UInt8 := [42, 20, 1, 208, 182, 1, 214, 60, 16, 8, 42, 180, 0, 133, 4, 46, 96, 61, 42, 180, 0, 136, 28, 2]
abbrev dktX7_want_0 : List UInt8 := dkwX7_want_0 ++ dktX7_want_1
theorem dksX7_want_0 : cX7_want.data.toList.drop 0 = dktX7_want_0 := by decide +kernel
theorem dksX7_want_1 : cX7_want.data.toList.drop 24 = dktX7_want_1 := dk_seg dksX7_want_0 24 rfl rfl
theorem dksX7_want_2 : cX7_want.data.toList.drop 48 = dktX7_want_2 := dk_seg dksX7_want_1 24 rfl rfl
theorem dksX7_want_3 : cX7_want.data.toList.drop 72 = dktX7_want_3 := dk_seg dksX7_want_2 24 rfl rfl
theorem dksX7_want_4 : cX7_want.data.toList.drop 96 = dktX7_want_4 := dk_seg dksX7_want_3 24 rfl rfl
theorem dksX7_want_5 : cX7_want.data.toList.drop 119 = dktX7_want_5 := dk_seg dksX7_want_4 23 rfl rfl
theorem dksX7_want_6 : cX7_want.data.toList.drop 142 = dktX7_want_6 := dk_seg dksX7_want_5 23 rfl rfl
theorem dksX7_want_7 : cX7_want.data.toList.drop 166 = dktX7_want_7 := dk_seg dksX7_want_6 24 rfl rfl
theorem dX7_want_0 : decode cX7_want 0 = .ok (.aload_n 0, 1) := dk_42 (dk_at dksX7_want_0 0 rfl rfl)
theorem dX7_want_1 : decode cX7_want 1 = .ok (.ldc2_w 464, 3) := dk_20 1 208 (dk_at dksX7_want_0 1 rfl rfl)
theorem dX7_want_4 : decode cX7_want 4 = .ok (.invokevirtual 470, 3) := dk_182 1 214 (dk_at dksX7_want_0 4 rfl rfl)
theorem dX7_want_7 : decode cX7_want 7 = .ok (.istore_n 1, 1) := dk_60 (dk_at dksX7_want_0 7 rfl rfl)
theorem dX7_want_8 : decode cX7_want 8 = .ok (.bipush 8, 2) := dk_16 8 (dk_at dksX7_want_0 8 rfl rfl)
theorem dX7_want_10 : decode cX7_want 10 = .ok (.aload_n 0, 1) := dk_42 (dk_at dksX7_want_0 10 rfl rfl)
theorem dX7_want_11 : decode cX7_want 11 = .ok (.getfield 133, 3) := dk_180 0 133 (dk_at dksX7_want_0 11 rfl rfl)
theorem dX7_want_14 : decode cX7_want 14 = .ok (.iconst 1, 1) := dk_4 (dk_at dksX7_want_0 14 rfl rfl)
theorem dX7_want_15 : decode cX7_want 15 = .ok (.iaload, 1) := dk_46 (dk_at dksX7_want_0 15 rfl rfl)
theorem dX7_want_16 : decode cX7_want 16 = .ok (.iadd, 1) := dk_96 (dk_at dksX7_want_0 16 rfl rfl)
theorem dX7_want_17 : decode cX7_want 17 = .ok (.istore_n 2, 1) := dk_61 (dk_at dksX7_want_0 17 rfl rfl)
theorem dX7_want_18 : decode cX7_want 18 = .ok (.aload_n 0, 1) := dk_42 (dk_at dksX7_want_0 18 rfl rfl)
theorem dX7_want_19 : decode cX7_want 19 = .ok (.getfield 136, 3) := dk_180 0 136 (dk_at dksX7_want_0 19 rfl rfl)
theorem dX7_want_22 : decode cX7_want 22 = .ok (.iload_n 2, 1) := dk_28 (dk_at dksX7_want_0 22 rfl rfl)
theorem dX7_want_23 : decode cX7_want 23 = .ok (.iconst (-1), 1) := dk_2 (dk_at dksX7_want_0 23 rfl rfl)
theorem dX7_want_24 : decode cX7_want 24 = .ok (.iastore, 1) := dk_79 (dk_at dksX7_want_1 0 rfl rfl)
theorem dX7_want_25 : decode cX7_want 25 = .ok (.aload_n 0, 1) := dk_42 (dk_at dksX7_want_1 1 rfl rfl)
theorem dX7_want_26 : decode cX7_want 26 = .ok (.getfield 145, 3) := dk_180 0 145 (dk_at dksX7_want_1 2 rfl rfl)
theorem dX7_want_29 : decode cX7_want 29 = .ok (.iload_n 2, 1) := dk_28 (dk_at dksX7_want_1 5 rfl rfl)
theorem dX7_want_30 : decode cX7_want 30 = .ok (.iconst 0, 1) := dk_3 (dk_at dksX7_want_1 6 rfl rfl)
theorem dX7_want_31 : decode cX7_want 31 = .ok (.iastore, 1) := dk_79 (dk_at dksX7_want_1 7 rfl rfl)
theorem dX7_want_32 : decode cX7_want 32 = .ok (.aload_n 0, 1) := dk_42 (dk_at dksX7_want_1 8 rfl rfl)
theorem dX7_want_33 : decode cX7_want 33 = .ok (.invokevirtual 262, 3) := dk_182 1 6 (dk_at dksX7_want_1 9 rfl rfl)
theorem dX7_want_36 : decode cX7_want 36 = .ok (.iload_n 1, 1) := dk_27 (dk_at dksX7_want_1 12 rfl rfl)
theorem dX7_want_37 : decode cX7_want 37 = .ok (.ifCond .eq 57, 3) := dk_153 0 57 (dk_at dksX7_want_1 13 rfl rfl)
theorem dX7_want_40 : decode cX7_want 40 = .ok (.aload_n 0, 1) := dk_42 (dk_at dksX7_want_1 16 rfl rfl)
theorem dX7_want_41 : decode cX7_want 41 = .ok (.invokevirtual 482, 3) := dk_182 1 226 (dk_at dksX7_want_1 17 rfl rfl)
theorem dX7_want_44 : decode cX7_want 44 = .ok (.ifCond .ne 13, 3) := dk_154 0 13 (dk_at dksX7_want_1 20 rfl rfl)
theorem dX7_want_47 : decode cX7_want 47 = .ok (.aload_n 0, 1) := dk_42 (dk_at dksX7_want_1 23 rfl rfl)
theorem dX7_want_48 : decode cX7_want 48 = .ok (.iconst 1, 1) := dk_4 (dk_at dksX7_want_2 0 rfl rfl)
theorem dX7_want_49 : decode cX7_want 49 = .ok (.aload_n 0, 1) := dk_42 (dk_at dksX7_want_2 1 rfl rfl)
theorem dX7_want_50 : decode cX7_want 50 = .ok (.getfield 230, 3) := dk_180 0 230 (dk_at dksX7_want_2 2 rfl rfl)
theorem dX7_want_53 : decode cX7_want 53 = .ok (.invokevirtual 258, 3) := dk_182 1 2 (dk_at dksX7_want_2 5 rfl rfl)
theorem dX7_want_56 : decode cX7_want 56 = .ok (.ireturn, 1) := dk_172 (dk_at dksX7_want_2 8 rfl rfl)
theorem dX7_want_57 : decode cX7_want 57 = .ok (.aload_n 0, 1) := dk_42 (dk_at dksX7_want_2 9 rfl rfl)
theorem dX7_want_58 : decode cX7_want 58 = .ok (.getfield 136, 3) := dk_180 0 136 (dk_at dksX7_want_2 10 rfl rfl)
theorem dX7_want_61 : decode cX7_want 61 = .ok (.iload_n 2, 1) := dk_28 (dk_at dksX7_want_2 13 rfl rfl)
theorem dX7_want_62 : decode cX7_want 62 = .ok (.aload_n 0, 1) := dk_42 (dk_at dksX7_want_2 14 rfl rfl)
theorem dX7_want_63 : decode cX7_want 63 = .ok (.aload_n 0, 1) := dk_42 (dk_at dksX7_want_2 15 rfl rfl)
theorem dX7_want_64 : decode cX7_want 64 = .ok (.getfield 239, 3) := dk_180 0 239 (dk_at dksX7_want_2 16 rfl rfl)
theorem dX7_want_67 : decode cX7_want 67 = .ok (.invokevirtual 485, 3) := dk_182 1 229 (dk_at dksX7_want_2 19 rfl rfl)
theorem dX7_want_70 : decode cX7_want 70 = .ok (.iastore, 1) := dk_79 (dk_at dksX7_want_2 22 rfl rfl)
theorem dX7_want_71 : decode cX7_want 71 = .ok (.aload_n 0, 1) := dk_42 (dk_at dksX7_want_2 23 rfl rfl)
theorem dX7_want_72 : decode cX7_want 72 = .ok (.getfield 136, 3) := dk_180 0 136 (dk_at dksX7_want_3 0 rfl rfl)
theorem dX7_want_75 : decode cX7_want 75 = .ok (.iload_n 2, 1) := dk_28 (dk_at dksX7_want_3 3 rfl rfl)
theorem dX7_want_76 : decode cX7_want 76 = .ok (.iaload, 1) := dk_46 (dk_at dksX7_want_3 4 rfl rfl)
theorem dX7_want_77 : decode cX7_want 77 = .ok (.ifCond .ge 13, 3) := dk_156 0 13 (dk_at dksX7_want_3 5 rfl rfl)
theorem dX7_want_80 : decode cX7_want 80 = .ok (.aload_n 0, 1) := dk_42 (dk_at dksX7_want_3 8 rfl rfl)
theorem dX7_want_81 : decode cX7_want 81 = .ok (.iconst 3, 1) := dk_6 (dk_at dksX7_want_3 9 rfl rfl)
theorem dX7_want_82 : decode cX7_want 82 = .ok (.aload_n 0, 1) := dk_42 (dk_at dksX7_want_3 10 rfl rfl)
theorem dX7_want_83 : decode cX7_want 83 = .ok (.getfield 230, 3) := dk_180 0 230 (dk_at dksX7_want_3 11 rfl rfl)
theorem dX7_want_86 : decode cX7_want 86 = .ok (.invokevirtual 258, 3) := dk_182 1 2 (dk_at dksX7_want_3 14 rfl rfl)
theorem dX7_want_89 : decode cX7_want 89 = .ok (.ireturn, 1) := dk_172 (dk_at dksX7_want_3 17 rfl rfl)
theorem dX7_want_90 : decode cX7_want 90 = .ok (.aload_n 0, 1) := dk_42 (dk_at dksX7_want_3 18 rfl rfl)
theorem dX7_want_91 : decode cX7_want 91 = .ok (.invokevirtual 262, 3) := dk_182 1 6 (dk_at dksX7_want_3 19 rfl rfl)
theorem dX7_want_94 : decode cX7_want 94 = .ok (.aload_n 0, 1) := dk_42 (dk_at dksX7_want_3 22 rfl rfl)
theorem dX7_want_95 : decode cX7_want 95 = .ok (.iconst 1, 1) := dk_4 (dk_at dksX7_want_3 23 rfl rfl)
theorem dX7_want_96 : decode cX7_want 96 = .ok (.bipush 6, 2) := dk_16 6 (dk_at dksX7_want_4 0 rfl rfl)
theorem dX7_want_98 : decode cX7_want 98 = .ok (.invokevirtual 330, 3) := dk_182 1 74 (dk_at dksX7_want_4 2 rfl rfl)
theorem dX7_want_101 : decode cX7_want 101 = .ok (.ifCond .ne 5, 3) := dk_154 0 5 (dk_at dksX7_want_4 5 rfl rfl)
theorem dX7_want_104 : decode cX7_want 104 = .ok (.iconst 0, 1) := dk_3 (dk_at dksX7_want_4 8 rfl rfl)
theorem dX7_want_105 : decode cX7_want 105 = .ok (.ireturn, 1) := dk_172 (dk_at dksX7_want_4 9 rfl rfl)
theorem dX7_want_106 : decode cX7_want 106 = .ok (.aload_n 0, 1) := dk_42 (dk_at dksX7_want_4 10 rfl rfl)
theorem dX7_want_107 : decode cX7_want 107 = .ok (.getfield 139, 3) := dk_180 0 139 (dk_at dksX7_want_4 11 rfl rfl)
theorem dX7_want_110 : decode cX7_want 110 = .ok (.iload_n 2, 1) := dk_28 (dk_at dksX7_want_4 14 rfl rfl)
theorem dX7_want_111 : decode cX7_want 111 = .ok (.aload_n 0, 1) := dk_42 (dk_at dksX7_want_4 15 rfl rfl)
theorem dX7_want_112 : decode cX7_want 112 = .ok (.getfield 265, 3) := dk_180 1 9 (dk_at dksX7_want_4 16 rfl rfl)
theorem dX7_want_115 : decode cX7_want 115 = .ok (.iastore, 1) := dk_79 (dk_at dksX7_want_4 19 rfl rfl)
theorem dX7_want_116 : decode cX7_want 116 = .ok (.aload_n 0, 1) := dk_42 (dk_at dksX7_want_4 20 rfl rfl)
theorem dX7_want_117 : decode cX7_want 117 = .ok (.iconst 1, 1) := dk_4 (dk_at dksX7_want_4 21 rfl rfl)
theorem dX7_want_118 : decode cX7_want 118 = .ok (.iconst 3, 1) := dk_6 (dk_at dksX7_want_4 22 rfl rfl)
theorem dX7_want_119 : decode cX7_want 119 = .ok (.invokevirtual 330, 3) := dk_182 1 74 (dk_at dksX7_want_5 0 rfl rfl)
theorem dX7_want_122 : decode cX7_want 122 = .ok (.ifCond .ne 5, 3) := dk_154 0 5 (dk_at dksX7_want_5 3 rfl rfl)
theorem dX7_want_125 : decode cX7_want 125 = .ok (.iconst 0, 1) := dk_3 (dk_at dksX7_want_5 6 rfl rfl)
theorem dX7_want_126 : decode cX7_want 126 = .ok (.ireturn, 1) := dk_172 (dk_at dksX7_want_5 7 rfl rfl)
theorem dX7_want_127 : decode cX7_want 127 = .ok (.aload_n 0, 1) := dk_42 (dk_at dksX7_want_5 8 rfl rfl)
theorem dX7_want_128 : decode cX7_want 128 = .ok (.getfield 142, 3) := dk_180 0 142 (dk_at dksX7_want_5 9 rfl rfl)
theorem dX7_want_131 : decode cX7_want 131 = .ok (.iload_n 2, 1) := dk_28 (dk_at dksX7_want_5 12 rfl rfl)
theorem dX7_want_132 : decode cX7_want 132 = .ok (.aload_n 0, 1) := dk_42 (dk_at dksX7_want_5 13 rfl rfl)
theorem dX7_want_133 : decode cX7_want 133 = .ok (.getfield 265, 3) := dk_180 1 9 (dk_at dksX7_want_5 14 rfl rfl)
theorem dX7_want_136 : decode cX7_want 136 = .ok (.iastore, 1) := dk_79 (dk_at dksX7_want_5 17 rfl rfl)
theorem dX7_want_137 : decode cX7_want 137 = .ok (.iload_n 1, 1) := dk_27 (dk_at dksX7_want_5 18 rfl rfl)
theorem dX7_want_138 : decode cX7_want 138 = .ok (.ifCond .eq 39, 3) := dk_153 0 39 (dk_at dksX7_want_5 19 rfl rfl)
theorem dX7_want_141 : decode cX7_want 141 = .ok (.aload_n 0, 1) := dk_42 (dk_at dksX7_want_5 22 rfl rfl)
theorem dX7_want_142 : decode cX7_want 142 = .ok (.ldc2_w 468, 3) := dk_20 1 212 (dk_at dksX7_want_6 0 rfl rfl)
theorem dX7_want_145 : decode cX7_want 145 = .ok (.invokevirtual 470, 3) := dk_182 1 214 (dk_at dksX7_want_6 3 rfl rfl)
theorem dX7_want_148 : decode cX7_want 148 = .ok (.ifCond .eq 29, 3) := dk_153 0 29 (dk_at dksX7_want_6 6 rfl rfl)
theorem dX7_want_151 : decode cX7_want 151 = .ok (.aload_n 0, 1) := dk_42 (dk_at dksX7_want_6 9 rfl rfl)
theorem dX7_want_152 : decode cX7_want 152 = .ok (.invokevirtual 262, 3) := dk_182 1 6 (dk_at dksX7_want_6 10 rfl rfl)
theorem dX7_want_155 : decode cX7_want 155 = .ok (.aload_n 0, 1) := dk_42 (dk_at dksX7_want_6 13 rfl rfl)
theorem dX7_want_156 : decode cX7_want 156 = .ok (.iconst 1, 1) := dk_4 (dk_at dksX7_want_6 14 rfl rfl)
theorem dX7_want_157 : decode cX7_want 157 = .ok (.bipush 20, 2) := dk_16 20 (dk_at dksX7_want_6 15 rfl rfl)
theorem dX7_want_159 : decode cX7_want 159 = .ok (.invokevirtual 330, 3) := dk_182 1 74 (dk_at dksX7_want_6 17 rfl rfl)
theorem dX7_want_162 : decode cX7_want 162 = .ok (.ifCond .ne 5, 3) := dk_154 0 5 (dk_at dksX7_want_6 20 rfl rfl)
theorem dX7_want_165 : decode cX7_want 165 = .ok (.iconst 0, 1) := dk_3 (dk_at dksX7_want_6 23 rfl rfl)
theorem dX7_want_166 : decode cX7_want 166 = .ok (.ireturn, 1) := dk_172 (dk_at dksX7_want_7 0 rfl rfl)
theorem dX7_want_167 : decode cX7_want 167 = .ok (.aload_n 0, 1) := dk_42 (dk_at dksX7_want_7 1 rfl rfl)
theorem dX7_want_168 : decode cX7_want 168 = .ok (.getfield 145, 3) := dk_180 0 145 (dk_at dksX7_want_7 2 rfl rfl)
theorem dX7_want_171 : decode cX7_want 171 = .ok (.iload_n 2, 1) := dk_28 (dk_at dksX7_want_7 5 rfl rfl)
theorem dX7_want_172 : decode cX7_want 172 = .ok (.aload_n 0, 1) := dk_42 (dk_at dksX7_want_7 6 rfl rfl)
theorem dX7_want_173 : decode cX7_want 173 = .ok (.getfield 265, 3) := dk_180 1 9 (dk_at dksX7_want_7 7 rfl rfl)
theorem dX7_want_176 : decode cX7_want 176 = .ok (.iastore, 1) := dk_79 (dk_at dksX7_want_7 10 rfl rfl)
theorem dX7_want_177 : decode cX7_want 177 = .ok (.aload_n 0, 1) := dk_42 (dk_at dksX7_want_7 11 rfl rfl)
theorem dX7_want_178 : decode cX7_want 178 = .ok (.getfield 133, 3) := dk_180 0 133 (dk_at dksX7_want_7 12 rfl rfl)
theorem dX7_want_181 : decode cX7_want 181 = .ok (.iconst 1, 1) := dk_4 (dk_at dksX7_want_7 15 rfl rfl)
theorem dX7_want_182 : decode cX7_want 182 = .ok (.dup2, 1) := dk_92 (dk_at dksX7_want_7 16 rfl rfl)
theorem dX7_want_183 : decode cX7_want 183 = .ok (.iaload, 1) := dk_46 (dk_at dksX7_want_7 17 rfl rfl)
theorem dX7_want_184 : decode cX7_want 184 = .ok (.iconst 1, 1) := dk_4 (dk_at dksX7_want_7 18 rfl rfl)
theorem dX7_want_185 : decode cX7_want 185 = .ok (.iadd, 1) := dk_96 (dk_at dksX7_want_7 19 rfl rfl)
theorem dX7_want_186 : decode cX7_want 186 = .ok (.iastore, 1) := dk_79 (dk_at dksX7_want_7 20 rfl rfl)
theorem dX7_want_187 : decode cX7_want 187 = .ok (.iconst 1, 1) := dk_4 (dk_at dksX7_want_7 21 rfl rfl)
theorem dX7_want_188 : decode cX7_want 188 = .ok (.ireturn, 1) := dk_172 (dk_at dksX7_want_7 22 rfl rfl)
abbrev cX7_isName : ByteArray := prog_14_method_70_code
def yX7_isName : MethodName := ⟨RX7, "isName", "()Z"⟩
def dkwX7_isName_2 : List UInt8 := [20, 1, 210, 148, 153, 0, 18, 42, 180, 0, 239, 20, 1, 212, 148, 153, 0, 7, 4, 167, 0, 4, 3, 172]
abbrev dktX7_isName_2 : List UInt8 := dkwX7_isName_2 ++ []
def dkwX7_isName_1 : List UInt8 := [20, 1, 206, 148, 153, 0, 40, 42, 180, 0, 239, 20, 1, 208, 148, 153, 0, 29, 42, 180, 0, 239]
abbrev dktX7_isName_1 : List UInt8 := dkwX7_isName_1 ++ dktX7_isName_2
def dkwX7_isName_0 : List UInt8 := [42, 180, 0, 236, 4, 160, 0, 62, 42, 180, 0, 239, 20, 1, 204, 148, 153, 0, 51, 42, 180, 0, 239]
abbrev dktX7_isName_0 : List UInt8 := dkwX7_isName_0 ++ dktX7_isName_1
theorem dksX7_isName_0 : cX7_isName.data.toList.drop 0 = dktX7_isName_0 := by decide +kernel
theorem dksX7_isName_1 : cX7_isName.data.toList.drop 23 = dktX7_isName_1 := dk_seg dksX7_isName_0 23 rfl rfl
theorem dksX7_isName_2 : cX7_isName.data.toList.drop 45 = dktX7_isName_2 := dk_seg dksX7_isName_1 22 rfl rfl
theorem dX7_isName_0 : decode cX7_isName 0 = .ok (.aload_n 0, 1) := dk_42 (dk_at dksX7_isName_0 0 rfl rfl)
theorem dX7_isName_1 : decode cX7_isName 1 = .ok (.getfield 236, 3) := dk_180 0 236 (dk_at dksX7_isName_0 1 rfl rfl)
theorem dX7_isName_4 : decode cX7_isName 4 = .ok (.iconst 1, 1) := dk_4 (dk_at dksX7_isName_0 4 rfl rfl)
theorem dX7_isName_5 : decode cX7_isName 5 = .ok (.if_icmp .ne 62, 3) := dk_160 0 62 (dk_at dksX7_isName_0 5 rfl rfl)
theorem dX7_isName_8 : decode cX7_isName 8 = .ok (.aload_n 0, 1) := dk_42 (dk_at dksX7_isName_0 8 rfl rfl)
theorem dX7_isName_9 : decode cX7_isName 9 = .ok (.getfield 239, 3) := dk_180 0 239 (dk_at dksX7_isName_0 9 rfl rfl)
theorem dX7_isName_12 : decode cX7_isName 12 = .ok (.ldc2_w 460, 3) := dk_20 1 204 (dk_at dksX7_isName_0 12 rfl rfl)
theorem dX7_isName_15 : decode cX7_isName 15 = .ok (.lcmp, 1) := dk_148 (dk_at dksX7_isName_0 15 rfl rfl)
theorem dX7_isName_16 : decode cX7_isName 16 = .ok (.ifCond .eq 51, 3) := dk_153 0 51 (dk_at dksX7_isName_0 16 rfl rfl)
theorem dX7_isName_19 : decode cX7_isName 19 = .ok (.aload_n 0, 1) := dk_42 (dk_at dksX7_isName_0 19 rfl rfl)
theorem dX7_isName_20 : decode cX7_isName 20 = .ok (.getfield 239, 3) := dk_180 0 239 (dk_at dksX7_isName_0 20 rfl rfl)
theorem dX7_isName_23 : decode cX7_isName 23 = .ok (.ldc2_w 462, 3) := dk_20 1 206 (dk_at dksX7_isName_1 0 rfl rfl)
theorem dX7_isName_26 : decode cX7_isName 26 = .ok (.lcmp, 1) := dk_148 (dk_at dksX7_isName_1 3 rfl rfl)
theorem dX7_isName_27 : decode cX7_isName 27 = .ok (.ifCond .eq 40, 3) := dk_153 0 40 (dk_at dksX7_isName_1 4 rfl rfl)
theorem dX7_isName_30 : decode cX7_isName 30 = .ok (.aload_n 0, 1) := dk_42 (dk_at dksX7_isName_1 7 rfl rfl)
theorem dX7_isName_31 : decode cX7_isName 31 = .ok (.getfield 239, 3) := dk_180 0 239 (dk_at dksX7_isName_1 8 rfl rfl)
theorem dX7_isName_34 : decode cX7_isName 34 = .ok (.ldc2_w 464, 3) := dk_20 1 208 (dk_at dksX7_isName_1 11 rfl rfl)
theorem dX7_isName_37 : decode cX7_isName 37 = .ok (.lcmp, 1) := dk_148 (dk_at dksX7_isName_1 14 rfl rfl)
theorem dX7_isName_38 : decode cX7_isName 38 = .ok (.ifCond .eq 29, 3) := dk_153 0 29 (dk_at dksX7_isName_1 15 rfl rfl)
theorem dX7_isName_41 : decode cX7_isName 41 = .ok (.aload_n 0, 1) := dk_42 (dk_at dksX7_isName_1 18 rfl rfl)
theorem dX7_isName_42 : decode cX7_isName 42 = .ok (.getfield 239, 3) := dk_180 0 239 (dk_at dksX7_isName_1 19 rfl rfl)
theorem dX7_isName_45 : decode cX7_isName 45 = .ok (.ldc2_w 466, 3) := dk_20 1 210 (dk_at dksX7_isName_2 0 rfl rfl)
theorem dX7_isName_48 : decode cX7_isName 48 = .ok (.lcmp, 1) := dk_148 (dk_at dksX7_isName_2 3 rfl rfl)
theorem dX7_isName_49 : decode cX7_isName 49 = .ok (.ifCond .eq 18, 3) := dk_153 0 18 (dk_at dksX7_isName_2 4 rfl rfl)
theorem dX7_isName_52 : decode cX7_isName 52 = .ok (.aload_n 0, 1) := dk_42 (dk_at dksX7_isName_2 7 rfl rfl)
theorem dX7_isName_53 : decode cX7_isName 53 = .ok (.getfield 239, 3) := dk_180 0 239 (dk_at dksX7_isName_2 8 rfl rfl)
theorem dX7_isName_56 : decode cX7_isName 56 = .ok (.ldc2_w 468, 3) := dk_20 1 212 (dk_at dksX7_isName_2 11 rfl rfl)
theorem dX7_isName_59 : decode cX7_isName 59 = .ok (.lcmp, 1) := dk_148 (dk_at dksX7_isName_2 14 rfl rfl)
theorem dX7_isName_60 : decode cX7_isName 60 = .ok (.ifCond .eq 7, 3) := dk_153 0 7 (dk_at dksX7_isName_2 15 rfl rfl)
theorem dX7_isName_63 : decode cX7_isName 63 = .ok (.iconst 1, 1) := dk_4 (dk_at dksX7_isName_2 18 rfl rfl)
theorem dX7_isName_64 : decode cX7_isName 64 = .ok (.goto 4, 3) := dk_167 0 4 (dk_at dksX7_isName_2 19 rfl rfl)
theorem dX7_isName_67 : decode cX7_isName 67 = .ok (.iconst 0, 1) := dk_3 (dk_at dksX7_isName_2 22 rfl rfl)
theorem dX7_isName_68 : decode cX7_isName 68 = .ok (.ireturn, 1) := dk_172 (dk_at dksX7_isName_2 23 rfl rfl)
abbrev cX7_named : ByteArray := prog_14_method_71_code
def yX7_named : MethodName := ⟨RX7, "named", "(J)I"⟩
def dkwX7_named_1 : List UInt8 := [154, 0, 5, 29, 172, 132, 3, 1, 167, 255, 227, 2, 172]
abbrev dktX7_named_1 : List UInt8 := dkwX7_named_1 ++ []
def dkwX7_named_0 : List UInt8 := [3, 62, 29, 42, 180, 0, 121, 4, 46, 162, 0, 25, 42, 180, 0, 148, 16, 6, 29, 96, 47, 31, 148]
abbrev dktX7_named_0 : List UInt8 := dkwX7_named_0 ++ dktX7_named_1
theorem dksX7_named_0 : cX7_named.data.toList.drop 0 = dktX7_named_0 := by decide +kernel
theorem dksX7_named_1 : cX7_named.data.toList.drop 23 = dktX7_named_1 := dk_seg dksX7_named_0 23 rfl rfl
theorem dX7_named_0 : decode cX7_named 0 = .ok (.iconst 0, 1) := dk_3 (dk_at dksX7_named_0 0 rfl rfl)
theorem dX7_named_1 : decode cX7_named 1 = .ok (.istore_n 3, 1) := dk_62 (dk_at dksX7_named_0 1 rfl rfl)
theorem dX7_named_2 : decode cX7_named 2 = .ok (.iload_n 3, 1) := dk_29 (dk_at dksX7_named_0 2 rfl rfl)
theorem dX7_named_3 : decode cX7_named 3 = .ok (.aload_n 0, 1) := dk_42 (dk_at dksX7_named_0 3 rfl rfl)
theorem dX7_named_4 : decode cX7_named 4 = .ok (.getfield 121, 3) := dk_180 0 121 (dk_at dksX7_named_0 4 rfl rfl)
theorem dX7_named_7 : decode cX7_named 7 = .ok (.iconst 1, 1) := dk_4 (dk_at dksX7_named_0 7 rfl rfl)
theorem dX7_named_8 : decode cX7_named 8 = .ok (.iaload, 1) := dk_46 (dk_at dksX7_named_0 8 rfl rfl)
theorem dX7_named_9 : decode cX7_named 9 = .ok (.if_icmp .ge 25, 3) := dk_162 0 25 (dk_at dksX7_named_0 9 rfl rfl)
theorem dX7_named_12 : decode cX7_named 12 = .ok (.aload_n 0, 1) := dk_42 (dk_at dksX7_named_0 12 rfl rfl)
theorem dX7_named_13 : decode cX7_named 13 = .ok (.getfield 148, 3) := dk_180 0 148 (dk_at dksX7_named_0 13 rfl rfl)
theorem dX7_named_16 : decode cX7_named 16 = .ok (.bipush 6, 2) := dk_16 6 (dk_at dksX7_named_0 16 rfl rfl)
theorem dX7_named_18 : decode cX7_named 18 = .ok (.iload_n 3, 1) := dk_29 (dk_at dksX7_named_0 18 rfl rfl)
theorem dX7_named_19 : decode cX7_named 19 = .ok (.iadd, 1) := dk_96 (dk_at dksX7_named_0 19 rfl rfl)
theorem dX7_named_20 : decode cX7_named 20 = .ok (.laload, 1) := dk_47 (dk_at dksX7_named_0 20 rfl rfl)
theorem dX7_named_21 : decode cX7_named 21 = .ok (.lload_n 1, 1) := dk_31 (dk_at dksX7_named_0 21 rfl rfl)
theorem dX7_named_22 : decode cX7_named 22 = .ok (.lcmp, 1) := dk_148 (dk_at dksX7_named_0 22 rfl rfl)
theorem dX7_named_23 : decode cX7_named 23 = .ok (.ifCond .ne 5, 3) := dk_154 0 5 (dk_at dksX7_named_1 0 rfl rfl)
theorem dX7_named_26 : decode cX7_named 26 = .ok (.iload_n 3, 1) := dk_29 (dk_at dksX7_named_1 3 rfl rfl)
theorem dX7_named_27 : decode cX7_named 27 = .ok (.ireturn, 1) := dk_172 (dk_at dksX7_named_1 4 rfl rfl)
theorem dX7_named_28 : decode cX7_named 28 = .ok (.iinc 3 1, 3) := dk_132 3 1 (dk_at dksX7_named_1 5 rfl rfl)
theorem dX7_named_31 : decode cX7_named 31 = .ok (.goto (-29), 3) := dk_167 255 227 (dk_at dksX7_named_1 8 rfl rfl)
theorem dX7_named_34 : decode cX7_named 34 = .ok (.iconst (-1), 1) := dk_2 (dk_at dksX7_named_1 11 rfl rfl)
theorem dX7_named_35 : decode cX7_named 35 = .ok (.ireturn, 1) := dk_172 (dk_at dksX7_named_1 12 rfl rfl)
abbrev cX7_field : ByteArray := prog_14_method_73_code
def yX7_field : MethodName := ⟨RX7, "field", "()Z"⟩
def dkwX7_field_6 : List UInt8 := [92, 46, 4, 96, 79, 4, 172]
abbrev dktX7_field_6 : List UInt8 := dkwX7_field_6 ++ []
def dkwX7_field_5 : List UInt8 := [3, 172, 42, 180, 0, 127, 27, 42, 180, 1, 9, 79, 42, 180, 0, 148, 27, 32, 80, 42, 180, 0, 121, 4]
abbrev dktX7_field_5 : List UInt8 := dkwX7_field_5 ++ dktX7_field_6
def dkwX7_field_4 : List UInt8 := [8, 96, 16, 20, 162, 0, 12, 42, 180, 1, 9, 8, 96, 167, 0, 5, 16, 20, 182, 1, 74, 154, 0, 5]
abbrev dktX7_field_4 : List UInt8 := dkwX7_field_4 ++ dktX7_field_5
def dkwX7_field_3 : List UInt8 := [154, 0, 5, 3, 172, 42, 180, 0, 124, 27, 42, 180, 1, 9, 79, 42, 42, 180, 1, 9, 42, 180, 1, 9]
abbrev dktX7_field_3 : List UInt8 := dkwX7_field_3 ++ dktX7_field_4
def dkwX7_field_2 : List UInt8 := [180, 0, 121, 4, 46, 96, 60, 42, 180, 0, 239, 65, 42, 182, 1, 6, 42, 4, 16, 20, 182, 1, 74]
abbrev dktX7_field_2 : List UInt8 := dkwX7_field_2 ++ dktX7_field_3
def dkwX7_field_1 : List UInt8 := [180, 0, 239, 182, 1, 229, 155, 0, 13, 42, 6, 42, 180, 0, 230, 182, 1, 2, 172, 16, 6, 42]
abbrev dktX7_field_1 : List UInt8 := dkwX7_field_1 ++ dktX7_field_2
def dkwX7_field_0 : List UInt8 := [42, 182, 1, 6, 42, 182, 1, 226, 154, 0, 13, 42, 4, 42, 180, 0, 230, 182, 1, 2, 172, 42, 42]
abbrev dktX7_field_0 : List UInt8 := dkwX7_field_0 ++ dktX7_field_1
theorem dksX7_field_0 : cX7_field.data.toList.drop 0 = dktX7_field_0 := by decide +kernel
theorem dksX7_field_1 : cX7_field.data.toList.drop 23 = dktX7_field_1 := dk_seg dksX7_field_0 23 rfl rfl
theorem dksX7_field_2 : cX7_field.data.toList.drop 45 = dktX7_field_2 := dk_seg dksX7_field_1 22 rfl rfl
theorem dksX7_field_3 : cX7_field.data.toList.drop 68 = dktX7_field_3 := dk_seg dksX7_field_2 23 rfl rfl
theorem dksX7_field_4 : cX7_field.data.toList.drop 92 = dktX7_field_4 := dk_seg dksX7_field_3 24 rfl rfl
theorem dksX7_field_5 : cX7_field.data.toList.drop 116 = dktX7_field_5 := dk_seg dksX7_field_4 24 rfl rfl
theorem dksX7_field_6 : cX7_field.data.toList.drop 140 = dktX7_field_6 := dk_seg dksX7_field_5 24 rfl rfl
theorem dX7_field_0 : decode cX7_field 0 = .ok (.aload_n 0, 1) := dk_42 (dk_at dksX7_field_0 0 rfl rfl)
theorem dX7_field_1 : decode cX7_field 1 = .ok (.invokevirtual 262, 3) := dk_182 1 6 (dk_at dksX7_field_0 1 rfl rfl)
theorem dX7_field_4 : decode cX7_field 4 = .ok (.aload_n 0, 1) := dk_42 (dk_at dksX7_field_0 4 rfl rfl)
theorem dX7_field_5 : decode cX7_field 5 = .ok (.invokevirtual 482, 3) := dk_182 1 226 (dk_at dksX7_field_0 5 rfl rfl)
theorem dX7_field_8 : decode cX7_field 8 = .ok (.ifCond .ne 13, 3) := dk_154 0 13 (dk_at dksX7_field_0 8 rfl rfl)
theorem dX7_field_11 : decode cX7_field 11 = .ok (.aload_n 0, 1) := dk_42 (dk_at dksX7_field_0 11 rfl rfl)
theorem dX7_field_12 : decode cX7_field 12 = .ok (.iconst 1, 1) := dk_4 (dk_at dksX7_field_0 12 rfl rfl)
theorem dX7_field_13 : decode cX7_field 13 = .ok (.aload_n 0, 1) := dk_42 (dk_at dksX7_field_0 13 rfl rfl)
theorem dX7_field_14 : decode cX7_field 14 = .ok (.getfield 230, 3) := dk_180 0 230 (dk_at dksX7_field_0 14 rfl rfl)
theorem dX7_field_17 : decode cX7_field 17 = .ok (.invokevirtual 258, 3) := dk_182 1 2 (dk_at dksX7_field_0 17 rfl rfl)
theorem dX7_field_20 : decode cX7_field 20 = .ok (.ireturn, 1) := dk_172 (dk_at dksX7_field_0 20 rfl rfl)
theorem dX7_field_21 : decode cX7_field 21 = .ok (.aload_n 0, 1) := dk_42 (dk_at dksX7_field_0 21 rfl rfl)
theorem dX7_field_22 : decode cX7_field 22 = .ok (.aload_n 0, 1) := dk_42 (dk_at dksX7_field_0 22 rfl rfl)
theorem dX7_field_23 : decode cX7_field 23 = .ok (.getfield 239, 3) := dk_180 0 239 (dk_at dksX7_field_1 0 rfl rfl)
theorem dX7_field_26 : decode cX7_field 26 = .ok (.invokevirtual 485, 3) := dk_182 1 229 (dk_at dksX7_field_1 3 rfl rfl)
theorem dX7_field_29 : decode cX7_field 29 = .ok (.ifCond .lt 13, 3) := dk_155 0 13 (dk_at dksX7_field_1 6 rfl rfl)
theorem dX7_field_32 : decode cX7_field 32 = .ok (.aload_n 0, 1) := dk_42 (dk_at dksX7_field_1 9 rfl rfl)
theorem dX7_field_33 : decode cX7_field 33 = .ok (.iconst 3, 1) := dk_6 (dk_at dksX7_field_1 10 rfl rfl)
theorem dX7_field_34 : decode cX7_field 34 = .ok (.aload_n 0, 1) := dk_42 (dk_at dksX7_field_1 11 rfl rfl)
theorem dX7_field_35 : decode cX7_field 35 = .ok (.getfield 230, 3) := dk_180 0 230 (dk_at dksX7_field_1 12 rfl rfl)
theorem dX7_field_38 : decode cX7_field 38 = .ok (.invokevirtual 258, 3) := dk_182 1 2 (dk_at dksX7_field_1 15 rfl rfl)
theorem dX7_field_41 : decode cX7_field 41 = .ok (.ireturn, 1) := dk_172 (dk_at dksX7_field_1 18 rfl rfl)
theorem dX7_field_42 : decode cX7_field 42 = .ok (.bipush 6, 2) := dk_16 6 (dk_at dksX7_field_1 19 rfl rfl)
theorem dX7_field_44 : decode cX7_field 44 = .ok (.aload_n 0, 1) := dk_42 (dk_at dksX7_field_1 21 rfl rfl)
theorem dX7_field_45 : decode cX7_field 45 = .ok (.getfield 121, 3) := dk_180 0 121 (dk_at dksX7_field_2 0 rfl rfl)
theorem dX7_field_48 : decode cX7_field 48 = .ok (.iconst 1, 1) := dk_4 (dk_at dksX7_field_2 3 rfl rfl)
theorem dX7_field_49 : decode cX7_field 49 = .ok (.iaload, 1) := dk_46 (dk_at dksX7_field_2 4 rfl rfl)
theorem dX7_field_50 : decode cX7_field 50 = .ok (.iadd, 1) := dk_96 (dk_at dksX7_field_2 5 rfl rfl)
theorem dX7_field_51 : decode cX7_field 51 = .ok (.istore_n 1, 1) := dk_60 (dk_at dksX7_field_2 6 rfl rfl)
theorem dX7_field_52 : decode cX7_field 52 = .ok (.aload_n 0, 1) := dk_42 (dk_at dksX7_field_2 7 rfl rfl)
theorem dX7_field_53 : decode cX7_field 53 = .ok (.getfield 239, 3) := dk_180 0 239 (dk_at dksX7_field_2 8 rfl rfl)
theorem dX7_field_56 : decode cX7_field 56 = .ok (.lstore_n 2, 1) := dk_65 (dk_at dksX7_field_2 11 rfl rfl)
theorem dX7_field_57 : decode cX7_field 57 = .ok (.aload_n 0, 1) := dk_42 (dk_at dksX7_field_2 12 rfl rfl)
theorem dX7_field_58 : decode cX7_field 58 = .ok (.invokevirtual 262, 3) := dk_182 1 6 (dk_at dksX7_field_2 13 rfl rfl)
theorem dX7_field_61 : decode cX7_field 61 = .ok (.aload_n 0, 1) := dk_42 (dk_at dksX7_field_2 16 rfl rfl)
theorem dX7_field_62 : decode cX7_field 62 = .ok (.iconst 1, 1) := dk_4 (dk_at dksX7_field_2 17 rfl rfl)
theorem dX7_field_63 : decode cX7_field 63 = .ok (.bipush 20, 2) := dk_16 20 (dk_at dksX7_field_2 18 rfl rfl)
theorem dX7_field_65 : decode cX7_field 65 = .ok (.invokevirtual 330, 3) := dk_182 1 74 (dk_at dksX7_field_2 20 rfl rfl)
theorem dX7_field_68 : decode cX7_field 68 = .ok (.ifCond .ne 5, 3) := dk_154 0 5 (dk_at dksX7_field_3 0 rfl rfl)
theorem dX7_field_71 : decode cX7_field 71 = .ok (.iconst 0, 1) := dk_3 (dk_at dksX7_field_3 3 rfl rfl)
theorem dX7_field_72 : decode cX7_field 72 = .ok (.ireturn, 1) := dk_172 (dk_at dksX7_field_3 4 rfl rfl)
theorem dX7_field_73 : decode cX7_field 73 = .ok (.aload_n 0, 1) := dk_42 (dk_at dksX7_field_3 5 rfl rfl)
theorem dX7_field_74 : decode cX7_field 74 = .ok (.getfield 124, 3) := dk_180 0 124 (dk_at dksX7_field_3 6 rfl rfl)
theorem dX7_field_77 : decode cX7_field 77 = .ok (.iload_n 1, 1) := dk_27 (dk_at dksX7_field_3 9 rfl rfl)
theorem dX7_field_78 : decode cX7_field 78 = .ok (.aload_n 0, 1) := dk_42 (dk_at dksX7_field_3 10 rfl rfl)
theorem dX7_field_79 : decode cX7_field 79 = .ok (.getfield 265, 3) := dk_180 1 9 (dk_at dksX7_field_3 11 rfl rfl)
theorem dX7_field_82 : decode cX7_field 82 = .ok (.iastore, 1) := dk_79 (dk_at dksX7_field_3 14 rfl rfl)
theorem dX7_field_83 : decode cX7_field 83 = .ok (.aload_n 0, 1) := dk_42 (dk_at dksX7_field_3 15 rfl rfl)
theorem dX7_field_84 : decode cX7_field 84 = .ok (.aload_n 0, 1) := dk_42 (dk_at dksX7_field_3 16 rfl rfl)
theorem dX7_field_85 : decode cX7_field 85 = .ok (.getfield 265, 3) := dk_180 1 9 (dk_at dksX7_field_3 17 rfl rfl)
theorem dX7_field_88 : decode cX7_field 88 = .ok (.aload_n 0, 1) := dk_42 (dk_at dksX7_field_3 20 rfl rfl)
theorem dX7_field_89 : decode cX7_field 89 = .ok (.getfield 265, 3) := dk_180 1 9 (dk_at dksX7_field_3 21 rfl rfl)
theorem dX7_field_92 : decode cX7_field 92 = .ok (.iconst 5, 1) := dk_8 (dk_at dksX7_field_4 0 rfl rfl)
theorem dX7_field_93 : decode cX7_field 93 = .ok (.iadd, 1) := dk_96 (dk_at dksX7_field_4 1 rfl rfl)
theorem dX7_field_94 : decode cX7_field 94 = .ok (.bipush 20, 2) := dk_16 20 (dk_at dksX7_field_4 2 rfl rfl)
theorem dX7_field_96 : decode cX7_field 96 = .ok (.if_icmp .ge 12, 3) := dk_162 0 12 (dk_at dksX7_field_4 4 rfl rfl)
theorem dX7_field_99 : decode cX7_field 99 = .ok (.aload_n 0, 1) := dk_42 (dk_at dksX7_field_4 7 rfl rfl)
theorem dX7_field_100 : decode cX7_field 100 = .ok (.getfield 265, 3) := dk_180 1 9 (dk_at dksX7_field_4 8 rfl rfl)
theorem dX7_field_103 : decode cX7_field 103 = .ok (.iconst 5, 1) := dk_8 (dk_at dksX7_field_4 11 rfl rfl)
theorem dX7_field_104 : decode cX7_field 104 = .ok (.iadd, 1) := dk_96 (dk_at dksX7_field_4 12 rfl rfl)
theorem dX7_field_105 : decode cX7_field 105 = .ok (.goto 5, 3) := dk_167 0 5 (dk_at dksX7_field_4 13 rfl rfl)
theorem dX7_field_108 : decode cX7_field 108 = .ok (.bipush 20, 2) := dk_16 20 (dk_at dksX7_field_4 16 rfl rfl)
theorem dX7_field_110 : decode cX7_field 110 = .ok (.invokevirtual 330, 3) := dk_182 1 74 (dk_at dksX7_field_4 18 rfl rfl)
theorem dX7_field_113 : decode cX7_field 113 = .ok (.ifCond .ne 5, 3) := dk_154 0 5 (dk_at dksX7_field_4 21 rfl rfl)
theorem dX7_field_116 : decode cX7_field 116 = .ok (.iconst 0, 1) := dk_3 (dk_at dksX7_field_5 0 rfl rfl)
theorem dX7_field_117 : decode cX7_field 117 = .ok (.ireturn, 1) := dk_172 (dk_at dksX7_field_5 1 rfl rfl)
theorem dX7_field_118 : decode cX7_field 118 = .ok (.aload_n 0, 1) := dk_42 (dk_at dksX7_field_5 2 rfl rfl)
theorem dX7_field_119 : decode cX7_field 119 = .ok (.getfield 127, 3) := dk_180 0 127 (dk_at dksX7_field_5 3 rfl rfl)
theorem dX7_field_122 : decode cX7_field 122 = .ok (.iload_n 1, 1) := dk_27 (dk_at dksX7_field_5 6 rfl rfl)
theorem dX7_field_123 : decode cX7_field 123 = .ok (.aload_n 0, 1) := dk_42 (dk_at dksX7_field_5 7 rfl rfl)
theorem dX7_field_124 : decode cX7_field 124 = .ok (.getfield 265, 3) := dk_180 1 9 (dk_at dksX7_field_5 8 rfl rfl)
theorem dX7_field_127 : decode cX7_field 127 = .ok (.iastore, 1) := dk_79 (dk_at dksX7_field_5 11 rfl rfl)
theorem dX7_field_128 : decode cX7_field 128 = .ok (.aload_n 0, 1) := dk_42 (dk_at dksX7_field_5 12 rfl rfl)
theorem dX7_field_129 : decode cX7_field 129 = .ok (.getfield 148, 3) := dk_180 0 148 (dk_at dksX7_field_5 13 rfl rfl)
theorem dX7_field_132 : decode cX7_field 132 = .ok (.iload_n 1, 1) := dk_27 (dk_at dksX7_field_5 16 rfl rfl)
theorem dX7_field_133 : decode cX7_field 133 = .ok (.lload_n 2, 1) := dk_32 (dk_at dksX7_field_5 17 rfl rfl)
theorem dX7_field_134 : decode cX7_field 134 = .ok (.lastore, 1) := dk_80 (dk_at dksX7_field_5 18 rfl rfl)
theorem dX7_field_135 : decode cX7_field 135 = .ok (.aload_n 0, 1) := dk_42 (dk_at dksX7_field_5 19 rfl rfl)
theorem dX7_field_136 : decode cX7_field 136 = .ok (.getfield 121, 3) := dk_180 0 121 (dk_at dksX7_field_5 20 rfl rfl)
theorem dX7_field_139 : decode cX7_field 139 = .ok (.iconst 1, 1) := dk_4 (dk_at dksX7_field_5 23 rfl rfl)
theorem dX7_field_140 : decode cX7_field 140 = .ok (.dup2, 1) := dk_92 (dk_at dksX7_field_6 0 rfl rfl)
theorem dX7_field_141 : decode cX7_field 141 = .ok (.iaload, 1) := dk_46 (dk_at dksX7_field_6 1 rfl rfl)
theorem dX7_field_142 : decode cX7_field 142 = .ok (.iconst 1, 1) := dk_4 (dk_at dksX7_field_6 2 rfl rfl)
theorem dX7_field_143 : decode cX7_field 143 = .ok (.iadd, 1) := dk_96 (dk_at dksX7_field_6 3 rfl rfl)
theorem dX7_field_144 : decode cX7_field 144 = .ok (.iastore, 1) := dk_79 (dk_at dksX7_field_6 4 rfl rfl)
theorem dX7_field_145 : decode cX7_field 145 = .ok (.iconst 1, 1) := dk_4 (dk_at dksX7_field_6 5 rfl rfl)
theorem dX7_field_146 : decode cX7_field 146 = .ok (.ireturn, 1) := dk_172 (dk_at dksX7_field_6 6 rfl rfl)
abbrev cX7_breaks : ByteArray := prog_14_method_74_code
def yX7_breaks : MethodName := ⟨RX7, "breaks", "()Z"⟩
def dkwX7_breaks_3 : List UInt8 := [4, 172]
abbrev dktX7_breaks_3 : List UInt8 := dkwX7_breaks_3 ++ []
def dkwX7_breaks_2 : List UInt8 := [96, 46, 158, 0, 10, 42, 6, 28, 182, 1, 2, 172, 42, 180, 0, 130, 5, 42, 180, 1, 9, 96, 27, 79]
abbrev dktX7_breaks_2 : List UInt8 := dkwX7_breaks_2 ++ dktX7_breaks_3
def dkwX7_breaks_1 : List UInt8 := [180, 0, 230, 61, 42, 4, 6, 182, 1, 74, 154, 0, 5, 3, 172, 42, 180, 0, 130, 5, 42, 180, 1, 9]
abbrev dktX7_breaks_1 : List UInt8 := dkwX7_breaks_1 ++ dktX7_breaks_2
def dkwX7_breaks_0 : List UInt8 := [42, 182, 1, 6, 42, 4, 16, 20, 182, 1, 74, 154, 0, 5, 3, 172, 42, 180, 1, 9, 60, 42]
abbrev dktX7_breaks_0 : List UInt8 := dkwX7_breaks_0 ++ dktX7_breaks_1
theorem dksX7_breaks_0 : cX7_breaks.data.toList.drop 0 = dktX7_breaks_0 := by decide +kernel
theorem dksX7_breaks_1 : cX7_breaks.data.toList.drop 22 = dktX7_breaks_1 := dk_seg dksX7_breaks_0 22 rfl rfl
theorem dksX7_breaks_2 : cX7_breaks.data.toList.drop 46 = dktX7_breaks_2 := dk_seg dksX7_breaks_1 24 rfl rfl
theorem dksX7_breaks_3 : cX7_breaks.data.toList.drop 70 = dktX7_breaks_3 := dk_seg dksX7_breaks_2 24 rfl rfl
theorem dX7_breaks_0 : decode cX7_breaks 0 = .ok (.aload_n 0, 1) := dk_42 (dk_at dksX7_breaks_0 0 rfl rfl)
theorem dX7_breaks_1 : decode cX7_breaks 1 = .ok (.invokevirtual 262, 3) := dk_182 1 6 (dk_at dksX7_breaks_0 1 rfl rfl)
theorem dX7_breaks_4 : decode cX7_breaks 4 = .ok (.aload_n 0, 1) := dk_42 (dk_at dksX7_breaks_0 4 rfl rfl)
theorem dX7_breaks_5 : decode cX7_breaks 5 = .ok (.iconst 1, 1) := dk_4 (dk_at dksX7_breaks_0 5 rfl rfl)
theorem dX7_breaks_6 : decode cX7_breaks 6 = .ok (.bipush 20, 2) := dk_16 20 (dk_at dksX7_breaks_0 6 rfl rfl)
theorem dX7_breaks_8 : decode cX7_breaks 8 = .ok (.invokevirtual 330, 3) := dk_182 1 74 (dk_at dksX7_breaks_0 8 rfl rfl)
theorem dX7_breaks_11 : decode cX7_breaks 11 = .ok (.ifCond .ne 5, 3) := dk_154 0 5 (dk_at dksX7_breaks_0 11 rfl rfl)
theorem dX7_breaks_14 : decode cX7_breaks 14 = .ok (.iconst 0, 1) := dk_3 (dk_at dksX7_breaks_0 14 rfl rfl)
theorem dX7_breaks_15 : decode cX7_breaks 15 = .ok (.ireturn, 1) := dk_172 (dk_at dksX7_breaks_0 15 rfl rfl)
theorem dX7_breaks_16 : decode cX7_breaks 16 = .ok (.aload_n 0, 1) := dk_42 (dk_at dksX7_breaks_0 16 rfl rfl)
theorem dX7_breaks_17 : decode cX7_breaks 17 = .ok (.getfield 265, 3) := dk_180 1 9 (dk_at dksX7_breaks_0 17 rfl rfl)
theorem dX7_breaks_20 : decode cX7_breaks 20 = .ok (.istore_n 1, 1) := dk_60 (dk_at dksX7_breaks_0 20 rfl rfl)
theorem dX7_breaks_21 : decode cX7_breaks 21 = .ok (.aload_n 0, 1) := dk_42 (dk_at dksX7_breaks_0 21 rfl rfl)
theorem dX7_breaks_22 : decode cX7_breaks 22 = .ok (.getfield 230, 3) := dk_180 0 230 (dk_at dksX7_breaks_1 0 rfl rfl)
theorem dX7_breaks_25 : decode cX7_breaks 25 = .ok (.istore_n 2, 1) := dk_61 (dk_at dksX7_breaks_1 3 rfl rfl)
theorem dX7_breaks_26 : decode cX7_breaks 26 = .ok (.aload_n 0, 1) := dk_42 (dk_at dksX7_breaks_1 4 rfl rfl)
theorem dX7_breaks_27 : decode cX7_breaks 27 = .ok (.iconst 1, 1) := dk_4 (dk_at dksX7_breaks_1 5 rfl rfl)
theorem dX7_breaks_28 : decode cX7_breaks 28 = .ok (.iconst 3, 1) := dk_6 (dk_at dksX7_breaks_1 6 rfl rfl)
theorem dX7_breaks_29 : decode cX7_breaks 29 = .ok (.invokevirtual 330, 3) := dk_182 1 74 (dk_at dksX7_breaks_1 7 rfl rfl)
theorem dX7_breaks_32 : decode cX7_breaks 32 = .ok (.ifCond .ne 5, 3) := dk_154 0 5 (dk_at dksX7_breaks_1 10 rfl rfl)
theorem dX7_breaks_35 : decode cX7_breaks 35 = .ok (.iconst 0, 1) := dk_3 (dk_at dksX7_breaks_1 13 rfl rfl)
theorem dX7_breaks_36 : decode cX7_breaks 36 = .ok (.ireturn, 1) := dk_172 (dk_at dksX7_breaks_1 14 rfl rfl)
theorem dX7_breaks_37 : decode cX7_breaks 37 = .ok (.aload_n 0, 1) := dk_42 (dk_at dksX7_breaks_1 15 rfl rfl)
theorem dX7_breaks_38 : decode cX7_breaks 38 = .ok (.getfield 130, 3) := dk_180 0 130 (dk_at dksX7_breaks_1 16 rfl rfl)
theorem dX7_breaks_41 : decode cX7_breaks 41 = .ok (.iconst 2, 1) := dk_5 (dk_at dksX7_breaks_1 19 rfl rfl)
theorem dX7_breaks_42 : decode cX7_breaks 42 = .ok (.aload_n 0, 1) := dk_42 (dk_at dksX7_breaks_1 20 rfl rfl)
theorem dX7_breaks_43 : decode cX7_breaks 43 = .ok (.getfield 265, 3) := dk_180 1 9 (dk_at dksX7_breaks_1 21 rfl rfl)
theorem dX7_breaks_46 : decode cX7_breaks 46 = .ok (.iadd, 1) := dk_96 (dk_at dksX7_breaks_2 0 rfl rfl)
theorem dX7_breaks_47 : decode cX7_breaks 47 = .ok (.iaload, 1) := dk_46 (dk_at dksX7_breaks_2 1 rfl rfl)
theorem dX7_breaks_48 : decode cX7_breaks 48 = .ok (.ifCond .le 10, 3) := dk_158 0 10 (dk_at dksX7_breaks_2 2 rfl rfl)
theorem dX7_breaks_51 : decode cX7_breaks 51 = .ok (.aload_n 0, 1) := dk_42 (dk_at dksX7_breaks_2 5 rfl rfl)
theorem dX7_breaks_52 : decode cX7_breaks 52 = .ok (.iconst 3, 1) := dk_6 (dk_at dksX7_breaks_2 6 rfl rfl)
theorem dX7_breaks_53 : decode cX7_breaks 53 = .ok (.iload_n 2, 1) := dk_28 (dk_at dksX7_breaks_2 7 rfl rfl)
theorem dX7_breaks_54 : decode cX7_breaks 54 = .ok (.invokevirtual 258, 3) := dk_182 1 2 (dk_at dksX7_breaks_2 8 rfl rfl)
theorem dX7_breaks_57 : decode cX7_breaks 57 = .ok (.ireturn, 1) := dk_172 (dk_at dksX7_breaks_2 11 rfl rfl)
theorem dX7_breaks_58 : decode cX7_breaks 58 = .ok (.aload_n 0, 1) := dk_42 (dk_at dksX7_breaks_2 12 rfl rfl)
theorem dX7_breaks_59 : decode cX7_breaks 59 = .ok (.getfield 130, 3) := dk_180 0 130 (dk_at dksX7_breaks_2 13 rfl rfl)
theorem dX7_breaks_62 : decode cX7_breaks 62 = .ok (.iconst 2, 1) := dk_5 (dk_at dksX7_breaks_2 16 rfl rfl)
theorem dX7_breaks_63 : decode cX7_breaks 63 = .ok (.aload_n 0, 1) := dk_42 (dk_at dksX7_breaks_2 17 rfl rfl)
theorem dX7_breaks_64 : decode cX7_breaks 64 = .ok (.getfield 265, 3) := dk_180 1 9 (dk_at dksX7_breaks_2 18 rfl rfl)
theorem dX7_breaks_67 : decode cX7_breaks 67 = .ok (.iadd, 1) := dk_96 (dk_at dksX7_breaks_2 21 rfl rfl)
theorem dX7_breaks_68 : decode cX7_breaks 68 = .ok (.iload_n 1, 1) := dk_27 (dk_at dksX7_breaks_2 22 rfl rfl)
theorem dX7_breaks_69 : decode cX7_breaks 69 = .ok (.iastore, 1) := dk_79 (dk_at dksX7_breaks_2 23 rfl rfl)
theorem dX7_breaks_70 : decode cX7_breaks 70 = .ok (.iconst 1, 1) := dk_4 (dk_at dksX7_breaks_3 0 rfl rfl)
theorem dX7_breaks_71 : decode cX7_breaks 71 = .ok (.ireturn, 1) := dk_172 (dk_at dksX7_breaks_3 1 rfl rfl)
abbrev cX7_runs : ByteArray := prog_14_method_82_code
def yX7_runs : MethodName := ⟨RX7, "runs", "()I"⟩
def dkwX7_runs_0 : List UInt8 := [42, 3, 181, 0, 190, 42, 182, 2, 0, 172]
abbrev dktX7_runs_0 : List UInt8 := dkwX7_runs_0 ++ []
theorem dksX7_runs_0 : cX7_runs.data.toList.drop 0 = dktX7_runs_0 := by decide +kernel
theorem dX7_runs_0 : decode cX7_runs 0 = .ok (.aload_n 0, 1) := dk_42 (dk_at dksX7_runs_0 0 rfl rfl)
theorem dX7_runs_1 : decode cX7_runs 1 = .ok (.iconst 0, 1) := dk_3 (dk_at dksX7_runs_0 1 rfl rfl)
theorem dX7_runs_2 : decode cX7_runs 2 = .ok (.putfield 190, 3) := dk_181 0 190 (dk_at dksX7_runs_0 2 rfl rfl)
theorem dX7_runs_5 : decode cX7_runs 5 = .ok (.aload_n 0, 1) := dk_42 (dk_at dksX7_runs_0 5 rfl rfl)
theorem dX7_runs_6 : decode cX7_runs 6 = .ok (.invokevirtual 512, 3) := dk_182 2 0 (dk_at dksX7_runs_0 6 rfl rfl)
theorem dX7_runs_9 : decode cX7_runs 9 = .ok (.ireturn, 1) := dk_172 (dk_at dksX7_runs_0 9 rfl rfl)
abbrev cX7_plan : ByteArray := prog_14_method_81_code
def yX7_plan : MethodName := ⟨RX7, "plan", "()I"⟩
def dkwX7_plan_7 : List UInt8 := [180, 0, 163, 27, 46, 172]
abbrev dktX7_plan_7 : List UInt8 := dkwX7_plan_7 ++ []
def dkwX7_plan_6 : List UInt8 := [132, 2, 1, 167, 255, 131, 42, 180, 0, 163, 27, 46, 16, 100, 161, 0, 7, 2, 167, 0, 9, 42]
abbrev dktX7_plan_6 : List UInt8 := dkwX7_plan_6 ++ dktX7_plan_7
def dkwX7_plan_5 : List UInt8 := [28, 21, 4, 2, 130, 126, 46, 4, 96, 79, 42, 180, 0, 166, 28, 21, 4, 79, 132, 4, 1, 167, 255, 169]
abbrev dktX7_plan_5 : List UInt8 := dkwX7_plan_5 ++ dktX7_plan_6
def dkwX7_plan_4 : List UInt8 := [46, 4, 96, 42, 180, 0, 163, 28, 46, 161, 0, 6, 167, 0, 30, 42, 180, 0, 163, 28, 42, 180, 0, 163]
abbrev dktX7_plan_4 : List UInt8 := dkwX7_plan_4 ++ dktX7_plan_5
def dkwX7_plan_3 : List UInt8 := [126, 153, 0, 65, 42, 180, 0, 169, 21, 4, 51, 153, 0, 55, 42, 180, 0, 163, 28, 21, 4, 2, 130, 126]
abbrev dktX7_plan_3 : List UInt8 := dkwX7_plan_3 ++ dktX7_plan_4
def dkwX7_plan_2 : List UInt8 := [116, 126, 62, 29, 54, 4, 21, 4, 28, 163, 0, 87, 21, 4, 28, 2, 130, 126, 154, 0, 72, 21, 4, 29]
abbrev dktX7_plan_2 : List UInt8 := dkwX7_plan_2 ++ dktX7_plan_3
def dkwX7_plan_1 : List UInt8 := [163, 0, 126, 42, 180, 0, 169, 28, 42, 28, 182, 1, 253, 84, 42, 180, 0, 163, 28, 16, 100, 79, 28, 28]
abbrev dktX7_plan_1 : List UInt8 := dkwX7_plan_1 ++ dktX7_plan_2
def dkwX7_plan_0 : List UInt8 := [4, 42, 180, 0, 133, 3, 46, 120, 4, 100, 60, 42, 180, 0, 163, 3, 3, 79, 4, 61, 28, 27]
abbrev dktX7_plan_0 : List UInt8 := dkwX7_plan_0 ++ dktX7_plan_1
theorem dksX7_plan_0 : cX7_plan.data.toList.drop 0 = dktX7_plan_0 := by decide +kernel
theorem dksX7_plan_1 : cX7_plan.data.toList.drop 22 = dktX7_plan_1 := dk_seg dksX7_plan_0 22 rfl rfl
theorem dksX7_plan_2 : cX7_plan.data.toList.drop 46 = dktX7_plan_2 := dk_seg dksX7_plan_1 24 rfl rfl
theorem dksX7_plan_3 : cX7_plan.data.toList.drop 70 = dktX7_plan_3 := dk_seg dksX7_plan_2 24 rfl rfl
theorem dksX7_plan_4 : cX7_plan.data.toList.drop 94 = dktX7_plan_4 := dk_seg dksX7_plan_3 24 rfl rfl
theorem dksX7_plan_5 : cX7_plan.data.toList.drop 118 = dktX7_plan_5 := dk_seg dksX7_plan_4 24 rfl rfl
theorem dksX7_plan_6 : cX7_plan.data.toList.drop 142 = dktX7_plan_6 := dk_seg dksX7_plan_5 24 rfl rfl
theorem dksX7_plan_7 : cX7_plan.data.toList.drop 164 = dktX7_plan_7 := dk_seg dksX7_plan_6 22 rfl rfl
theorem dX7_plan_0 : decode cX7_plan 0 = .ok (.iconst 1, 1) := dk_4 (dk_at dksX7_plan_0 0 rfl rfl)
theorem dX7_plan_1 : decode cX7_plan 1 = .ok (.aload_n 0, 1) := dk_42 (dk_at dksX7_plan_0 1 rfl rfl)
theorem dX7_plan_2 : decode cX7_plan 2 = .ok (.getfield 133, 3) := dk_180 0 133 (dk_at dksX7_plan_0 2 rfl rfl)
theorem dX7_plan_5 : decode cX7_plan 5 = .ok (.iconst 0, 1) := dk_3 (dk_at dksX7_plan_0 5 rfl rfl)
theorem dX7_plan_6 : decode cX7_plan 6 = .ok (.iaload, 1) := dk_46 (dk_at dksX7_plan_0 6 rfl rfl)
theorem dX7_plan_7 : decode cX7_plan 7 = .ok (.ishl, 1) := dk_120 (dk_at dksX7_plan_0 7 rfl rfl)
theorem dX7_plan_8 : decode cX7_plan 8 = .ok (.iconst 1, 1) := dk_4 (dk_at dksX7_plan_0 8 rfl rfl)
theorem dX7_plan_9 : decode cX7_plan 9 = .ok (.isub, 1) := dk_100 (dk_at dksX7_plan_0 9 rfl rfl)
theorem dX7_plan_10 : decode cX7_plan 10 = .ok (.istore_n 1, 1) := dk_60 (dk_at dksX7_plan_0 10 rfl rfl)
theorem dX7_plan_11 : decode cX7_plan 11 = .ok (.aload_n 0, 1) := dk_42 (dk_at dksX7_plan_0 11 rfl rfl)
theorem dX7_plan_12 : decode cX7_plan 12 = .ok (.getfield 163, 3) := dk_180 0 163 (dk_at dksX7_plan_0 12 rfl rfl)
theorem dX7_plan_15 : decode cX7_plan 15 = .ok (.iconst 0, 1) := dk_3 (dk_at dksX7_plan_0 15 rfl rfl)
theorem dX7_plan_16 : decode cX7_plan 16 = .ok (.iconst 0, 1) := dk_3 (dk_at dksX7_plan_0 16 rfl rfl)
theorem dX7_plan_17 : decode cX7_plan 17 = .ok (.iastore, 1) := dk_79 (dk_at dksX7_plan_0 17 rfl rfl)
theorem dX7_plan_18 : decode cX7_plan 18 = .ok (.iconst 1, 1) := dk_4 (dk_at dksX7_plan_0 18 rfl rfl)
theorem dX7_plan_19 : decode cX7_plan 19 = .ok (.istore_n 2, 1) := dk_61 (dk_at dksX7_plan_0 19 rfl rfl)
theorem dX7_plan_20 : decode cX7_plan 20 = .ok (.iload_n 2, 1) := dk_28 (dk_at dksX7_plan_0 20 rfl rfl)
theorem dX7_plan_21 : decode cX7_plan 21 = .ok (.iload_n 1, 1) := dk_27 (dk_at dksX7_plan_0 21 rfl rfl)
theorem dX7_plan_22 : decode cX7_plan 22 = .ok (.if_icmp .gt 126, 3) := dk_163 0 126 (dk_at dksX7_plan_1 0 rfl rfl)
theorem dX7_plan_25 : decode cX7_plan 25 = .ok (.aload_n 0, 1) := dk_42 (dk_at dksX7_plan_1 3 rfl rfl)
theorem dX7_plan_26 : decode cX7_plan 26 = .ok (.getfield 169, 3) := dk_180 0 169 (dk_at dksX7_plan_1 4 rfl rfl)
theorem dX7_plan_29 : decode cX7_plan 29 = .ok (.iload_n 2, 1) := dk_28 (dk_at dksX7_plan_1 7 rfl rfl)
theorem dX7_plan_30 : decode cX7_plan 30 = .ok (.aload_n 0, 1) := dk_42 (dk_at dksX7_plan_1 8 rfl rfl)
theorem dX7_plan_31 : decode cX7_plan 31 = .ok (.iload_n 2, 1) := dk_28 (dk_at dksX7_plan_1 9 rfl rfl)
theorem dX7_plan_32 : decode cX7_plan 32 = .ok (.invokevirtual 509, 3) := dk_182 1 253 (dk_at dksX7_plan_1 10 rfl rfl)
theorem dX7_plan_35 : decode cX7_plan 35 = .ok (.bastore, 1) := dk_84 (dk_at dksX7_plan_1 13 rfl rfl)
theorem dX7_plan_36 : decode cX7_plan 36 = .ok (.aload_n 0, 1) := dk_42 (dk_at dksX7_plan_1 14 rfl rfl)
theorem dX7_plan_37 : decode cX7_plan 37 = .ok (.getfield 163, 3) := dk_180 0 163 (dk_at dksX7_plan_1 15 rfl rfl)
theorem dX7_plan_40 : decode cX7_plan 40 = .ok (.iload_n 2, 1) := dk_28 (dk_at dksX7_plan_1 18 rfl rfl)
theorem dX7_plan_41 : decode cX7_plan 41 = .ok (.bipush 100, 2) := dk_16 100 (dk_at dksX7_plan_1 19 rfl rfl)
theorem dX7_plan_43 : decode cX7_plan 43 = .ok (.iastore, 1) := dk_79 (dk_at dksX7_plan_1 21 rfl rfl)
theorem dX7_plan_44 : decode cX7_plan 44 = .ok (.iload_n 2, 1) := dk_28 (dk_at dksX7_plan_1 22 rfl rfl)
theorem dX7_plan_45 : decode cX7_plan 45 = .ok (.iload_n 2, 1) := dk_28 (dk_at dksX7_plan_1 23 rfl rfl)
theorem dX7_plan_46 : decode cX7_plan 46 = .ok (.ineg, 1) := dk_116 (dk_at dksX7_plan_2 0 rfl rfl)
theorem dX7_plan_47 : decode cX7_plan 47 = .ok (.iand, 1) := dk_126 (dk_at dksX7_plan_2 1 rfl rfl)
theorem dX7_plan_48 : decode cX7_plan 48 = .ok (.istore_n 3, 1) := dk_62 (dk_at dksX7_plan_2 2 rfl rfl)
theorem dX7_plan_49 : decode cX7_plan 49 = .ok (.iload_n 3, 1) := dk_29 (dk_at dksX7_plan_2 3 rfl rfl)
theorem dX7_plan_50 : decode cX7_plan 50 = .ok (.istore 4, 2) := dk_54 4 (dk_at dksX7_plan_2 4 rfl rfl)
theorem dX7_plan_52 : decode cX7_plan 52 = .ok (.iload 4, 2) := dk_21 4 (dk_at dksX7_plan_2 6 rfl rfl)
theorem dX7_plan_54 : decode cX7_plan 54 = .ok (.iload_n 2, 1) := dk_28 (dk_at dksX7_plan_2 8 rfl rfl)
theorem dX7_plan_55 : decode cX7_plan 55 = .ok (.if_icmp .gt 87, 3) := dk_163 0 87 (dk_at dksX7_plan_2 9 rfl rfl)
theorem dX7_plan_58 : decode cX7_plan 58 = .ok (.iload 4, 2) := dk_21 4 (dk_at dksX7_plan_2 12 rfl rfl)
theorem dX7_plan_60 : decode cX7_plan 60 = .ok (.iload_n 2, 1) := dk_28 (dk_at dksX7_plan_2 14 rfl rfl)
theorem dX7_plan_61 : decode cX7_plan 61 = .ok (.iconst (-1), 1) := dk_2 (dk_at dksX7_plan_2 15 rfl rfl)
theorem dX7_plan_62 : decode cX7_plan 62 = .ok (.ixor, 1) := dk_130 (dk_at dksX7_plan_2 16 rfl rfl)
theorem dX7_plan_63 : decode cX7_plan 63 = .ok (.iand, 1) := dk_126 (dk_at dksX7_plan_2 17 rfl rfl)
theorem dX7_plan_64 : decode cX7_plan 64 = .ok (.ifCond .ne 72, 3) := dk_154 0 72 (dk_at dksX7_plan_2 18 rfl rfl)
theorem dX7_plan_67 : decode cX7_plan 67 = .ok (.iload 4, 2) := dk_21 4 (dk_at dksX7_plan_2 21 rfl rfl)
theorem dX7_plan_69 : decode cX7_plan 69 = .ok (.iload_n 3, 1) := dk_29 (dk_at dksX7_plan_2 23 rfl rfl)
theorem dX7_plan_70 : decode cX7_plan 70 = .ok (.iand, 1) := dk_126 (dk_at dksX7_plan_3 0 rfl rfl)
theorem dX7_plan_71 : decode cX7_plan 71 = .ok (.ifCond .eq 65, 3) := dk_153 0 65 (dk_at dksX7_plan_3 1 rfl rfl)
theorem dX7_plan_74 : decode cX7_plan 74 = .ok (.aload_n 0, 1) := dk_42 (dk_at dksX7_plan_3 4 rfl rfl)
theorem dX7_plan_75 : decode cX7_plan 75 = .ok (.getfield 169, 3) := dk_180 0 169 (dk_at dksX7_plan_3 5 rfl rfl)
theorem dX7_plan_78 : decode cX7_plan 78 = .ok (.iload 4, 2) := dk_21 4 (dk_at dksX7_plan_3 8 rfl rfl)
theorem dX7_plan_80 : decode cX7_plan 80 = .ok (.baload, 1) := dk_51 (dk_at dksX7_plan_3 10 rfl rfl)
theorem dX7_plan_81 : decode cX7_plan 81 = .ok (.ifCond .eq 55, 3) := dk_153 0 55 (dk_at dksX7_plan_3 11 rfl rfl)
theorem dX7_plan_84 : decode cX7_plan 84 = .ok (.aload_n 0, 1) := dk_42 (dk_at dksX7_plan_3 14 rfl rfl)
theorem dX7_plan_85 : decode cX7_plan 85 = .ok (.getfield 163, 3) := dk_180 0 163 (dk_at dksX7_plan_3 15 rfl rfl)
theorem dX7_plan_88 : decode cX7_plan 88 = .ok (.iload_n 2, 1) := dk_28 (dk_at dksX7_plan_3 18 rfl rfl)
theorem dX7_plan_89 : decode cX7_plan 89 = .ok (.iload 4, 2) := dk_21 4 (dk_at dksX7_plan_3 19 rfl rfl)
theorem dX7_plan_91 : decode cX7_plan 91 = .ok (.iconst (-1), 1) := dk_2 (dk_at dksX7_plan_3 21 rfl rfl)
theorem dX7_plan_92 : decode cX7_plan 92 = .ok (.ixor, 1) := dk_130 (dk_at dksX7_plan_3 22 rfl rfl)
theorem dX7_plan_93 : decode cX7_plan 93 = .ok (.iand, 1) := dk_126 (dk_at dksX7_plan_3 23 rfl rfl)
theorem dX7_plan_94 : decode cX7_plan 94 = .ok (.iaload, 1) := dk_46 (dk_at dksX7_plan_4 0 rfl rfl)
theorem dX7_plan_95 : decode cX7_plan 95 = .ok (.iconst 1, 1) := dk_4 (dk_at dksX7_plan_4 1 rfl rfl)
theorem dX7_plan_96 : decode cX7_plan 96 = .ok (.iadd, 1) := dk_96 (dk_at dksX7_plan_4 2 rfl rfl)
theorem dX7_plan_97 : decode cX7_plan 97 = .ok (.aload_n 0, 1) := dk_42 (dk_at dksX7_plan_4 3 rfl rfl)
theorem dX7_plan_98 : decode cX7_plan 98 = .ok (.getfield 163, 3) := dk_180 0 163 (dk_at dksX7_plan_4 4 rfl rfl)
theorem dX7_plan_101 : decode cX7_plan 101 = .ok (.iload_n 2, 1) := dk_28 (dk_at dksX7_plan_4 7 rfl rfl)
theorem dX7_plan_102 : decode cX7_plan 102 = .ok (.iaload, 1) := dk_46 (dk_at dksX7_plan_4 8 rfl rfl)
theorem dX7_plan_103 : decode cX7_plan 103 = .ok (.if_icmp .lt 6, 3) := dk_161 0 6 (dk_at dksX7_plan_4 9 rfl rfl)
theorem dX7_plan_106 : decode cX7_plan 106 = .ok (.goto 30, 3) := dk_167 0 30 (dk_at dksX7_plan_4 12 rfl rfl)
theorem dX7_plan_109 : decode cX7_plan 109 = .ok (.aload_n 0, 1) := dk_42 (dk_at dksX7_plan_4 15 rfl rfl)
theorem dX7_plan_110 : decode cX7_plan 110 = .ok (.getfield 163, 3) := dk_180 0 163 (dk_at dksX7_plan_4 16 rfl rfl)
theorem dX7_plan_113 : decode cX7_plan 113 = .ok (.iload_n 2, 1) := dk_28 (dk_at dksX7_plan_4 19 rfl rfl)
theorem dX7_plan_114 : decode cX7_plan 114 = .ok (.aload_n 0, 1) := dk_42 (dk_at dksX7_plan_4 20 rfl rfl)
theorem dX7_plan_115 : decode cX7_plan 115 = .ok (.getfield 163, 3) := dk_180 0 163 (dk_at dksX7_plan_4 21 rfl rfl)
theorem dX7_plan_118 : decode cX7_plan 118 = .ok (.iload_n 2, 1) := dk_28 (dk_at dksX7_plan_5 0 rfl rfl)
theorem dX7_plan_119 : decode cX7_plan 119 = .ok (.iload 4, 2) := dk_21 4 (dk_at dksX7_plan_5 1 rfl rfl)
theorem dX7_plan_121 : decode cX7_plan 121 = .ok (.iconst (-1), 1) := dk_2 (dk_at dksX7_plan_5 3 rfl rfl)
theorem dX7_plan_122 : decode cX7_plan 122 = .ok (.ixor, 1) := dk_130 (dk_at dksX7_plan_5 4 rfl rfl)
theorem dX7_plan_123 : decode cX7_plan 123 = .ok (.iand, 1) := dk_126 (dk_at dksX7_plan_5 5 rfl rfl)
theorem dX7_plan_124 : decode cX7_plan 124 = .ok (.iaload, 1) := dk_46 (dk_at dksX7_plan_5 6 rfl rfl)
theorem dX7_plan_125 : decode cX7_plan 125 = .ok (.iconst 1, 1) := dk_4 (dk_at dksX7_plan_5 7 rfl rfl)
theorem dX7_plan_126 : decode cX7_plan 126 = .ok (.iadd, 1) := dk_96 (dk_at dksX7_plan_5 8 rfl rfl)
theorem dX7_plan_127 : decode cX7_plan 127 = .ok (.iastore, 1) := dk_79 (dk_at dksX7_plan_5 9 rfl rfl)
theorem dX7_plan_128 : decode cX7_plan 128 = .ok (.aload_n 0, 1) := dk_42 (dk_at dksX7_plan_5 10 rfl rfl)
theorem dX7_plan_129 : decode cX7_plan 129 = .ok (.getfield 166, 3) := dk_180 0 166 (dk_at dksX7_plan_5 11 rfl rfl)
theorem dX7_plan_132 : decode cX7_plan 132 = .ok (.iload_n 2, 1) := dk_28 (dk_at dksX7_plan_5 14 rfl rfl)
theorem dX7_plan_133 : decode cX7_plan 133 = .ok (.iload 4, 2) := dk_21 4 (dk_at dksX7_plan_5 15 rfl rfl)
theorem dX7_plan_135 : decode cX7_plan 135 = .ok (.iastore, 1) := dk_79 (dk_at dksX7_plan_5 17 rfl rfl)
theorem dX7_plan_136 : decode cX7_plan 136 = .ok (.iinc 4 1, 3) := dk_132 4 1 (dk_at dksX7_plan_5 18 rfl rfl)
theorem dX7_plan_139 : decode cX7_plan 139 = .ok (.goto (-87), 3) := dk_167 255 169 (dk_at dksX7_plan_5 21 rfl rfl)
theorem dX7_plan_142 : decode cX7_plan 142 = .ok (.iinc 2 1, 3) := dk_132 2 1 (dk_at dksX7_plan_6 0 rfl rfl)
theorem dX7_plan_145 : decode cX7_plan 145 = .ok (.goto (-125), 3) := dk_167 255 131 (dk_at dksX7_plan_6 3 rfl rfl)
theorem dX7_plan_148 : decode cX7_plan 148 = .ok (.aload_n 0, 1) := dk_42 (dk_at dksX7_plan_6 6 rfl rfl)
theorem dX7_plan_149 : decode cX7_plan 149 = .ok (.getfield 163, 3) := dk_180 0 163 (dk_at dksX7_plan_6 7 rfl rfl)
theorem dX7_plan_152 : decode cX7_plan 152 = .ok (.iload_n 1, 1) := dk_27 (dk_at dksX7_plan_6 10 rfl rfl)
theorem dX7_plan_153 : decode cX7_plan 153 = .ok (.iaload, 1) := dk_46 (dk_at dksX7_plan_6 11 rfl rfl)
theorem dX7_plan_154 : decode cX7_plan 154 = .ok (.bipush 100, 2) := dk_16 100 (dk_at dksX7_plan_6 12 rfl rfl)
theorem dX7_plan_156 : decode cX7_plan 156 = .ok (.if_icmp .lt 7, 3) := dk_161 0 7 (dk_at dksX7_plan_6 14 rfl rfl)
theorem dX7_plan_159 : decode cX7_plan 159 = .ok (.iconst (-1), 1) := dk_2 (dk_at dksX7_plan_6 17 rfl rfl)
theorem dX7_plan_160 : decode cX7_plan 160 = .ok (.goto 9, 3) := dk_167 0 9 (dk_at dksX7_plan_6 18 rfl rfl)
theorem dX7_plan_163 : decode cX7_plan 163 = .ok (.aload_n 0, 1) := dk_42 (dk_at dksX7_plan_6 21 rfl rfl)
theorem dX7_plan_164 : decode cX7_plan 164 = .ok (.getfield 163, 3) := dk_180 0 163 (dk_at dksX7_plan_7 0 rfl rfl)
theorem dX7_plan_167 : decode cX7_plan 167 = .ok (.iload_n 1, 1) := dk_27 (dk_at dksX7_plan_7 3 rfl rfl)
theorem dX7_plan_168 : decode cX7_plan 168 = .ok (.iaload, 1) := dk_46 (dk_at dksX7_plan_7 4 rfl rfl)
theorem dX7_plan_169 : decode cX7_plan 169 = .ok (.ireturn, 1) := dk_172 (dk_at dksX7_plan_7 5 rfl rfl)
abbrev cX7_make0 : ByteArray := prog_14_method_79_code
def yX7_make0 : MethodName := ⟨RX7, "make0", "(I)Z"⟩
def dkwX7_make0_15 : List UInt8 := [154, 0, 16, 42, 180, 1, 235, 16, 60, 163, 0, 7, 4, 167, 0, 4, 3, 172]
abbrev dktX7_make0_15 : List UInt8 := dkwX7_make0_15 ++ []
def dkwX7_make0_14 : List UInt8 := [4, 100, 17, 0, 128, 21, 4, 96, 182, 1, 244, 132, 4, 1, 132, 6, 1, 167, 255, 127, 42, 180, 1, 241]
abbrev dktX7_make0_14 : List UInt8 := dkwX7_make0_14 ++ dktX7_make0_15
def dkwX7_make0_13 : List UInt8 := [96, 182, 1, 244, 132, 5, 1, 132, 7, 255, 167, 255, 192, 42, 16, 65, 42, 180, 0, 142, 21, 6, 46, 96]
abbrev dktX7_make0_13 : List UInt8 := dkwX7_make0_13 ++ dktX7_make0_14
def dkwX7_make0_12 : List UInt8 := [21, 7, 96, 17, 0, 181, 21, 8, 96, 182, 1, 244, 42, 17, 0, 205, 21, 8, 96, 17, 0, 132, 21, 5]
abbrev dktX7_make0_12 : List UInt8 := dkwX7_make0_12 ++ dktX7_make0_13
def dkwX7_make0_11 : List UInt8 := [16, 20, 42, 180, 0, 142, 21, 6, 46, 96, 182, 1, 250, 54, 8, 42, 16, 68, 16, 6, 21, 4, 104, 96]
abbrev dktX7_make0_11 : List UInt8 := dkwX7_make0_11 ++ dktX7_make0_12
def dkwX7_make0_10 : List UInt8 := [154, 0, 6, 167, 0, 106, 42, 180, 0, 139, 21, 6, 46, 4, 100, 54, 7, 21, 7, 155, 0, 65, 42]
abbrev dktX7_make0_10 : List UInt8 := dkwX7_make0_10 ++ dktX7_make0_11
def dkwX7_make0_9 : List UInt8 := [54, 5, 3, 54, 6, 21, 6, 42, 180, 0, 133, 3, 46, 162, 0, 124, 27, 21, 6, 122, 4, 126]
abbrev dktX7_make0_9 : List UInt8 := dkwX7_make0_9 ++ dktX7_make0_10
def dkwX7_make0_8 : List UInt8 := [167, 0, 14, 42, 21, 5, 21, 4, 182, 1, 247, 132, 4, 1, 132, 5, 1, 167, 255, 219, 3, 54, 4, 3]
abbrev dktX7_make0_8 : List UInt8 := dkwX7_make0_8 ++ dktX7_make0_9
def dkwX7_make0_7 : List UInt8 := [54, 5, 21, 5, 42, 180, 0, 133, 3, 46, 162, 0, 32, 27, 21, 5, 122, 4, 126, 154, 0, 6]
abbrev dktX7_make0_7 : List UInt8 := dkwX7_make0_7 ++ dktX7_make0_8
def dkwX7_make0_6 : List UInt8 := [96, 17, 0, 156, 21, 4, 96, 182, 1, 244, 132, 3, 1, 132, 4, 1, 167, 255, 176, 3, 54, 4, 3]
abbrev dktX7_make0_6 : List UInt8 := dkwX7_make0_6 ++ dktX7_make0_7
def dkwX7_make0_5 : List UInt8 := [16, 20, 42, 180, 0, 130, 21, 4, 46, 96, 4, 100, 17, 0, 152, 29, 96, 182, 1, 244, 42, 16, 61, 29]
abbrev dktX7_make0_5 : List UInt8 := dkwX7_make0_5 ++ dktX7_make0_6
def dkwX7_make0_4 : List UInt8 := [167, 0, 61, 42, 3, 42, 180, 0, 130, 21, 4, 46, 96, 4, 100, 17, 0, 148, 29, 96, 182, 1, 244, 42]
abbrev dktX7_make0_4 : List UInt8 := dkwX7_make0_4 ++ dktX7_make0_5
def dkwX7_make0_3 : List UInt8 := [3, 172, 3, 62, 3, 54, 4, 21, 4, 6, 162, 0, 80, 42, 180, 0, 130, 21, 4, 46, 154, 0, 6]
abbrev dktX7_make0_3 : List UInt8 := dkwX7_make0_3 ++ dktX7_make0_4
def dkwX7_make0_2 : List UInt8 := [3, 96, 61, 132, 3, 1, 167, 255, 221, 27, 133, 184, 1, 160, 7, 163, 0, 9, 28, 16, 12, 164, 0, 5]
abbrev dktX7_make0_2 : List UInt8 := dkwX7_make0_2 ++ dktX7_make0_3
def dkwX7_make0_1 : List UInt8 := [3, 46, 162, 0, 31, 28, 27, 29, 122, 4, 126, 4, 160, 0, 12, 42, 180, 0, 139, 29, 46, 167, 0, 4]
abbrev dktX7_make0_1 : List UInt8 := dkwX7_make0_1 ++ dktX7_make0_2
def dkwX7_make0_0 : List UInt8 := [42, 3, 181, 1, 235, 42, 3, 181, 1, 238, 42, 3, 181, 1, 241, 3, 61, 3, 62, 29, 42, 180, 0, 133]
abbrev dktX7_make0_0 : List UInt8 := dkwX7_make0_0 ++ dktX7_make0_1
theorem dksX7_make0_0 : cX7_make0.data.toList.drop 0 = dktX7_make0_0 := by decide +kernel
theorem dksX7_make0_1 : cX7_make0.data.toList.drop 24 = dktX7_make0_1 := dk_seg dksX7_make0_0 24 rfl rfl
theorem dksX7_make0_2 : cX7_make0.data.toList.drop 48 = dktX7_make0_2 := dk_seg dksX7_make0_1 24 rfl rfl
theorem dksX7_make0_3 : cX7_make0.data.toList.drop 72 = dktX7_make0_3 := dk_seg dksX7_make0_2 24 rfl rfl
theorem dksX7_make0_4 : cX7_make0.data.toList.drop 95 = dktX7_make0_4 := dk_seg dksX7_make0_3 23 rfl rfl
theorem dksX7_make0_5 : cX7_make0.data.toList.drop 119 = dktX7_make0_5 := dk_seg dksX7_make0_4 24 rfl rfl
theorem dksX7_make0_6 : cX7_make0.data.toList.drop 143 = dktX7_make0_6 := dk_seg dksX7_make0_5 24 rfl rfl
theorem dksX7_make0_7 : cX7_make0.data.toList.drop 166 = dktX7_make0_7 := dk_seg dksX7_make0_6 23 rfl rfl
theorem dksX7_make0_8 : cX7_make0.data.toList.drop 188 = dktX7_make0_8 := dk_seg dksX7_make0_7 22 rfl rfl
theorem dksX7_make0_9 : cX7_make0.data.toList.drop 212 = dktX7_make0_9 := dk_seg dksX7_make0_8 24 rfl rfl
theorem dksX7_make0_10 : cX7_make0.data.toList.drop 234 = dktX7_make0_10 := dk_seg dksX7_make0_9 22 rfl rfl
theorem dksX7_make0_11 : cX7_make0.data.toList.drop 257 = dktX7_make0_11 := dk_seg dksX7_make0_10 23 rfl rfl
theorem dksX7_make0_12 : cX7_make0.data.toList.drop 281 = dktX7_make0_12 := dk_seg dksX7_make0_11 24 rfl rfl
theorem dksX7_make0_13 : cX7_make0.data.toList.drop 305 = dktX7_make0_13 := dk_seg dksX7_make0_12 24 rfl rfl
theorem dksX7_make0_14 : cX7_make0.data.toList.drop 329 = dktX7_make0_14 := dk_seg dksX7_make0_13 24 rfl rfl
theorem dksX7_make0_15 : cX7_make0.data.toList.drop 353 = dktX7_make0_15 := dk_seg dksX7_make0_14 24 rfl rfl
theorem dX7_make0_0 : decode cX7_make0 0 = .ok (.aload_n 0, 1) := dk_42 (dk_at dksX7_make0_0 0 rfl rfl)
theorem dX7_make0_1 : decode cX7_make0 1 = .ok (.iconst 0, 1) := dk_3 (dk_at dksX7_make0_0 1 rfl rfl)
theorem dX7_make0_2 : decode cX7_make0 2 = .ok (.putfield 491, 3) := dk_181 1 235 (dk_at dksX7_make0_0 2 rfl rfl)
theorem dX7_make0_5 : decode cX7_make0 5 = .ok (.aload_n 0, 1) := dk_42 (dk_at dksX7_make0_0 5 rfl rfl)
theorem dX7_make0_6 : decode cX7_make0 6 = .ok (.iconst 0, 1) := dk_3 (dk_at dksX7_make0_0 6 rfl rfl)
theorem dX7_make0_7 : decode cX7_make0 7 = .ok (.putfield 494, 3) := dk_181 1 238 (dk_at dksX7_make0_0 7 rfl rfl)
theorem dX7_make0_10 : decode cX7_make0 10 = .ok (.aload_n 0, 1) := dk_42 (dk_at dksX7_make0_0 10 rfl rfl)
theorem dX7_make0_11 : decode cX7_make0 11 = .ok (.iconst 0, 1) := dk_3 (dk_at dksX7_make0_0 11 rfl rfl)
theorem dX7_make0_12 : decode cX7_make0 12 = .ok (.putfield 497, 3) := dk_181 1 241 (dk_at dksX7_make0_0 12 rfl rfl)
theorem dX7_make0_15 : decode cX7_make0 15 = .ok (.iconst 0, 1) := dk_3 (dk_at dksX7_make0_0 15 rfl rfl)
theorem dX7_make0_16 : decode cX7_make0 16 = .ok (.istore_n 2, 1) := dk_61 (dk_at dksX7_make0_0 16 rfl rfl)
theorem dX7_make0_17 : decode cX7_make0 17 = .ok (.iconst 0, 1) := dk_3 (dk_at dksX7_make0_0 17 rfl rfl)
theorem dX7_make0_18 : decode cX7_make0 18 = .ok (.istore_n 3, 1) := dk_62 (dk_at dksX7_make0_0 18 rfl rfl)
theorem dX7_make0_19 : decode cX7_make0 19 = .ok (.iload_n 3, 1) := dk_29 (dk_at dksX7_make0_0 19 rfl rfl)
theorem dX7_make0_20 : decode cX7_make0 20 = .ok (.aload_n 0, 1) := dk_42 (dk_at dksX7_make0_0 20 rfl rfl)
theorem dX7_make0_21 : decode cX7_make0 21 = .ok (.getfield 133, 3) := dk_180 0 133 (dk_at dksX7_make0_0 21 rfl rfl)
theorem dX7_make0_24 : decode cX7_make0 24 = .ok (.iconst 0, 1) := dk_3 (dk_at dksX7_make0_1 0 rfl rfl)
theorem dX7_make0_25 : decode cX7_make0 25 = .ok (.iaload, 1) := dk_46 (dk_at dksX7_make0_1 1 rfl rfl)
theorem dX7_make0_26 : decode cX7_make0 26 = .ok (.if_icmp .ge 31, 3) := dk_162 0 31 (dk_at dksX7_make0_1 2 rfl rfl)
theorem dX7_make0_29 : decode cX7_make0 29 = .ok (.iload_n 2, 1) := dk_28 (dk_at dksX7_make0_1 5 rfl rfl)
theorem dX7_make0_30 : decode cX7_make0 30 = .ok (.iload_n 1, 1) := dk_27 (dk_at dksX7_make0_1 6 rfl rfl)
theorem dX7_make0_31 : decode cX7_make0 31 = .ok (.iload_n 3, 1) := dk_29 (dk_at dksX7_make0_1 7 rfl rfl)
theorem dX7_make0_32 : decode cX7_make0 32 = .ok (.ishr, 1) := dk_122 (dk_at dksX7_make0_1 8 rfl rfl)
theorem dX7_make0_33 : decode cX7_make0 33 = .ok (.iconst 1, 1) := dk_4 (dk_at dksX7_make0_1 9 rfl rfl)
theorem dX7_make0_34 : decode cX7_make0 34 = .ok (.iand, 1) := dk_126 (dk_at dksX7_make0_1 10 rfl rfl)
theorem dX7_make0_35 : decode cX7_make0 35 = .ok (.iconst 1, 1) := dk_4 (dk_at dksX7_make0_1 11 rfl rfl)
theorem dX7_make0_36 : decode cX7_make0 36 = .ok (.if_icmp .ne 12, 3) := dk_160 0 12 (dk_at dksX7_make0_1 12 rfl rfl)
theorem dX7_make0_39 : decode cX7_make0 39 = .ok (.aload_n 0, 1) := dk_42 (dk_at dksX7_make0_1 15 rfl rfl)
theorem dX7_make0_40 : decode cX7_make0 40 = .ok (.getfield 139, 3) := dk_180 0 139 (dk_at dksX7_make0_1 16 rfl rfl)
theorem dX7_make0_43 : decode cX7_make0 43 = .ok (.iload_n 3, 1) := dk_29 (dk_at dksX7_make0_1 19 rfl rfl)
theorem dX7_make0_44 : decode cX7_make0 44 = .ok (.iaload, 1) := dk_46 (dk_at dksX7_make0_1 20 rfl rfl)
theorem dX7_make0_45 : decode cX7_make0 45 = .ok (.goto 4, 3) := dk_167 0 4 (dk_at dksX7_make0_1 21 rfl rfl)
theorem dX7_make0_48 : decode cX7_make0 48 = .ok (.iconst 0, 1) := dk_3 (dk_at dksX7_make0_2 0 rfl rfl)
theorem dX7_make0_49 : decode cX7_make0 49 = .ok (.iadd, 1) := dk_96 (dk_at dksX7_make0_2 1 rfl rfl)
theorem dX7_make0_50 : decode cX7_make0 50 = .ok (.istore_n 2, 1) := dk_61 (dk_at dksX7_make0_2 2 rfl rfl)
theorem dX7_make0_51 : decode cX7_make0 51 = .ok (.iinc 3 1, 3) := dk_132 3 1 (dk_at dksX7_make0_2 3 rfl rfl)
theorem dX7_make0_54 : decode cX7_make0 54 = .ok (.goto (-35), 3) := dk_167 255 221 (dk_at dksX7_make0_2 6 rfl rfl)
theorem dX7_make0_57 : decode cX7_make0 57 = .ok (.iload_n 1, 1) := dk_27 (dk_at dksX7_make0_2 9 rfl rfl)
theorem dX7_make0_58 : decode cX7_make0 58 = .ok (.i2l, 1) := dk_133 (dk_at dksX7_make0_2 10 rfl rfl)
theorem dX7_make0_59 : decode cX7_make0 59 = .ok (.invokestatic 416, 3) := dk_184 1 160 (dk_at dksX7_make0_2 11 rfl rfl)
theorem dX7_make0_62 : decode cX7_make0 62 = .ok (.iconst 4, 1) := dk_7 (dk_at dksX7_make0_2 14 rfl rfl)
theorem dX7_make0_63 : decode cX7_make0 63 = .ok (.if_icmp .gt 9, 3) := dk_163 0 9 (dk_at dksX7_make0_2 15 rfl rfl)
theorem dX7_make0_66 : decode cX7_make0 66 = .ok (.iload_n 2, 1) := dk_28 (dk_at dksX7_make0_2 18 rfl rfl)
theorem dX7_make0_67 : decode cX7_make0 67 = .ok (.bipush 12, 2) := dk_16 12 (dk_at dksX7_make0_2 19 rfl rfl)
theorem dX7_make0_69 : decode cX7_make0 69 = .ok (.if_icmp .le 5, 3) := dk_164 0 5 (dk_at dksX7_make0_2 21 rfl rfl)
theorem dX7_make0_72 : decode cX7_make0 72 = .ok (.iconst 0, 1) := dk_3 (dk_at dksX7_make0_3 0 rfl rfl)
theorem dX7_make0_73 : decode cX7_make0 73 = .ok (.ireturn, 1) := dk_172 (dk_at dksX7_make0_3 1 rfl rfl)
theorem dX7_make0_74 : decode cX7_make0 74 = .ok (.iconst 0, 1) := dk_3 (dk_at dksX7_make0_3 2 rfl rfl)
theorem dX7_make0_75 : decode cX7_make0 75 = .ok (.istore_n 3, 1) := dk_62 (dk_at dksX7_make0_3 3 rfl rfl)
theorem dX7_make0_76 : decode cX7_make0 76 = .ok (.iconst 0, 1) := dk_3 (dk_at dksX7_make0_3 4 rfl rfl)
theorem dX7_make0_77 : decode cX7_make0 77 = .ok (.istore 4, 2) := dk_54 4 (dk_at dksX7_make0_3 5 rfl rfl)
theorem dX7_make0_79 : decode cX7_make0 79 = .ok (.iload 4, 2) := dk_21 4 (dk_at dksX7_make0_3 7 rfl rfl)
theorem dX7_make0_81 : decode cX7_make0 81 = .ok (.iconst 3, 1) := dk_6 (dk_at dksX7_make0_3 9 rfl rfl)
theorem dX7_make0_82 : decode cX7_make0 82 = .ok (.if_icmp .ge 80, 3) := dk_162 0 80 (dk_at dksX7_make0_3 10 rfl rfl)
theorem dX7_make0_85 : decode cX7_make0 85 = .ok (.aload_n 0, 1) := dk_42 (dk_at dksX7_make0_3 13 rfl rfl)
theorem dX7_make0_86 : decode cX7_make0 86 = .ok (.getfield 130, 3) := dk_180 0 130 (dk_at dksX7_make0_3 14 rfl rfl)
theorem dX7_make0_89 : decode cX7_make0 89 = .ok (.iload 4, 2) := dk_21 4 (dk_at dksX7_make0_3 17 rfl rfl)
theorem dX7_make0_91 : decode cX7_make0 91 = .ok (.iaload, 1) := dk_46 (dk_at dksX7_make0_3 19 rfl rfl)
theorem dX7_make0_92 : decode cX7_make0 92 = .ok (.ifCond .ne 6, 3) := dk_154 0 6 (dk_at dksX7_make0_3 20 rfl rfl)
theorem dX7_make0_95 : decode cX7_make0 95 = .ok (.goto 61, 3) := dk_167 0 61 (dk_at dksX7_make0_4 0 rfl rfl)
theorem dX7_make0_98 : decode cX7_make0 98 = .ok (.aload_n 0, 1) := dk_42 (dk_at dksX7_make0_4 3 rfl rfl)
theorem dX7_make0_99 : decode cX7_make0 99 = .ok (.iconst 0, 1) := dk_3 (dk_at dksX7_make0_4 4 rfl rfl)
theorem dX7_make0_100 : decode cX7_make0 100 = .ok (.aload_n 0, 1) := dk_42 (dk_at dksX7_make0_4 5 rfl rfl)
theorem dX7_make0_101 : decode cX7_make0 101 = .ok (.getfield 130, 3) := dk_180 0 130 (dk_at dksX7_make0_4 6 rfl rfl)
theorem dX7_make0_104 : decode cX7_make0 104 = .ok (.iload 4, 2) := dk_21 4 (dk_at dksX7_make0_4 9 rfl rfl)
theorem dX7_make0_106 : decode cX7_make0 106 = .ok (.iaload, 1) := dk_46 (dk_at dksX7_make0_4 11 rfl rfl)
theorem dX7_make0_107 : decode cX7_make0 107 = .ok (.iadd, 1) := dk_96 (dk_at dksX7_make0_4 12 rfl rfl)
theorem dX7_make0_108 : decode cX7_make0 108 = .ok (.iconst 1, 1) := dk_4 (dk_at dksX7_make0_4 13 rfl rfl)
theorem dX7_make0_109 : decode cX7_make0 109 = .ok (.isub, 1) := dk_100 (dk_at dksX7_make0_4 14 rfl rfl)
theorem dX7_make0_110 : decode cX7_make0 110 = .ok (.sipush 148, 3) := dk_17 0 148 (dk_at dksX7_make0_4 15 rfl rfl)
theorem dX7_make0_113 : decode cX7_make0 113 = .ok (.iload_n 3, 1) := dk_29 (dk_at dksX7_make0_4 18 rfl rfl)
theorem dX7_make0_114 : decode cX7_make0 114 = .ok (.iadd, 1) := dk_96 (dk_at dksX7_make0_4 19 rfl rfl)
theorem dX7_make0_115 : decode cX7_make0 115 = .ok (.invokevirtual 500, 3) := dk_182 1 244 (dk_at dksX7_make0_4 20 rfl rfl)
theorem dX7_make0_118 : decode cX7_make0 118 = .ok (.aload_n 0, 1) := dk_42 (dk_at dksX7_make0_4 23 rfl rfl)
theorem dX7_make0_119 : decode cX7_make0 119 = .ok (.bipush 20, 2) := dk_16 20 (dk_at dksX7_make0_5 0 rfl rfl)
theorem dX7_make0_121 : decode cX7_make0 121 = .ok (.aload_n 0, 1) := dk_42 (dk_at dksX7_make0_5 2 rfl rfl)
theorem dX7_make0_122 : decode cX7_make0 122 = .ok (.getfield 130, 3) := dk_180 0 130 (dk_at dksX7_make0_5 3 rfl rfl)
theorem dX7_make0_125 : decode cX7_make0 125 = .ok (.iload 4, 2) := dk_21 4 (dk_at dksX7_make0_5 6 rfl rfl)
theorem dX7_make0_127 : decode cX7_make0 127 = .ok (.iaload, 1) := dk_46 (dk_at dksX7_make0_5 8 rfl rfl)
theorem dX7_make0_128 : decode cX7_make0 128 = .ok (.iadd, 1) := dk_96 (dk_at dksX7_make0_5 9 rfl rfl)
theorem dX7_make0_129 : decode cX7_make0 129 = .ok (.iconst 1, 1) := dk_4 (dk_at dksX7_make0_5 10 rfl rfl)
theorem dX7_make0_130 : decode cX7_make0 130 = .ok (.isub, 1) := dk_100 (dk_at dksX7_make0_5 11 rfl rfl)
theorem dX7_make0_131 : decode cX7_make0 131 = .ok (.sipush 152, 3) := dk_17 0 152 (dk_at dksX7_make0_5 12 rfl rfl)
theorem dX7_make0_134 : decode cX7_make0 134 = .ok (.iload_n 3, 1) := dk_29 (dk_at dksX7_make0_5 15 rfl rfl)
theorem dX7_make0_135 : decode cX7_make0 135 = .ok (.iadd, 1) := dk_96 (dk_at dksX7_make0_5 16 rfl rfl)
theorem dX7_make0_136 : decode cX7_make0 136 = .ok (.invokevirtual 500, 3) := dk_182 1 244 (dk_at dksX7_make0_5 17 rfl rfl)
theorem dX7_make0_139 : decode cX7_make0 139 = .ok (.aload_n 0, 1) := dk_42 (dk_at dksX7_make0_5 20 rfl rfl)
theorem dX7_make0_140 : decode cX7_make0 140 = .ok (.bipush 61, 2) := dk_16 61 (dk_at dksX7_make0_5 21 rfl rfl)
theorem dX7_make0_142 : decode cX7_make0 142 = .ok (.iload_n 3, 1) := dk_29 (dk_at dksX7_make0_5 23 rfl rfl)
theorem dX7_make0_143 : decode cX7_make0 143 = .ok (.iadd, 1) := dk_96 (dk_at dksX7_make0_6 0 rfl rfl)
theorem dX7_make0_144 : decode cX7_make0 144 = .ok (.sipush 156, 3) := dk_17 0 156 (dk_at dksX7_make0_6 1 rfl rfl)
theorem dX7_make0_147 : decode cX7_make0 147 = .ok (.iload 4, 2) := dk_21 4 (dk_at dksX7_make0_6 4 rfl rfl)
theorem dX7_make0_149 : decode cX7_make0 149 = .ok (.iadd, 1) := dk_96 (dk_at dksX7_make0_6 6 rfl rfl)
theorem dX7_make0_150 : decode cX7_make0 150 = .ok (.invokevirtual 500, 3) := dk_182 1 244 (dk_at dksX7_make0_6 7 rfl rfl)
theorem dX7_make0_153 : decode cX7_make0 153 = .ok (.iinc 3 1, 3) := dk_132 3 1 (dk_at dksX7_make0_6 10 rfl rfl)
theorem dX7_make0_156 : decode cX7_make0 156 = .ok (.iinc 4 1, 3) := dk_132 4 1 (dk_at dksX7_make0_6 13 rfl rfl)
theorem dX7_make0_159 : decode cX7_make0 159 = .ok (.goto (-80), 3) := dk_167 255 176 (dk_at dksX7_make0_6 16 rfl rfl)
theorem dX7_make0_162 : decode cX7_make0 162 = .ok (.iconst 0, 1) := dk_3 (dk_at dksX7_make0_6 19 rfl rfl)
theorem dX7_make0_163 : decode cX7_make0 163 = .ok (.istore 4, 2) := dk_54 4 (dk_at dksX7_make0_6 20 rfl rfl)
theorem dX7_make0_165 : decode cX7_make0 165 = .ok (.iconst 0, 1) := dk_3 (dk_at dksX7_make0_6 22 rfl rfl)
theorem dX7_make0_166 : decode cX7_make0 166 = .ok (.istore 5, 2) := dk_54 5 (dk_at dksX7_make0_7 0 rfl rfl)
theorem dX7_make0_168 : decode cX7_make0 168 = .ok (.iload 5, 2) := dk_21 5 (dk_at dksX7_make0_7 2 rfl rfl)
theorem dX7_make0_170 : decode cX7_make0 170 = .ok (.aload_n 0, 1) := dk_42 (dk_at dksX7_make0_7 4 rfl rfl)
theorem dX7_make0_171 : decode cX7_make0 171 = .ok (.getfield 133, 3) := dk_180 0 133 (dk_at dksX7_make0_7 5 rfl rfl)
theorem dX7_make0_174 : decode cX7_make0 174 = .ok (.iconst 0, 1) := dk_3 (dk_at dksX7_make0_7 8 rfl rfl)
theorem dX7_make0_175 : decode cX7_make0 175 = .ok (.iaload, 1) := dk_46 (dk_at dksX7_make0_7 9 rfl rfl)
theorem dX7_make0_176 : decode cX7_make0 176 = .ok (.if_icmp .ge 32, 3) := dk_162 0 32 (dk_at dksX7_make0_7 10 rfl rfl)
theorem dX7_make0_179 : decode cX7_make0 179 = .ok (.iload_n 1, 1) := dk_27 (dk_at dksX7_make0_7 13 rfl rfl)
theorem dX7_make0_180 : decode cX7_make0 180 = .ok (.iload 5, 2) := dk_21 5 (dk_at dksX7_make0_7 14 rfl rfl)
theorem dX7_make0_182 : decode cX7_make0 182 = .ok (.ishr, 1) := dk_122 (dk_at dksX7_make0_7 16 rfl rfl)
theorem dX7_make0_183 : decode cX7_make0 183 = .ok (.iconst 1, 1) := dk_4 (dk_at dksX7_make0_7 17 rfl rfl)
theorem dX7_make0_184 : decode cX7_make0 184 = .ok (.iand, 1) := dk_126 (dk_at dksX7_make0_7 18 rfl rfl)
theorem dX7_make0_185 : decode cX7_make0 185 = .ok (.ifCond .ne 6, 3) := dk_154 0 6 (dk_at dksX7_make0_7 19 rfl rfl)
theorem dX7_make0_188 : decode cX7_make0 188 = .ok (.goto 14, 3) := dk_167 0 14 (dk_at dksX7_make0_8 0 rfl rfl)
theorem dX7_make0_191 : decode cX7_make0 191 = .ok (.aload_n 0, 1) := dk_42 (dk_at dksX7_make0_8 3 rfl rfl)
theorem dX7_make0_192 : decode cX7_make0 192 = .ok (.iload 5, 2) := dk_21 5 (dk_at dksX7_make0_8 4 rfl rfl)
theorem dX7_make0_194 : decode cX7_make0 194 = .ok (.iload 4, 2) := dk_21 4 (dk_at dksX7_make0_8 6 rfl rfl)
theorem dX7_make0_196 : decode cX7_make0 196 = .ok (.invokevirtual 503, 3) := dk_182 1 247 (dk_at dksX7_make0_8 8 rfl rfl)
theorem dX7_make0_199 : decode cX7_make0 199 = .ok (.iinc 4 1, 3) := dk_132 4 1 (dk_at dksX7_make0_8 11 rfl rfl)
theorem dX7_make0_202 : decode cX7_make0 202 = .ok (.iinc 5 1, 3) := dk_132 5 1 (dk_at dksX7_make0_8 14 rfl rfl)
theorem dX7_make0_205 : decode cX7_make0 205 = .ok (.goto (-37), 3) := dk_167 255 219 (dk_at dksX7_make0_8 17 rfl rfl)
theorem dX7_make0_208 : decode cX7_make0 208 = .ok (.iconst 0, 1) := dk_3 (dk_at dksX7_make0_8 20 rfl rfl)
theorem dX7_make0_209 : decode cX7_make0 209 = .ok (.istore 4, 2) := dk_54 4 (dk_at dksX7_make0_8 21 rfl rfl)
theorem dX7_make0_211 : decode cX7_make0 211 = .ok (.iconst 0, 1) := dk_3 (dk_at dksX7_make0_8 23 rfl rfl)
theorem dX7_make0_212 : decode cX7_make0 212 = .ok (.istore 5, 2) := dk_54 5 (dk_at dksX7_make0_9 0 rfl rfl)
theorem dX7_make0_214 : decode cX7_make0 214 = .ok (.iconst 0, 1) := dk_3 (dk_at dksX7_make0_9 2 rfl rfl)
theorem dX7_make0_215 : decode cX7_make0 215 = .ok (.istore 6, 2) := dk_54 6 (dk_at dksX7_make0_9 3 rfl rfl)
theorem dX7_make0_217 : decode cX7_make0 217 = .ok (.iload 6, 2) := dk_21 6 (dk_at dksX7_make0_9 5 rfl rfl)
theorem dX7_make0_219 : decode cX7_make0 219 = .ok (.aload_n 0, 1) := dk_42 (dk_at dksX7_make0_9 7 rfl rfl)
theorem dX7_make0_220 : decode cX7_make0 220 = .ok (.getfield 133, 3) := dk_180 0 133 (dk_at dksX7_make0_9 8 rfl rfl)
theorem dX7_make0_223 : decode cX7_make0 223 = .ok (.iconst 0, 1) := dk_3 (dk_at dksX7_make0_9 11 rfl rfl)
theorem dX7_make0_224 : decode cX7_make0 224 = .ok (.iaload, 1) := dk_46 (dk_at dksX7_make0_9 12 rfl rfl)
theorem dX7_make0_225 : decode cX7_make0 225 = .ok (.if_icmp .ge 124, 3) := dk_162 0 124 (dk_at dksX7_make0_9 13 rfl rfl)
theorem dX7_make0_228 : decode cX7_make0 228 = .ok (.iload_n 1, 1) := dk_27 (dk_at dksX7_make0_9 16 rfl rfl)
theorem dX7_make0_229 : decode cX7_make0 229 = .ok (.iload 6, 2) := dk_21 6 (dk_at dksX7_make0_9 17 rfl rfl)
theorem dX7_make0_231 : decode cX7_make0 231 = .ok (.ishr, 1) := dk_122 (dk_at dksX7_make0_9 19 rfl rfl)
theorem dX7_make0_232 : decode cX7_make0 232 = .ok (.iconst 1, 1) := dk_4 (dk_at dksX7_make0_9 20 rfl rfl)
theorem dX7_make0_233 : decode cX7_make0 233 = .ok (.iand, 1) := dk_126 (dk_at dksX7_make0_9 21 rfl rfl)
theorem dX7_make0_234 : decode cX7_make0 234 = .ok (.ifCond .ne 6, 3) := dk_154 0 6 (dk_at dksX7_make0_10 0 rfl rfl)
theorem dX7_make0_237 : decode cX7_make0 237 = .ok (.goto 106, 3) := dk_167 0 106 (dk_at dksX7_make0_10 3 rfl rfl)
theorem dX7_make0_240 : decode cX7_make0 240 = .ok (.aload_n 0, 1) := dk_42 (dk_at dksX7_make0_10 6 rfl rfl)
theorem dX7_make0_241 : decode cX7_make0 241 = .ok (.getfield 139, 3) := dk_180 0 139 (dk_at dksX7_make0_10 7 rfl rfl)
theorem dX7_make0_244 : decode cX7_make0 244 = .ok (.iload 6, 2) := dk_21 6 (dk_at dksX7_make0_10 10 rfl rfl)
theorem dX7_make0_246 : decode cX7_make0 246 = .ok (.iaload, 1) := dk_46 (dk_at dksX7_make0_10 12 rfl rfl)
theorem dX7_make0_247 : decode cX7_make0 247 = .ok (.iconst 1, 1) := dk_4 (dk_at dksX7_make0_10 13 rfl rfl)
theorem dX7_make0_248 : decode cX7_make0 248 = .ok (.isub, 1) := dk_100 (dk_at dksX7_make0_10 14 rfl rfl)
theorem dX7_make0_249 : decode cX7_make0 249 = .ok (.istore 7, 2) := dk_54 7 (dk_at dksX7_make0_10 15 rfl rfl)
theorem dX7_make0_251 : decode cX7_make0 251 = .ok (.iload 7, 2) := dk_21 7 (dk_at dksX7_make0_10 17 rfl rfl)
theorem dX7_make0_253 : decode cX7_make0 253 = .ok (.ifCond .lt 65, 3) := dk_155 0 65 (dk_at dksX7_make0_10 19 rfl rfl)
theorem dX7_make0_256 : decode cX7_make0 256 = .ok (.aload_n 0, 1) := dk_42 (dk_at dksX7_make0_10 22 rfl rfl)
theorem dX7_make0_257 : decode cX7_make0 257 = .ok (.bipush 20, 2) := dk_16 20 (dk_at dksX7_make0_11 0 rfl rfl)
theorem dX7_make0_259 : decode cX7_make0 259 = .ok (.aload_n 0, 1) := dk_42 (dk_at dksX7_make0_11 2 rfl rfl)
theorem dX7_make0_260 : decode cX7_make0 260 = .ok (.getfield 142, 3) := dk_180 0 142 (dk_at dksX7_make0_11 3 rfl rfl)
theorem dX7_make0_263 : decode cX7_make0 263 = .ok (.iload 6, 2) := dk_21 6 (dk_at dksX7_make0_11 6 rfl rfl)
theorem dX7_make0_265 : decode cX7_make0 265 = .ok (.iaload, 1) := dk_46 (dk_at dksX7_make0_11 8 rfl rfl)
theorem dX7_make0_266 : decode cX7_make0 266 = .ok (.iadd, 1) := dk_96 (dk_at dksX7_make0_11 9 rfl rfl)
theorem dX7_make0_267 : decode cX7_make0 267 = .ok (.invokevirtual 506, 3) := dk_182 1 250 (dk_at dksX7_make0_11 10 rfl rfl)
theorem dX7_make0_270 : decode cX7_make0 270 = .ok (.istore 8, 2) := dk_54 8 (dk_at dksX7_make0_11 13 rfl rfl)
theorem dX7_make0_272 : decode cX7_make0 272 = .ok (.aload_n 0, 1) := dk_42 (dk_at dksX7_make0_11 15 rfl rfl)
theorem dX7_make0_273 : decode cX7_make0 273 = .ok (.bipush 68, 2) := dk_16 68 (dk_at dksX7_make0_11 16 rfl rfl)
theorem dX7_make0_275 : decode cX7_make0 275 = .ok (.bipush 6, 2) := dk_16 6 (dk_at dksX7_make0_11 18 rfl rfl)
theorem dX7_make0_277 : decode cX7_make0 277 = .ok (.iload 4, 2) := dk_21 4 (dk_at dksX7_make0_11 20 rfl rfl)
theorem dX7_make0_279 : decode cX7_make0 279 = .ok (.imul, 1) := dk_104 (dk_at dksX7_make0_11 22 rfl rfl)
theorem dX7_make0_280 : decode cX7_make0 280 = .ok (.iadd, 1) := dk_96 (dk_at dksX7_make0_11 23 rfl rfl)
theorem dX7_make0_281 : decode cX7_make0 281 = .ok (.iload 7, 2) := dk_21 7 (dk_at dksX7_make0_12 0 rfl rfl)
theorem dX7_make0_283 : decode cX7_make0 283 = .ok (.iadd, 1) := dk_96 (dk_at dksX7_make0_12 2 rfl rfl)
theorem dX7_make0_284 : decode cX7_make0 284 = .ok (.sipush 181, 3) := dk_17 0 181 (dk_at dksX7_make0_12 3 rfl rfl)
theorem dX7_make0_287 : decode cX7_make0 287 = .ok (.iload 8, 2) := dk_21 8 (dk_at dksX7_make0_12 6 rfl rfl)
theorem dX7_make0_289 : decode cX7_make0 289 = .ok (.iadd, 1) := dk_96 (dk_at dksX7_make0_12 8 rfl rfl)
theorem dX7_make0_290 : decode cX7_make0 290 = .ok (.invokevirtual 500, 3) := dk_182 1 244 (dk_at dksX7_make0_12 9 rfl rfl)
theorem dX7_make0_293 : decode cX7_make0 293 = .ok (.aload_n 0, 1) := dk_42 (dk_at dksX7_make0_12 12 rfl rfl)
theorem dX7_make0_294 : decode cX7_make0 294 = .ok (.sipush 205, 3) := dk_17 0 205 (dk_at dksX7_make0_12 13 rfl rfl)
theorem dX7_make0_297 : decode cX7_make0 297 = .ok (.iload 8, 2) := dk_21 8 (dk_at dksX7_make0_12 16 rfl rfl)
theorem dX7_make0_299 : decode cX7_make0 299 = .ok (.iadd, 1) := dk_96 (dk_at dksX7_make0_12 18 rfl rfl)
theorem dX7_make0_300 : decode cX7_make0 300 = .ok (.sipush 132, 3) := dk_17 0 132 (dk_at dksX7_make0_12 19 rfl rfl)
theorem dX7_make0_303 : decode cX7_make0 303 = .ok (.iload 5, 2) := dk_21 5 (dk_at dksX7_make0_12 22 rfl rfl)
theorem dX7_make0_305 : decode cX7_make0 305 = .ok (.iadd, 1) := dk_96 (dk_at dksX7_make0_13 0 rfl rfl)
theorem dX7_make0_306 : decode cX7_make0 306 = .ok (.invokevirtual 500, 3) := dk_182 1 244 (dk_at dksX7_make0_13 1 rfl rfl)
theorem dX7_make0_309 : decode cX7_make0 309 = .ok (.iinc 5 1, 3) := dk_132 5 1 (dk_at dksX7_make0_13 4 rfl rfl)
theorem dX7_make0_312 : decode cX7_make0 312 = .ok (.iinc 7 (-1), 3) := dk_132 7 255 (dk_at dksX7_make0_13 7 rfl rfl)
theorem dX7_make0_315 : decode cX7_make0 315 = .ok (.goto (-64), 3) := dk_167 255 192 (dk_at dksX7_make0_13 10 rfl rfl)
theorem dX7_make0_318 : decode cX7_make0 318 = .ok (.aload_n 0, 1) := dk_42 (dk_at dksX7_make0_13 13 rfl rfl)
theorem dX7_make0_319 : decode cX7_make0 319 = .ok (.bipush 65, 2) := dk_16 65 (dk_at dksX7_make0_13 14 rfl rfl)
theorem dX7_make0_321 : decode cX7_make0 321 = .ok (.aload_n 0, 1) := dk_42 (dk_at dksX7_make0_13 16 rfl rfl)
theorem dX7_make0_322 : decode cX7_make0 322 = .ok (.getfield 142, 3) := dk_180 0 142 (dk_at dksX7_make0_13 17 rfl rfl)
theorem dX7_make0_325 : decode cX7_make0 325 = .ok (.iload 6, 2) := dk_21 6 (dk_at dksX7_make0_13 20 rfl rfl)
theorem dX7_make0_327 : decode cX7_make0 327 = .ok (.iaload, 1) := dk_46 (dk_at dksX7_make0_13 22 rfl rfl)
theorem dX7_make0_328 : decode cX7_make0 328 = .ok (.iadd, 1) := dk_96 (dk_at dksX7_make0_13 23 rfl rfl)
theorem dX7_make0_329 : decode cX7_make0 329 = .ok (.iconst 1, 1) := dk_4 (dk_at dksX7_make0_14 0 rfl rfl)
theorem dX7_make0_330 : decode cX7_make0 330 = .ok (.isub, 1) := dk_100 (dk_at dksX7_make0_14 1 rfl rfl)
theorem dX7_make0_331 : decode cX7_make0 331 = .ok (.sipush 128, 3) := dk_17 0 128 (dk_at dksX7_make0_14 2 rfl rfl)
theorem dX7_make0_334 : decode cX7_make0 334 = .ok (.iload 4, 2) := dk_21 4 (dk_at dksX7_make0_14 5 rfl rfl)
theorem dX7_make0_336 : decode cX7_make0 336 = .ok (.iadd, 1) := dk_96 (dk_at dksX7_make0_14 7 rfl rfl)
theorem dX7_make0_337 : decode cX7_make0 337 = .ok (.invokevirtual 500, 3) := dk_182 1 244 (dk_at dksX7_make0_14 8 rfl rfl)
theorem dX7_make0_340 : decode cX7_make0 340 = .ok (.iinc 4 1, 3) := dk_132 4 1 (dk_at dksX7_make0_14 11 rfl rfl)
theorem dX7_make0_343 : decode cX7_make0 343 = .ok (.iinc 6 1, 3) := dk_132 6 1 (dk_at dksX7_make0_14 14 rfl rfl)
theorem dX7_make0_346 : decode cX7_make0 346 = .ok (.goto (-129), 3) := dk_167 255 127 (dk_at dksX7_make0_14 17 rfl rfl)
theorem dX7_make0_349 : decode cX7_make0 349 = .ok (.aload_n 0, 1) := dk_42 (dk_at dksX7_make0_14 20 rfl rfl)
theorem dX7_make0_350 : decode cX7_make0 350 = .ok (.getfield 497, 3) := dk_180 1 241 (dk_at dksX7_make0_14 21 rfl rfl)
theorem dX7_make0_353 : decode cX7_make0 353 = .ok (.ifCond .ne 16, 3) := dk_154 0 16 (dk_at dksX7_make0_15 0 rfl rfl)
theorem dX7_make0_356 : decode cX7_make0 356 = .ok (.aload_n 0, 1) := dk_42 (dk_at dksX7_make0_15 3 rfl rfl)
theorem dX7_make0_357 : decode cX7_make0 357 = .ok (.getfield 491, 3) := dk_180 1 235 (dk_at dksX7_make0_15 4 rfl rfl)
theorem dX7_make0_360 : decode cX7_make0 360 = .ok (.bipush 60, 2) := dk_16 60 (dk_at dksX7_make0_15 7 rfl rfl)
theorem dX7_make0_362 : decode cX7_make0 362 = .ok (.if_icmp .gt 7, 3) := dk_163 0 7 (dk_at dksX7_make0_15 9 rfl rfl)
theorem dX7_make0_365 : decode cX7_make0 365 = .ok (.iconst 1, 1) := dk_4 (dk_at dksX7_make0_15 12 rfl rfl)
theorem dX7_make0_366 : decode cX7_make0 366 = .ok (.goto 4, 3) := dk_167 0 4 (dk_at dksX7_make0_15 13 rfl rfl)
theorem dX7_make0_369 : decode cX7_make0 369 = .ok (.iconst 0, 1) := dk_3 (dk_at dksX7_make0_15 16 rfl rfl)
theorem dX7_make0_370 : decode cX7_make0 370 = .ok (.ireturn, 1) := dk_172 (dk_at dksX7_make0_15 17 rfl rfl)
abbrev cX7_lay : ByteArray := prog_14_method_77_code
def yX7_lay : MethodName := ⟨RX7, "lay", "(II)V"⟩
def dkwX7_lay_1 : List UInt8 := [180, 1, 235, 4, 96, 181, 1, 235, 177]
abbrev dktX7_lay_1 : List UInt8 := dkwX7_lay_1 ++ []
def dkwX7_lay_0 : List UInt8 := [42, 180, 0, 151, 42, 180, 1, 235, 27, 79, 42, 180, 0, 154, 42, 180, 1, 235, 28, 79, 42, 89]
abbrev dktX7_lay_0 : List UInt8 := dkwX7_lay_0 ++ dktX7_lay_1
theorem dksX7_lay_0 : cX7_lay.data.toList.drop 0 = dktX7_lay_0 := by decide +kernel
theorem dksX7_lay_1 : cX7_lay.data.toList.drop 22 = dktX7_lay_1 := dk_seg dksX7_lay_0 22 rfl rfl
theorem dX7_lay_0 : decode cX7_lay 0 = .ok (.aload_n 0, 1) := dk_42 (dk_at dksX7_lay_0 0 rfl rfl)
theorem dX7_lay_1 : decode cX7_lay 1 = .ok (.getfield 151, 3) := dk_180 0 151 (dk_at dksX7_lay_0 1 rfl rfl)
theorem dX7_lay_4 : decode cX7_lay 4 = .ok (.aload_n 0, 1) := dk_42 (dk_at dksX7_lay_0 4 rfl rfl)
theorem dX7_lay_5 : decode cX7_lay 5 = .ok (.getfield 491, 3) := dk_180 1 235 (dk_at dksX7_lay_0 5 rfl rfl)
theorem dX7_lay_8 : decode cX7_lay 8 = .ok (.iload_n 1, 1) := dk_27 (dk_at dksX7_lay_0 8 rfl rfl)
theorem dX7_lay_9 : decode cX7_lay 9 = .ok (.iastore, 1) := dk_79 (dk_at dksX7_lay_0 9 rfl rfl)
theorem dX7_lay_10 : decode cX7_lay 10 = .ok (.aload_n 0, 1) := dk_42 (dk_at dksX7_lay_0 10 rfl rfl)
theorem dX7_lay_11 : decode cX7_lay 11 = .ok (.getfield 154, 3) := dk_180 0 154 (dk_at dksX7_lay_0 11 rfl rfl)
theorem dX7_lay_14 : decode cX7_lay 14 = .ok (.aload_n 0, 1) := dk_42 (dk_at dksX7_lay_0 14 rfl rfl)
theorem dX7_lay_15 : decode cX7_lay 15 = .ok (.getfield 491, 3) := dk_180 1 235 (dk_at dksX7_lay_0 15 rfl rfl)
theorem dX7_lay_18 : decode cX7_lay 18 = .ok (.iload_n 2, 1) := dk_28 (dk_at dksX7_lay_0 18 rfl rfl)
theorem dX7_lay_19 : decode cX7_lay 19 = .ok (.iastore, 1) := dk_79 (dk_at dksX7_lay_0 19 rfl rfl)
theorem dX7_lay_20 : decode cX7_lay 20 = .ok (.aload_n 0, 1) := dk_42 (dk_at dksX7_lay_0 20 rfl rfl)
theorem dX7_lay_21 : decode cX7_lay 21 = .ok (.dup, 1) := dk_89 (dk_at dksX7_lay_0 21 rfl rfl)
theorem dX7_lay_22 : decode cX7_lay 22 = .ok (.getfield 491, 3) := dk_180 1 235 (dk_at dksX7_lay_1 0 rfl rfl)
theorem dX7_lay_25 : decode cX7_lay 25 = .ok (.iconst 1, 1) := dk_4 (dk_at dksX7_lay_1 3 rfl rfl)
theorem dX7_lay_26 : decode cX7_lay 26 = .ok (.iadd, 1) := dk_96 (dk_at dksX7_lay_1 4 rfl rfl)
theorem dX7_lay_27 : decode cX7_lay 27 = .ok (.putfield 491, 3) := dk_181 1 235 (dk_at dksX7_lay_1 5 rfl rfl)
theorem dX7_lay_30 : decode cX7_lay 30 = .ok (.return_, 1) := dk_177 (dk_at dksX7_lay_1 8 rfl rfl)
abbrev cX7_addends : ByteArray := prog_14_method_80_code
def yX7_addends : MethodName := ⟨RX7, "addends", "(II)V"⟩
def dkwX7_addends_6 : List UInt8 := [17, 0, 205, 21, 4, 96, 16, 124, 28, 96, 182, 1, 244, 177]
abbrev dktX7_addends_6 : List UInt8 := dkwX7_addends_6 ++ []
def dkwX7_addends_5 : List UInt8 := [17, 0, 181, 21, 4, 96, 182, 1, 244, 42, 17, 0, 193, 21, 4, 96, 16, 120, 28, 96, 182, 1, 244, 42]
abbrev dktX7_addends_5 : List UInt8 := dkwX7_addends_5 ++ dktX7_addends_6
def dkwX7_addends_4 : List UInt8 := [16, 120, 28, 96, 182, 1, 244, 177, 42, 42, 180, 0, 145, 27, 46, 182, 1, 250, 54, 4, 42, 16, 60]
abbrev dktX7_addends_4 : List UInt8 := dkwX7_addends_4 ++ dktX7_addends_5
def dkwX7_addends_3 : List UInt8 := [21, 4, 96, 182, 1, 244, 132, 4, 1, 167, 255, 204, 42, 180, 0, 145, 27, 46, 154, 0, 14, 42, 16, 60]
abbrev dktX7_addends_3 : List UInt8 := dkwX7_addends_3 ++ dktX7_addends_4
def dkwX7_addends_2 : List UInt8 := [163, 0, 36, 42, 3, 42, 180, 0, 127, 29, 46, 96, 21, 4, 100, 4, 100, 16, 96, 16, 6, 28, 104, 96]
abbrev dktX7_addends_2 : List UInt8 := dkwX7_addends_2 ++ dktX7_addends_3
def dkwX7_addends_1 : List UInt8 := [3, 54, 4, 29, 155, 0, 54, 21, 4, 42, 180, 0, 127, 29, 46, 42, 180, 0, 124, 29, 46, 100]
abbrev dktX7_addends_1 : List UInt8 := dkwX7_addends_1 ++ dktX7_addends_2
def dkwX7_addends_0 : List UInt8 := [42, 180, 0, 136, 27, 46, 62, 29, 156, 0, 16, 42, 16, 60, 16, 96, 16, 6, 28, 104, 96, 182, 1, 244]
abbrev dktX7_addends_0 : List UInt8 := dkwX7_addends_0 ++ dktX7_addends_1
theorem dksX7_addends_0 : cX7_addends.data.toList.drop 0 = dktX7_addends_0 := by decide +kernel
theorem dksX7_addends_1 : cX7_addends.data.toList.drop 24 = dktX7_addends_1 := dk_seg dksX7_addends_0 24 rfl rfl
theorem dksX7_addends_2 : cX7_addends.data.toList.drop 46 = dktX7_addends_2 := dk_seg dksX7_addends_1 22 rfl rfl
theorem dksX7_addends_3 : cX7_addends.data.toList.drop 70 = dktX7_addends_3 := dk_seg dksX7_addends_2 24 rfl rfl
theorem dksX7_addends_4 : cX7_addends.data.toList.drop 94 = dktX7_addends_4 := dk_seg dksX7_addends_3 24 rfl rfl
theorem dksX7_addends_5 : cX7_addends.data.toList.drop 117 = dktX7_addends_5 := dk_seg dksX7_addends_4 23 rfl rfl
theorem dksX7_addends_6 : cX7_addends.data.toList.drop 141 = dktX7_addends_6 := dk_seg dksX7_addends_5 24 rfl rfl
theorem dX7_addends_0 : decode cX7_addends 0 = .ok (.aload_n 0, 1) := dk_42 (dk_at dksX7_addends_0 0 rfl rfl)
theorem dX7_addends_1 : decode cX7_addends 1 = .ok (.getfield 136, 3) := dk_180 0 136 (dk_at dksX7_addends_0 1 rfl rfl)
theorem dX7_addends_4 : decode cX7_addends 4 = .ok (.iload_n 1, 1) := dk_27 (dk_at dksX7_addends_0 4 rfl rfl)
theorem dX7_addends_5 : decode cX7_addends 5 = .ok (.iaload, 1) := dk_46 (dk_at dksX7_addends_0 5 rfl rfl)
theorem dX7_addends_6 : decode cX7_addends 6 = .ok (.istore_n 3, 1) := dk_62 (dk_at dksX7_addends_0 6 rfl rfl)
theorem dX7_addends_7 : decode cX7_addends 7 = .ok (.iload_n 3, 1) := dk_29 (dk_at dksX7_addends_0 7 rfl rfl)
theorem dX7_addends_8 : decode cX7_addends 8 = .ok (.ifCond .ge 16, 3) := dk_156 0 16 (dk_at dksX7_addends_0 8 rfl rfl)
theorem dX7_addends_11 : decode cX7_addends 11 = .ok (.aload_n 0, 1) := dk_42 (dk_at dksX7_addends_0 11 rfl rfl)
theorem dX7_addends_12 : decode cX7_addends 12 = .ok (.bipush 60, 2) := dk_16 60 (dk_at dksX7_addends_0 12 rfl rfl)
theorem dX7_addends_14 : decode cX7_addends 14 = .ok (.bipush 96, 2) := dk_16 96 (dk_at dksX7_addends_0 14 rfl rfl)
theorem dX7_addends_16 : decode cX7_addends 16 = .ok (.bipush 6, 2) := dk_16 6 (dk_at dksX7_addends_0 16 rfl rfl)
theorem dX7_addends_18 : decode cX7_addends 18 = .ok (.iload_n 2, 1) := dk_28 (dk_at dksX7_addends_0 18 rfl rfl)
theorem dX7_addends_19 : decode cX7_addends 19 = .ok (.imul, 1) := dk_104 (dk_at dksX7_addends_0 19 rfl rfl)
theorem dX7_addends_20 : decode cX7_addends 20 = .ok (.iadd, 1) := dk_96 (dk_at dksX7_addends_0 20 rfl rfl)
theorem dX7_addends_21 : decode cX7_addends 21 = .ok (.invokevirtual 500, 3) := dk_182 1 244 (dk_at dksX7_addends_0 21 rfl rfl)
theorem dX7_addends_24 : decode cX7_addends 24 = .ok (.iconst 0, 1) := dk_3 (dk_at dksX7_addends_1 0 rfl rfl)
theorem dX7_addends_25 : decode cX7_addends 25 = .ok (.istore 4, 2) := dk_54 4 (dk_at dksX7_addends_1 1 rfl rfl)
theorem dX7_addends_27 : decode cX7_addends 27 = .ok (.iload_n 3, 1) := dk_29 (dk_at dksX7_addends_1 3 rfl rfl)
theorem dX7_addends_28 : decode cX7_addends 28 = .ok (.ifCond .lt 54, 3) := dk_155 0 54 (dk_at dksX7_addends_1 4 rfl rfl)
theorem dX7_addends_31 : decode cX7_addends 31 = .ok (.iload 4, 2) := dk_21 4 (dk_at dksX7_addends_1 7 rfl rfl)
theorem dX7_addends_33 : decode cX7_addends 33 = .ok (.aload_n 0, 1) := dk_42 (dk_at dksX7_addends_1 9 rfl rfl)
theorem dX7_addends_34 : decode cX7_addends 34 = .ok (.getfield 127, 3) := dk_180 0 127 (dk_at dksX7_addends_1 10 rfl rfl)
theorem dX7_addends_37 : decode cX7_addends 37 = .ok (.iload_n 3, 1) := dk_29 (dk_at dksX7_addends_1 13 rfl rfl)
theorem dX7_addends_38 : decode cX7_addends 38 = .ok (.iaload, 1) := dk_46 (dk_at dksX7_addends_1 14 rfl rfl)
theorem dX7_addends_39 : decode cX7_addends 39 = .ok (.aload_n 0, 1) := dk_42 (dk_at dksX7_addends_1 15 rfl rfl)
theorem dX7_addends_40 : decode cX7_addends 40 = .ok (.getfield 124, 3) := dk_180 0 124 (dk_at dksX7_addends_1 16 rfl rfl)
theorem dX7_addends_43 : decode cX7_addends 43 = .ok (.iload_n 3, 1) := dk_29 (dk_at dksX7_addends_1 19 rfl rfl)
theorem dX7_addends_44 : decode cX7_addends 44 = .ok (.iaload, 1) := dk_46 (dk_at dksX7_addends_1 20 rfl rfl)
theorem dX7_addends_45 : decode cX7_addends 45 = .ok (.isub, 1) := dk_100 (dk_at dksX7_addends_1 21 rfl rfl)
theorem dX7_addends_46 : decode cX7_addends 46 = .ok (.if_icmp .gt 36, 3) := dk_163 0 36 (dk_at dksX7_addends_2 0 rfl rfl)
theorem dX7_addends_49 : decode cX7_addends 49 = .ok (.aload_n 0, 1) := dk_42 (dk_at dksX7_addends_2 3 rfl rfl)
theorem dX7_addends_50 : decode cX7_addends 50 = .ok (.iconst 0, 1) := dk_3 (dk_at dksX7_addends_2 4 rfl rfl)
theorem dX7_addends_51 : decode cX7_addends 51 = .ok (.aload_n 0, 1) := dk_42 (dk_at dksX7_addends_2 5 rfl rfl)
theorem dX7_addends_52 : decode cX7_addends 52 = .ok (.getfield 127, 3) := dk_180 0 127 (dk_at dksX7_addends_2 6 rfl rfl)
theorem dX7_addends_55 : decode cX7_addends 55 = .ok (.iload_n 3, 1) := dk_29 (dk_at dksX7_addends_2 9 rfl rfl)
theorem dX7_addends_56 : decode cX7_addends 56 = .ok (.iaload, 1) := dk_46 (dk_at dksX7_addends_2 10 rfl rfl)
theorem dX7_addends_57 : decode cX7_addends 57 = .ok (.iadd, 1) := dk_96 (dk_at dksX7_addends_2 11 rfl rfl)
theorem dX7_addends_58 : decode cX7_addends 58 = .ok (.iload 4, 2) := dk_21 4 (dk_at dksX7_addends_2 12 rfl rfl)
theorem dX7_addends_60 : decode cX7_addends 60 = .ok (.isub, 1) := dk_100 (dk_at dksX7_addends_2 14 rfl rfl)
theorem dX7_addends_61 : decode cX7_addends 61 = .ok (.iconst 1, 1) := dk_4 (dk_at dksX7_addends_2 15 rfl rfl)
theorem dX7_addends_62 : decode cX7_addends 62 = .ok (.isub, 1) := dk_100 (dk_at dksX7_addends_2 16 rfl rfl)
theorem dX7_addends_63 : decode cX7_addends 63 = .ok (.bipush 96, 2) := dk_16 96 (dk_at dksX7_addends_2 17 rfl rfl)
theorem dX7_addends_65 : decode cX7_addends 65 = .ok (.bipush 6, 2) := dk_16 6 (dk_at dksX7_addends_2 19 rfl rfl)
theorem dX7_addends_67 : decode cX7_addends 67 = .ok (.iload_n 2, 1) := dk_28 (dk_at dksX7_addends_2 21 rfl rfl)
theorem dX7_addends_68 : decode cX7_addends 68 = .ok (.imul, 1) := dk_104 (dk_at dksX7_addends_2 22 rfl rfl)
theorem dX7_addends_69 : decode cX7_addends 69 = .ok (.iadd, 1) := dk_96 (dk_at dksX7_addends_2 23 rfl rfl)
theorem dX7_addends_70 : decode cX7_addends 70 = .ok (.iload 4, 2) := dk_21 4 (dk_at dksX7_addends_3 0 rfl rfl)
theorem dX7_addends_72 : decode cX7_addends 72 = .ok (.iadd, 1) := dk_96 (dk_at dksX7_addends_3 2 rfl rfl)
theorem dX7_addends_73 : decode cX7_addends 73 = .ok (.invokevirtual 500, 3) := dk_182 1 244 (dk_at dksX7_addends_3 3 rfl rfl)
theorem dX7_addends_76 : decode cX7_addends 76 = .ok (.iinc 4 1, 3) := dk_132 4 1 (dk_at dksX7_addends_3 6 rfl rfl)
theorem dX7_addends_79 : decode cX7_addends 79 = .ok (.goto (-52), 3) := dk_167 255 204 (dk_at dksX7_addends_3 9 rfl rfl)
theorem dX7_addends_82 : decode cX7_addends 82 = .ok (.aload_n 0, 1) := dk_42 (dk_at dksX7_addends_3 12 rfl rfl)
theorem dX7_addends_83 : decode cX7_addends 83 = .ok (.getfield 145, 3) := dk_180 0 145 (dk_at dksX7_addends_3 13 rfl rfl)
theorem dX7_addends_86 : decode cX7_addends 86 = .ok (.iload_n 1, 1) := dk_27 (dk_at dksX7_addends_3 16 rfl rfl)
theorem dX7_addends_87 : decode cX7_addends 87 = .ok (.iaload, 1) := dk_46 (dk_at dksX7_addends_3 17 rfl rfl)
theorem dX7_addends_88 : decode cX7_addends 88 = .ok (.ifCond .ne 14, 3) := dk_154 0 14 (dk_at dksX7_addends_3 18 rfl rfl)
theorem dX7_addends_91 : decode cX7_addends 91 = .ok (.aload_n 0, 1) := dk_42 (dk_at dksX7_addends_3 21 rfl rfl)
theorem dX7_addends_92 : decode cX7_addends 92 = .ok (.bipush 60, 2) := dk_16 60 (dk_at dksX7_addends_3 22 rfl rfl)
theorem dX7_addends_94 : decode cX7_addends 94 = .ok (.bipush 120, 2) := dk_16 120 (dk_at dksX7_addends_4 0 rfl rfl)
theorem dX7_addends_96 : decode cX7_addends 96 = .ok (.iload_n 2, 1) := dk_28 (dk_at dksX7_addends_4 2 rfl rfl)
theorem dX7_addends_97 : decode cX7_addends 97 = .ok (.iadd, 1) := dk_96 (dk_at dksX7_addends_4 3 rfl rfl)
theorem dX7_addends_98 : decode cX7_addends 98 = .ok (.invokevirtual 500, 3) := dk_182 1 244 (dk_at dksX7_addends_4 4 rfl rfl)
theorem dX7_addends_101 : decode cX7_addends 101 = .ok (.return_, 1) := dk_177 (dk_at dksX7_addends_4 7 rfl rfl)
theorem dX7_addends_102 : decode cX7_addends 102 = .ok (.aload_n 0, 1) := dk_42 (dk_at dksX7_addends_4 8 rfl rfl)
theorem dX7_addends_103 : decode cX7_addends 103 = .ok (.aload_n 0, 1) := dk_42 (dk_at dksX7_addends_4 9 rfl rfl)
theorem dX7_addends_104 : decode cX7_addends 104 = .ok (.getfield 145, 3) := dk_180 0 145 (dk_at dksX7_addends_4 10 rfl rfl)
theorem dX7_addends_107 : decode cX7_addends 107 = .ok (.iload_n 1, 1) := dk_27 (dk_at dksX7_addends_4 13 rfl rfl)
theorem dX7_addends_108 : decode cX7_addends 108 = .ok (.iaload, 1) := dk_46 (dk_at dksX7_addends_4 14 rfl rfl)
theorem dX7_addends_109 : decode cX7_addends 109 = .ok (.invokevirtual 506, 3) := dk_182 1 250 (dk_at dksX7_addends_4 15 rfl rfl)
theorem dX7_addends_112 : decode cX7_addends 112 = .ok (.istore 4, 2) := dk_54 4 (dk_at dksX7_addends_4 18 rfl rfl)
theorem dX7_addends_114 : decode cX7_addends 114 = .ok (.aload_n 0, 1) := dk_42 (dk_at dksX7_addends_4 20 rfl rfl)
theorem dX7_addends_115 : decode cX7_addends 115 = .ok (.bipush 60, 2) := dk_16 60 (dk_at dksX7_addends_4 21 rfl rfl)
theorem dX7_addends_117 : decode cX7_addends 117 = .ok (.sipush 181, 3) := dk_17 0 181 (dk_at dksX7_addends_5 0 rfl rfl)
theorem dX7_addends_120 : decode cX7_addends 120 = .ok (.iload 4, 2) := dk_21 4 (dk_at dksX7_addends_5 3 rfl rfl)
theorem dX7_addends_122 : decode cX7_addends 122 = .ok (.iadd, 1) := dk_96 (dk_at dksX7_addends_5 5 rfl rfl)
theorem dX7_addends_123 : decode cX7_addends 123 = .ok (.invokevirtual 500, 3) := dk_182 1 244 (dk_at dksX7_addends_5 6 rfl rfl)
theorem dX7_addends_126 : decode cX7_addends 126 = .ok (.aload_n 0, 1) := dk_42 (dk_at dksX7_addends_5 9 rfl rfl)
theorem dX7_addends_127 : decode cX7_addends 127 = .ok (.sipush 193, 3) := dk_17 0 193 (dk_at dksX7_addends_5 10 rfl rfl)
theorem dX7_addends_130 : decode cX7_addends 130 = .ok (.iload 4, 2) := dk_21 4 (dk_at dksX7_addends_5 13 rfl rfl)
theorem dX7_addends_132 : decode cX7_addends 132 = .ok (.iadd, 1) := dk_96 (dk_at dksX7_addends_5 15 rfl rfl)
theorem dX7_addends_133 : decode cX7_addends 133 = .ok (.bipush 120, 2) := dk_16 120 (dk_at dksX7_addends_5 16 rfl rfl)
theorem dX7_addends_135 : decode cX7_addends 135 = .ok (.iload_n 2, 1) := dk_28 (dk_at dksX7_addends_5 18 rfl rfl)
theorem dX7_addends_136 : decode cX7_addends 136 = .ok (.iadd, 1) := dk_96 (dk_at dksX7_addends_5 19 rfl rfl)
theorem dX7_addends_137 : decode cX7_addends 137 = .ok (.invokevirtual 500, 3) := dk_182 1 244 (dk_at dksX7_addends_5 20 rfl rfl)
theorem dX7_addends_140 : decode cX7_addends 140 = .ok (.aload_n 0, 1) := dk_42 (dk_at dksX7_addends_5 23 rfl rfl)
theorem dX7_addends_141 : decode cX7_addends 141 = .ok (.sipush 205, 3) := dk_17 0 205 (dk_at dksX7_addends_6 0 rfl rfl)
theorem dX7_addends_144 : decode cX7_addends 144 = .ok (.iload 4, 2) := dk_21 4 (dk_at dksX7_addends_6 3 rfl rfl)
theorem dX7_addends_146 : decode cX7_addends 146 = .ok (.iadd, 1) := dk_96 (dk_at dksX7_addends_6 5 rfl rfl)
theorem dX7_addends_147 : decode cX7_addends 147 = .ok (.bipush 124, 2) := dk_16 124 (dk_at dksX7_addends_6 6 rfl rfl)
theorem dX7_addends_149 : decode cX7_addends 149 = .ok (.iload_n 2, 1) := dk_28 (dk_at dksX7_addends_6 8 rfl rfl)
theorem dX7_addends_150 : decode cX7_addends 150 = .ok (.iadd, 1) := dk_96 (dk_at dksX7_addends_6 9 rfl rfl)
theorem dX7_addends_151 : decode cX7_addends 151 = .ok (.invokevirtual 500, 3) := dk_182 1 244 (dk_at dksX7_addends_6 10 rfl rfl)
theorem dX7_addends_154 : decode cX7_addends 154 = .ok (.return_, 1) := dk_177 (dk_at dksX7_addends_6 13 rfl rfl)
abbrev cX7_point : ByteArray := prog_14_method_78_code
def yX7_point : MethodName := ⟨RX7, "point", "(I)I"⟩
def dkwX7_point_5 : List UInt8 := [4, 96, 79, 6, 28, 104, 42, 180, 0, 160, 28, 46, 96, 4, 100, 172]
abbrev dktX7_point_5 : List UInt8 := dkwX7_point_5 ++ []
def dkwX7_point_4 : List UInt8 := [167, 0, 9, 16, 40, 27, 96, 4, 100, 17, 0, 144, 28, 96, 182, 1, 244, 42, 180, 0, 160, 28, 92, 46]
abbrev dktX7_point_4 : List UInt8 := dkwX7_point_4 ++ dktX7_point_5
def dkwX7_point_3 : List UInt8 := [180, 1, 238, 4, 96, 181, 1, 238, 42, 27, 16, 20, 164, 0, 15, 16, 65, 27, 96, 16, 20, 100, 4, 100]
abbrev dktX7_point_3 : List UInt8 := dkwX7_point_3 ++ dktX7_point_4
def dkwX7_point_2 : List UInt8 := [28, 42, 180, 1, 238, 160, 0, 60, 42, 180, 0, 157, 28, 27, 79, 42, 180, 0, 160, 28, 3, 79, 42, 89]
abbrev dktX7_point_2 : List UInt8 := dkwX7_point_2 ++ dktX7_point_3
def dkwX7_point_1 : List UInt8 := [28, 46, 6, 160, 0, 9, 132, 2, 1, 167, 255, 225, 28, 7, 160, 0, 10, 42, 4, 181, 1, 241, 3, 172]
abbrev dktX7_point_1 : List UInt8 := dkwX7_point_1 ++ dktX7_point_2
def dkwX7_point_0 : List UInt8 := [3, 61, 28, 42, 180, 1, 238, 162, 0, 29, 42, 180, 0, 157, 28, 46, 27, 160, 0, 13, 42, 180, 0, 160]
abbrev dktX7_point_0 : List UInt8 := dkwX7_point_0 ++ dktX7_point_1
theorem dksX7_point_0 : cX7_point.data.toList.drop 0 = dktX7_point_0 := by decide +kernel
theorem dksX7_point_1 : cX7_point.data.toList.drop 24 = dktX7_point_1 := dk_seg dksX7_point_0 24 rfl rfl
theorem dksX7_point_2 : cX7_point.data.toList.drop 48 = dktX7_point_2 := dk_seg dksX7_point_1 24 rfl rfl
theorem dksX7_point_3 : cX7_point.data.toList.drop 72 = dktX7_point_3 := dk_seg dksX7_point_2 24 rfl rfl
theorem dksX7_point_4 : cX7_point.data.toList.drop 96 = dktX7_point_4 := dk_seg dksX7_point_3 24 rfl rfl
theorem dksX7_point_5 : cX7_point.data.toList.drop 120 = dktX7_point_5 := dk_seg dksX7_point_4 24 rfl rfl
theorem dX7_point_0 : decode cX7_point 0 = .ok (.iconst 0, 1) := dk_3 (dk_at dksX7_point_0 0 rfl rfl)
theorem dX7_point_1 : decode cX7_point 1 = .ok (.istore_n 2, 1) := dk_61 (dk_at dksX7_point_0 1 rfl rfl)
theorem dX7_point_2 : decode cX7_point 2 = .ok (.iload_n 2, 1) := dk_28 (dk_at dksX7_point_0 2 rfl rfl)
theorem dX7_point_3 : decode cX7_point 3 = .ok (.aload_n 0, 1) := dk_42 (dk_at dksX7_point_0 3 rfl rfl)
theorem dX7_point_4 : decode cX7_point 4 = .ok (.getfield 494, 3) := dk_180 1 238 (dk_at dksX7_point_0 4 rfl rfl)
theorem dX7_point_7 : decode cX7_point 7 = .ok (.if_icmp .ge 29, 3) := dk_162 0 29 (dk_at dksX7_point_0 7 rfl rfl)
theorem dX7_point_10 : decode cX7_point 10 = .ok (.aload_n 0, 1) := dk_42 (dk_at dksX7_point_0 10 rfl rfl)
theorem dX7_point_11 : decode cX7_point 11 = .ok (.getfield 157, 3) := dk_180 0 157 (dk_at dksX7_point_0 11 rfl rfl)
theorem dX7_point_14 : decode cX7_point 14 = .ok (.iload_n 2, 1) := dk_28 (dk_at dksX7_point_0 14 rfl rfl)
theorem dX7_point_15 : decode cX7_point 15 = .ok (.iaload, 1) := dk_46 (dk_at dksX7_point_0 15 rfl rfl)
theorem dX7_point_16 : decode cX7_point 16 = .ok (.iload_n 1, 1) := dk_27 (dk_at dksX7_point_0 16 rfl rfl)
theorem dX7_point_17 : decode cX7_point 17 = .ok (.if_icmp .ne 13, 3) := dk_160 0 13 (dk_at dksX7_point_0 17 rfl rfl)
theorem dX7_point_20 : decode cX7_point 20 = .ok (.aload_n 0, 1) := dk_42 (dk_at dksX7_point_0 20 rfl rfl)
theorem dX7_point_21 : decode cX7_point 21 = .ok (.getfield 160, 3) := dk_180 0 160 (dk_at dksX7_point_0 21 rfl rfl)
theorem dX7_point_24 : decode cX7_point 24 = .ok (.iload_n 2, 1) := dk_28 (dk_at dksX7_point_1 0 rfl rfl)
theorem dX7_point_25 : decode cX7_point 25 = .ok (.iaload, 1) := dk_46 (dk_at dksX7_point_1 1 rfl rfl)
theorem dX7_point_26 : decode cX7_point 26 = .ok (.iconst 3, 1) := dk_6 (dk_at dksX7_point_1 2 rfl rfl)
theorem dX7_point_27 : decode cX7_point 27 = .ok (.if_icmp .ne 9, 3) := dk_160 0 9 (dk_at dksX7_point_1 3 rfl rfl)
theorem dX7_point_30 : decode cX7_point 30 = .ok (.iinc 2 1, 3) := dk_132 2 1 (dk_at dksX7_point_1 6 rfl rfl)
theorem dX7_point_33 : decode cX7_point 33 = .ok (.goto (-31), 3) := dk_167 255 225 (dk_at dksX7_point_1 9 rfl rfl)
theorem dX7_point_36 : decode cX7_point 36 = .ok (.iload_n 2, 1) := dk_28 (dk_at dksX7_point_1 12 rfl rfl)
theorem dX7_point_37 : decode cX7_point 37 = .ok (.iconst 4, 1) := dk_7 (dk_at dksX7_point_1 13 rfl rfl)
theorem dX7_point_38 : decode cX7_point 38 = .ok (.if_icmp .ne 10, 3) := dk_160 0 10 (dk_at dksX7_point_1 14 rfl rfl)
theorem dX7_point_41 : decode cX7_point 41 = .ok (.aload_n 0, 1) := dk_42 (dk_at dksX7_point_1 17 rfl rfl)
theorem dX7_point_42 : decode cX7_point 42 = .ok (.iconst 1, 1) := dk_4 (dk_at dksX7_point_1 18 rfl rfl)
theorem dX7_point_43 : decode cX7_point 43 = .ok (.putfield 497, 3) := dk_181 1 241 (dk_at dksX7_point_1 19 rfl rfl)
theorem dX7_point_46 : decode cX7_point 46 = .ok (.iconst 0, 1) := dk_3 (dk_at dksX7_point_1 22 rfl rfl)
theorem dX7_point_47 : decode cX7_point 47 = .ok (.ireturn, 1) := dk_172 (dk_at dksX7_point_1 23 rfl rfl)
theorem dX7_point_48 : decode cX7_point 48 = .ok (.iload_n 2, 1) := dk_28 (dk_at dksX7_point_2 0 rfl rfl)
theorem dX7_point_49 : decode cX7_point 49 = .ok (.aload_n 0, 1) := dk_42 (dk_at dksX7_point_2 1 rfl rfl)
theorem dX7_point_50 : decode cX7_point 50 = .ok (.getfield 494, 3) := dk_180 1 238 (dk_at dksX7_point_2 2 rfl rfl)
theorem dX7_point_53 : decode cX7_point 53 = .ok (.if_icmp .ne 60, 3) := dk_160 0 60 (dk_at dksX7_point_2 5 rfl rfl)
theorem dX7_point_56 : decode cX7_point 56 = .ok (.aload_n 0, 1) := dk_42 (dk_at dksX7_point_2 8 rfl rfl)
theorem dX7_point_57 : decode cX7_point 57 = .ok (.getfield 157, 3) := dk_180 0 157 (dk_at dksX7_point_2 9 rfl rfl)
theorem dX7_point_60 : decode cX7_point 60 = .ok (.iload_n 2, 1) := dk_28 (dk_at dksX7_point_2 12 rfl rfl)
theorem dX7_point_61 : decode cX7_point 61 = .ok (.iload_n 1, 1) := dk_27 (dk_at dksX7_point_2 13 rfl rfl)
theorem dX7_point_62 : decode cX7_point 62 = .ok (.iastore, 1) := dk_79 (dk_at dksX7_point_2 14 rfl rfl)
theorem dX7_point_63 : decode cX7_point 63 = .ok (.aload_n 0, 1) := dk_42 (dk_at dksX7_point_2 15 rfl rfl)
theorem dX7_point_64 : decode cX7_point 64 = .ok (.getfield 160, 3) := dk_180 0 160 (dk_at dksX7_point_2 16 rfl rfl)
theorem dX7_point_67 : decode cX7_point 67 = .ok (.iload_n 2, 1) := dk_28 (dk_at dksX7_point_2 19 rfl rfl)
theorem dX7_point_68 : decode cX7_point 68 = .ok (.iconst 0, 1) := dk_3 (dk_at dksX7_point_2 20 rfl rfl)
theorem dX7_point_69 : decode cX7_point 69 = .ok (.iastore, 1) := dk_79 (dk_at dksX7_point_2 21 rfl rfl)
theorem dX7_point_70 : decode cX7_point 70 = .ok (.aload_n 0, 1) := dk_42 (dk_at dksX7_point_2 22 rfl rfl)
theorem dX7_point_71 : decode cX7_point 71 = .ok (.dup, 1) := dk_89 (dk_at dksX7_point_2 23 rfl rfl)
theorem dX7_point_72 : decode cX7_point 72 = .ok (.getfield 494, 3) := dk_180 1 238 (dk_at dksX7_point_3 0 rfl rfl)
theorem dX7_point_75 : decode cX7_point 75 = .ok (.iconst 1, 1) := dk_4 (dk_at dksX7_point_3 3 rfl rfl)
theorem dX7_point_76 : decode cX7_point 76 = .ok (.iadd, 1) := dk_96 (dk_at dksX7_point_3 4 rfl rfl)
theorem dX7_point_77 : decode cX7_point 77 = .ok (.putfield 494, 3) := dk_181 1 238 (dk_at dksX7_point_3 5 rfl rfl)
theorem dX7_point_80 : decode cX7_point 80 = .ok (.aload_n 0, 1) := dk_42 (dk_at dksX7_point_3 8 rfl rfl)
theorem dX7_point_81 : decode cX7_point 81 = .ok (.iload_n 1, 1) := dk_27 (dk_at dksX7_point_3 9 rfl rfl)
theorem dX7_point_82 : decode cX7_point 82 = .ok (.bipush 20, 2) := dk_16 20 (dk_at dksX7_point_3 10 rfl rfl)
theorem dX7_point_84 : decode cX7_point 84 = .ok (.if_icmp .le 15, 3) := dk_164 0 15 (dk_at dksX7_point_3 12 rfl rfl)
theorem dX7_point_87 : decode cX7_point 87 = .ok (.bipush 65, 2) := dk_16 65 (dk_at dksX7_point_3 15 rfl rfl)
theorem dX7_point_89 : decode cX7_point 89 = .ok (.iload_n 1, 1) := dk_27 (dk_at dksX7_point_3 17 rfl rfl)
theorem dX7_point_90 : decode cX7_point 90 = .ok (.iadd, 1) := dk_96 (dk_at dksX7_point_3 18 rfl rfl)
theorem dX7_point_91 : decode cX7_point 91 = .ok (.bipush 20, 2) := dk_16 20 (dk_at dksX7_point_3 19 rfl rfl)
theorem dX7_point_93 : decode cX7_point 93 = .ok (.isub, 1) := dk_100 (dk_at dksX7_point_3 21 rfl rfl)
theorem dX7_point_94 : decode cX7_point 94 = .ok (.iconst 1, 1) := dk_4 (dk_at dksX7_point_3 22 rfl rfl)
theorem dX7_point_95 : decode cX7_point 95 = .ok (.isub, 1) := dk_100 (dk_at dksX7_point_3 23 rfl rfl)
theorem dX7_point_96 : decode cX7_point 96 = .ok (.goto 9, 3) := dk_167 0 9 (dk_at dksX7_point_4 0 rfl rfl)
theorem dX7_point_99 : decode cX7_point 99 = .ok (.bipush 40, 2) := dk_16 40 (dk_at dksX7_point_4 3 rfl rfl)
theorem dX7_point_101 : decode cX7_point 101 = .ok (.iload_n 1, 1) := dk_27 (dk_at dksX7_point_4 5 rfl rfl)
theorem dX7_point_102 : decode cX7_point 102 = .ok (.iadd, 1) := dk_96 (dk_at dksX7_point_4 6 rfl rfl)
theorem dX7_point_103 : decode cX7_point 103 = .ok (.iconst 1, 1) := dk_4 (dk_at dksX7_point_4 7 rfl rfl)
theorem dX7_point_104 : decode cX7_point 104 = .ok (.isub, 1) := dk_100 (dk_at dksX7_point_4 8 rfl rfl)
theorem dX7_point_105 : decode cX7_point 105 = .ok (.sipush 144, 3) := dk_17 0 144 (dk_at dksX7_point_4 9 rfl rfl)
theorem dX7_point_108 : decode cX7_point 108 = .ok (.iload_n 2, 1) := dk_28 (dk_at dksX7_point_4 12 rfl rfl)
theorem dX7_point_109 : decode cX7_point 109 = .ok (.iadd, 1) := dk_96 (dk_at dksX7_point_4 13 rfl rfl)
theorem dX7_point_110 : decode cX7_point 110 = .ok (.invokevirtual 500, 3) := dk_182 1 244 (dk_at dksX7_point_4 14 rfl rfl)
theorem dX7_point_113 : decode cX7_point 113 = .ok (.aload_n 0, 1) := dk_42 (dk_at dksX7_point_4 17 rfl rfl)
theorem dX7_point_114 : decode cX7_point 114 = .ok (.getfield 160, 3) := dk_180 0 160 (dk_at dksX7_point_4 18 rfl rfl)
theorem dX7_point_117 : decode cX7_point 117 = .ok (.iload_n 2, 1) := dk_28 (dk_at dksX7_point_4 21 rfl rfl)
theorem dX7_point_118 : decode cX7_point 118 = .ok (.dup2, 1) := dk_92 (dk_at dksX7_point_4 22 rfl rfl)
theorem dX7_point_119 : decode cX7_point 119 = .ok (.iaload, 1) := dk_46 (dk_at dksX7_point_4 23 rfl rfl)
theorem dX7_point_120 : decode cX7_point 120 = .ok (.iconst 1, 1) := dk_4 (dk_at dksX7_point_5 0 rfl rfl)
theorem dX7_point_121 : decode cX7_point 121 = .ok (.iadd, 1) := dk_96 (dk_at dksX7_point_5 1 rfl rfl)
theorem dX7_point_122 : decode cX7_point 122 = .ok (.iastore, 1) := dk_79 (dk_at dksX7_point_5 2 rfl rfl)
theorem dX7_point_123 : decode cX7_point 123 = .ok (.iconst 3, 1) := dk_6 (dk_at dksX7_point_5 3 rfl rfl)
theorem dX7_point_124 : decode cX7_point 124 = .ok (.iload_n 2, 1) := dk_28 (dk_at dksX7_point_5 4 rfl rfl)
theorem dX7_point_125 : decode cX7_point 125 = .ok (.imul, 1) := dk_104 (dk_at dksX7_point_5 5 rfl rfl)
theorem dX7_point_126 : decode cX7_point 126 = .ok (.aload_n 0, 1) := dk_42 (dk_at dksX7_point_5 6 rfl rfl)
theorem dX7_point_127 : decode cX7_point 127 = .ok (.getfield 160, 3) := dk_180 0 160 (dk_at dksX7_point_5 7 rfl rfl)
theorem dX7_point_130 : decode cX7_point 130 = .ok (.iload_n 2, 1) := dk_28 (dk_at dksX7_point_5 10 rfl rfl)
theorem dX7_point_131 : decode cX7_point 131 = .ok (.iaload, 1) := dk_46 (dk_at dksX7_point_5 11 rfl rfl)
theorem dX7_point_132 : decode cX7_point 132 = .ok (.iadd, 1) := dk_96 (dk_at dksX7_point_5 12 rfl rfl)
theorem dX7_point_133 : decode cX7_point 133 = .ok (.iconst 1, 1) := dk_4 (dk_at dksX7_point_5 13 rfl rfl)
theorem dX7_point_134 : decode cX7_point 134 = .ok (.isub, 1) := dk_100 (dk_at dksX7_point_5 14 rfl rfl)
theorem dX7_point_135 : decode cX7_point 135 = .ok (.ireturn, 1) := dk_172 (dk_at dksX7_point_5 15 rfl rfl)
abbrev cX7_wants : ByteArray := prog_14_method_84_code
def yX7_wants : MethodName := ⟨RX7, "wants", "(I)I"⟩
def dkwX7_wants_0 : List UInt8 := [42, 3, 181, 0, 190, 42, 27, 182, 2, 3, 172]
abbrev dktX7_wants_0 : List UInt8 := dkwX7_wants_0 ++ []
theorem dksX7_wants_0 : cX7_wants.data.toList.drop 0 = dktX7_wants_0 := by decide +kernel
theorem dX7_wants_0 : decode cX7_wants 0 = .ok (.aload_n 0, 1) := dk_42 (dk_at dksX7_wants_0 0 rfl rfl)
theorem dX7_wants_1 : decode cX7_wants 1 = .ok (.iconst 0, 1) := dk_3 (dk_at dksX7_wants_0 1 rfl rfl)
theorem dX7_wants_2 : decode cX7_wants 2 = .ok (.putfield 190, 3) := dk_181 0 190 (dk_at dksX7_wants_0 2 rfl rfl)
theorem dX7_wants_5 : decode cX7_wants 5 = .ok (.aload_n 0, 1) := dk_42 (dk_at dksX7_wants_0 5 rfl rfl)
theorem dX7_wants_6 : decode cX7_wants 6 = .ok (.iload_n 1, 1) := dk_27 (dk_at dksX7_wants_0 6 rfl rfl)
theorem dX7_wants_7 : decode cX7_wants 7 = .ok (.invokevirtual 515, 3) := dk_182 2 3 (dk_at dksX7_wants_0 7 rfl rfl)
theorem dX7_wants_10 : decode cX7_wants 10 = .ok (.ireturn, 1) := dk_172 (dk_at dksX7_wants_0 10 rfl rfl)
abbrev cX7_part : ByteArray := prog_14_method_83_code
def yX7_part : MethodName := ⟨RX7, "part", "(I)I"⟩
def dkwX7_part_2 : List UInt8 := [62, 132, 4, 1, 167, 255, 236, 42, 180, 0, 166, 29, 46, 172]
abbrev dktX7_part_2 : List UInt8 := dkwX7_part_2 ++ []
def dkwX7_part_1 : List UInt8 := [46, 120, 4, 100, 62, 3, 54, 4, 21, 4, 27, 162, 0, 20, 29, 42, 180, 0, 166, 29, 46, 2, 130, 126]
abbrev dktX7_part_1 : List UInt8 := dkwX7_part_1 ++ dktX7_part_2
def dkwX7_part_0 : List UInt8 := [42, 182, 2, 0, 61, 27, 3, 28, 4, 100, 184, 0, 207, 154, 0, 5, 2, 172, 4, 42, 180, 0, 133, 3]
abbrev dktX7_part_0 : List UInt8 := dkwX7_part_0 ++ dktX7_part_1
theorem dksX7_part_0 : cX7_part.data.toList.drop 0 = dktX7_part_0 := by decide +kernel
theorem dksX7_part_1 : cX7_part.data.toList.drop 24 = dktX7_part_1 := dk_seg dksX7_part_0 24 rfl rfl
theorem dksX7_part_2 : cX7_part.data.toList.drop 48 = dktX7_part_2 := dk_seg dksX7_part_1 24 rfl rfl
theorem dX7_part_0 : decode cX7_part 0 = .ok (.aload_n 0, 1) := dk_42 (dk_at dksX7_part_0 0 rfl rfl)
theorem dX7_part_1 : decode cX7_part 1 = .ok (.invokevirtual 512, 3) := dk_182 2 0 (dk_at dksX7_part_0 1 rfl rfl)
theorem dX7_part_4 : decode cX7_part 4 = .ok (.istore_n 2, 1) := dk_61 (dk_at dksX7_part_0 4 rfl rfl)
theorem dX7_part_5 : decode cX7_part 5 = .ok (.iload_n 1, 1) := dk_27 (dk_at dksX7_part_0 5 rfl rfl)
theorem dX7_part_6 : decode cX7_part 6 = .ok (.iconst 0, 1) := dk_3 (dk_at dksX7_part_0 6 rfl rfl)
theorem dX7_part_7 : decode cX7_part 7 = .ok (.iload_n 2, 1) := dk_28 (dk_at dksX7_part_0 7 rfl rfl)
theorem dX7_part_8 : decode cX7_part 8 = .ok (.iconst 1, 1) := dk_4 (dk_at dksX7_part_0 8 rfl rfl)
theorem dX7_part_9 : decode cX7_part 9 = .ok (.isub, 1) := dk_100 (dk_at dksX7_part_0 9 rfl rfl)
theorem dX7_part_10 : decode cX7_part 10 = .ok (.invokestatic 207, 3) := dk_184 0 207 (dk_at dksX7_part_0 10 rfl rfl)
theorem dX7_part_13 : decode cX7_part 13 = .ok (.ifCond .ne 5, 3) := dk_154 0 5 (dk_at dksX7_part_0 13 rfl rfl)
theorem dX7_part_16 : decode cX7_part 16 = .ok (.iconst (-1), 1) := dk_2 (dk_at dksX7_part_0 16 rfl rfl)
theorem dX7_part_17 : decode cX7_part 17 = .ok (.ireturn, 1) := dk_172 (dk_at dksX7_part_0 17 rfl rfl)
theorem dX7_part_18 : decode cX7_part 18 = .ok (.iconst 1, 1) := dk_4 (dk_at dksX7_part_0 18 rfl rfl)
theorem dX7_part_19 : decode cX7_part 19 = .ok (.aload_n 0, 1) := dk_42 (dk_at dksX7_part_0 19 rfl rfl)
theorem dX7_part_20 : decode cX7_part 20 = .ok (.getfield 133, 3) := dk_180 0 133 (dk_at dksX7_part_0 20 rfl rfl)
theorem dX7_part_23 : decode cX7_part 23 = .ok (.iconst 0, 1) := dk_3 (dk_at dksX7_part_0 23 rfl rfl)
theorem dX7_part_24 : decode cX7_part 24 = .ok (.iaload, 1) := dk_46 (dk_at dksX7_part_1 0 rfl rfl)
theorem dX7_part_25 : decode cX7_part 25 = .ok (.ishl, 1) := dk_120 (dk_at dksX7_part_1 1 rfl rfl)
theorem dX7_part_26 : decode cX7_part 26 = .ok (.iconst 1, 1) := dk_4 (dk_at dksX7_part_1 2 rfl rfl)
theorem dX7_part_27 : decode cX7_part 27 = .ok (.isub, 1) := dk_100 (dk_at dksX7_part_1 3 rfl rfl)
theorem dX7_part_28 : decode cX7_part 28 = .ok (.istore_n 3, 1) := dk_62 (dk_at dksX7_part_1 4 rfl rfl)
theorem dX7_part_29 : decode cX7_part 29 = .ok (.iconst 0, 1) := dk_3 (dk_at dksX7_part_1 5 rfl rfl)
theorem dX7_part_30 : decode cX7_part 30 = .ok (.istore 4, 2) := dk_54 4 (dk_at dksX7_part_1 6 rfl rfl)
theorem dX7_part_32 : decode cX7_part 32 = .ok (.iload 4, 2) := dk_21 4 (dk_at dksX7_part_1 8 rfl rfl)
theorem dX7_part_34 : decode cX7_part 34 = .ok (.iload_n 1, 1) := dk_27 (dk_at dksX7_part_1 10 rfl rfl)
theorem dX7_part_35 : decode cX7_part 35 = .ok (.if_icmp .ge 20, 3) := dk_162 0 20 (dk_at dksX7_part_1 11 rfl rfl)
theorem dX7_part_38 : decode cX7_part 38 = .ok (.iload_n 3, 1) := dk_29 (dk_at dksX7_part_1 14 rfl rfl)
theorem dX7_part_39 : decode cX7_part 39 = .ok (.aload_n 0, 1) := dk_42 (dk_at dksX7_part_1 15 rfl rfl)
theorem dX7_part_40 : decode cX7_part 40 = .ok (.getfield 166, 3) := dk_180 0 166 (dk_at dksX7_part_1 16 rfl rfl)
theorem dX7_part_43 : decode cX7_part 43 = .ok (.iload_n 3, 1) := dk_29 (dk_at dksX7_part_1 19 rfl rfl)
theorem dX7_part_44 : decode cX7_part 44 = .ok (.iaload, 1) := dk_46 (dk_at dksX7_part_1 20 rfl rfl)
theorem dX7_part_45 : decode cX7_part 45 = .ok (.iconst (-1), 1) := dk_2 (dk_at dksX7_part_1 21 rfl rfl)
theorem dX7_part_46 : decode cX7_part 46 = .ok (.ixor, 1) := dk_130 (dk_at dksX7_part_1 22 rfl rfl)
theorem dX7_part_47 : decode cX7_part 47 = .ok (.iand, 1) := dk_126 (dk_at dksX7_part_1 23 rfl rfl)
theorem dX7_part_48 : decode cX7_part 48 = .ok (.istore_n 3, 1) := dk_62 (dk_at dksX7_part_2 0 rfl rfl)
theorem dX7_part_49 : decode cX7_part 49 = .ok (.iinc 4 1, 3) := dk_132 4 1 (dk_at dksX7_part_2 1 rfl rfl)
theorem dX7_part_52 : decode cX7_part 52 = .ok (.goto (-20), 3) := dk_167 255 236 (dk_at dksX7_part_2 4 rfl rfl)
theorem dX7_part_55 : decode cX7_part 55 = .ok (.aload_n 0, 1) := dk_42 (dk_at dksX7_part_2 7 rfl rfl)
theorem dX7_part_56 : decode cX7_part 56 = .ok (.getfield 166, 3) := dk_180 0 166 (dk_at dksX7_part_2 8 rfl rfl)
theorem dX7_part_59 : decode cX7_part 59 = .ok (.iload_n 3, 1) := dk_29 (dk_at dksX7_part_2 11 rfl rfl)
theorem dX7_part_60 : decode cX7_part 60 = .ok (.iaload, 1) := dk_46 (dk_at dksX7_part_2 12 rfl rfl)
theorem dX7_part_61 : decode cX7_part 61 = .ok (.ireturn, 1) := dk_172 (dk_at dksX7_part_2 13 rfl rfl)
abbrev cX7_make : ByteArray := prog_14_method_85_code
def yX7_make : MethodName := ⟨RX7, "make", "(I)I"⟩
def dkwX7_make_3 : List UInt8 := [167, 255, 221, 42, 180, 1, 235, 172]
abbrev dktX7_make_3 : List UInt8 := dkwX7_make_3 ++ []
def dkwX7_make_2 : List UInt8 := [42, 180, 0, 151, 29, 46, 79, 42, 180, 0, 23, 29, 42, 180, 0, 154, 29, 46, 79, 132, 3, 1]
abbrev dktX7_make_2 : List UInt8 := dkwX7_make_2 ++ dktX7_make_3
def dkwX7_make_1 : List UInt8 := [180, 0, 26, 3, 42, 180, 1, 235, 79, 3, 62, 29, 42, 180, 1, 235, 162, 0, 33, 42, 180, 0, 20, 29]
abbrev dktX7_make_1 : List UInt8 := dkwX7_make_1 ++ dktX7_make_2
def dkwX7_make_0 : List UInt8 := [42, 3, 181, 0, 190, 42, 27, 182, 2, 3, 61, 28, 156, 0, 5, 2, 172, 42, 28, 182, 1, 253, 87, 42]
abbrev dktX7_make_0 : List UInt8 := dkwX7_make_0 ++ dktX7_make_1
theorem dksX7_make_0 : cX7_make.data.toList.drop 0 = dktX7_make_0 := by decide +kernel
theorem dksX7_make_1 : cX7_make.data.toList.drop 24 = dktX7_make_1 := dk_seg dksX7_make_0 24 rfl rfl
theorem dksX7_make_2 : cX7_make.data.toList.drop 48 = dktX7_make_2 := dk_seg dksX7_make_1 24 rfl rfl
theorem dksX7_make_3 : cX7_make.data.toList.drop 70 = dktX7_make_3 := dk_seg dksX7_make_2 22 rfl rfl
theorem dX7_make_0 : decode cX7_make 0 = .ok (.aload_n 0, 1) := dk_42 (dk_at dksX7_make_0 0 rfl rfl)
theorem dX7_make_1 : decode cX7_make 1 = .ok (.iconst 0, 1) := dk_3 (dk_at dksX7_make_0 1 rfl rfl)
theorem dX7_make_2 : decode cX7_make 2 = .ok (.putfield 190, 3) := dk_181 0 190 (dk_at dksX7_make_0 2 rfl rfl)
theorem dX7_make_5 : decode cX7_make 5 = .ok (.aload_n 0, 1) := dk_42 (dk_at dksX7_make_0 5 rfl rfl)
theorem dX7_make_6 : decode cX7_make 6 = .ok (.iload_n 1, 1) := dk_27 (dk_at dksX7_make_0 6 rfl rfl)
theorem dX7_make_7 : decode cX7_make 7 = .ok (.invokevirtual 515, 3) := dk_182 2 3 (dk_at dksX7_make_0 7 rfl rfl)
theorem dX7_make_10 : decode cX7_make 10 = .ok (.istore_n 2, 1) := dk_61 (dk_at dksX7_make_0 10 rfl rfl)
theorem dX7_make_11 : decode cX7_make 11 = .ok (.iload_n 2, 1) := dk_28 (dk_at dksX7_make_0 11 rfl rfl)
theorem dX7_make_12 : decode cX7_make 12 = .ok (.ifCond .ge 5, 3) := dk_156 0 5 (dk_at dksX7_make_0 12 rfl rfl)
theorem dX7_make_15 : decode cX7_make 15 = .ok (.iconst (-1), 1) := dk_2 (dk_at dksX7_make_0 15 rfl rfl)
theorem dX7_make_16 : decode cX7_make 16 = .ok (.ireturn, 1) := dk_172 (dk_at dksX7_make_0 16 rfl rfl)
theorem dX7_make_17 : decode cX7_make 17 = .ok (.aload_n 0, 1) := dk_42 (dk_at dksX7_make_0 17 rfl rfl)
theorem dX7_make_18 : decode cX7_make 18 = .ok (.iload_n 2, 1) := dk_28 (dk_at dksX7_make_0 18 rfl rfl)
theorem dX7_make_19 : decode cX7_make 19 = .ok (.invokevirtual 509, 3) := dk_182 1 253 (dk_at dksX7_make_0 19 rfl rfl)
theorem dX7_make_22 : decode cX7_make 22 = .ok (.pop, 1) := dk_87 (dk_at dksX7_make_0 22 rfl rfl)
theorem dX7_make_23 : decode cX7_make 23 = .ok (.aload_n 0, 1) := dk_42 (dk_at dksX7_make_0 23 rfl rfl)
theorem dX7_make_24 : decode cX7_make 24 = .ok (.getfield 26, 3) := dk_180 0 26 (dk_at dksX7_make_1 0 rfl rfl)
theorem dX7_make_27 : decode cX7_make 27 = .ok (.iconst 0, 1) := dk_3 (dk_at dksX7_make_1 3 rfl rfl)
theorem dX7_make_28 : decode cX7_make 28 = .ok (.aload_n 0, 1) := dk_42 (dk_at dksX7_make_1 4 rfl rfl)
theorem dX7_make_29 : decode cX7_make 29 = .ok (.getfield 491, 3) := dk_180 1 235 (dk_at dksX7_make_1 5 rfl rfl)
theorem dX7_make_32 : decode cX7_make 32 = .ok (.iastore, 1) := dk_79 (dk_at dksX7_make_1 8 rfl rfl)
theorem dX7_make_33 : decode cX7_make 33 = .ok (.iconst 0, 1) := dk_3 (dk_at dksX7_make_1 9 rfl rfl)
theorem dX7_make_34 : decode cX7_make 34 = .ok (.istore_n 3, 1) := dk_62 (dk_at dksX7_make_1 10 rfl rfl)
theorem dX7_make_35 : decode cX7_make 35 = .ok (.iload_n 3, 1) := dk_29 (dk_at dksX7_make_1 11 rfl rfl)
theorem dX7_make_36 : decode cX7_make 36 = .ok (.aload_n 0, 1) := dk_42 (dk_at dksX7_make_1 12 rfl rfl)
theorem dX7_make_37 : decode cX7_make 37 = .ok (.getfield 491, 3) := dk_180 1 235 (dk_at dksX7_make_1 13 rfl rfl)
theorem dX7_make_40 : decode cX7_make 40 = .ok (.if_icmp .ge 33, 3) := dk_162 0 33 (dk_at dksX7_make_1 16 rfl rfl)
theorem dX7_make_43 : decode cX7_make 43 = .ok (.aload_n 0, 1) := dk_42 (dk_at dksX7_make_1 19 rfl rfl)
theorem dX7_make_44 : decode cX7_make 44 = .ok (.getfield 20, 3) := dk_180 0 20 (dk_at dksX7_make_1 20 rfl rfl)
theorem dX7_make_47 : decode cX7_make 47 = .ok (.iload_n 3, 1) := dk_29 (dk_at dksX7_make_1 23 rfl rfl)
theorem dX7_make_48 : decode cX7_make 48 = .ok (.aload_n 0, 1) := dk_42 (dk_at dksX7_make_2 0 rfl rfl)
theorem dX7_make_49 : decode cX7_make 49 = .ok (.getfield 151, 3) := dk_180 0 151 (dk_at dksX7_make_2 1 rfl rfl)
theorem dX7_make_52 : decode cX7_make 52 = .ok (.iload_n 3, 1) := dk_29 (dk_at dksX7_make_2 4 rfl rfl)
theorem dX7_make_53 : decode cX7_make 53 = .ok (.iaload, 1) := dk_46 (dk_at dksX7_make_2 5 rfl rfl)
theorem dX7_make_54 : decode cX7_make 54 = .ok (.iastore, 1) := dk_79 (dk_at dksX7_make_2 6 rfl rfl)
theorem dX7_make_55 : decode cX7_make 55 = .ok (.aload_n 0, 1) := dk_42 (dk_at dksX7_make_2 7 rfl rfl)
theorem dX7_make_56 : decode cX7_make 56 = .ok (.getfield 23, 3) := dk_180 0 23 (dk_at dksX7_make_2 8 rfl rfl)
theorem dX7_make_59 : decode cX7_make 59 = .ok (.iload_n 3, 1) := dk_29 (dk_at dksX7_make_2 11 rfl rfl)
theorem dX7_make_60 : decode cX7_make 60 = .ok (.aload_n 0, 1) := dk_42 (dk_at dksX7_make_2 12 rfl rfl)
theorem dX7_make_61 : decode cX7_make 61 = .ok (.getfield 154, 3) := dk_180 0 154 (dk_at dksX7_make_2 13 rfl rfl)
theorem dX7_make_64 : decode cX7_make 64 = .ok (.iload_n 3, 1) := dk_29 (dk_at dksX7_make_2 16 rfl rfl)
theorem dX7_make_65 : decode cX7_make 65 = .ok (.iaload, 1) := dk_46 (dk_at dksX7_make_2 17 rfl rfl)
theorem dX7_make_66 : decode cX7_make 66 = .ok (.iastore, 1) := dk_79 (dk_at dksX7_make_2 18 rfl rfl)
theorem dX7_make_67 : decode cX7_make 67 = .ok (.iinc 3 1, 3) := dk_132 3 1 (dk_at dksX7_make_2 19 rfl rfl)
theorem dX7_make_70 : decode cX7_make 70 = .ok (.goto (-35), 3) := dk_167 255 221 (dk_at dksX7_make_3 0 rfl rfl)
theorem dX7_make_73 : decode cX7_make 73 = .ok (.aload_n 0, 1) := dk_42 (dk_at dksX7_make_3 3 rfl rfl)
theorem dX7_make_74 : decode cX7_make 74 = .ok (.getfield 491, 3) := dk_180 1 235 (dk_at dksX7_make_3 4 rfl rfl)
theorem dX7_make_77 : decode cX7_make 77 = .ok (.ireturn, 1) := dk_172 (dk_at dksX7_make_3 7 rfl rfl)
abbrev cX7_wanted : ByteArray := prog_14_method_89_code
def yX7_wanted : MethodName := ⟨RX7, "wanted", "(II)I"⟩
def dkwX7_wanted_4 : List UInt8 := [180, 2, 18, 172]
abbrev dktX7_wanted_4 : List UInt8 := dkwX7_wanted_4 ++ []
def dkwX7_wanted_3 : List UInt8 := [21, 4, 42, 180, 0, 172, 21, 4, 46, 79, 132, 4, 1, 167, 255, 227, 42, 4, 181, 2, 21, 42]
abbrev dktX7_wanted_3 : List UInt8 := dkwX7_wanted_3 ++ dktX7_wanted_4
def dkwX7_wanted_2 : List UInt8 := [16, 60, 181, 2, 18, 3, 54, 4, 21, 4, 16, 12, 42, 180, 2, 18, 104, 162, 0, 23, 42, 180, 0, 178]
abbrev dktX7_wanted_2 : List UInt8 := dkwX7_wanted_2 ++ dktX7_wanted_3
def dkwX7_wanted_1 : List UInt8 := [42, 27, 29, 182, 2, 15, 87, 42, 42, 180, 2, 6, 16, 60, 162, 0, 10, 42, 180, 2, 6, 167, 0, 5]
abbrev dktX7_wanted_1 : List UInt8 := dkwX7_wanted_1 ++ dktX7_wanted_2
def dkwX7_wanted_0 : List UInt8 := [42, 3, 181, 0, 190, 42, 28, 182, 2, 3, 62, 27, 184, 0, 214, 153, 0, 7, 29, 156, 0, 5, 2, 172]
abbrev dktX7_wanted_0 : List UInt8 := dkwX7_wanted_0 ++ dktX7_wanted_1
theorem dksX7_wanted_0 : cX7_wanted.data.toList.drop 0 = dktX7_wanted_0 := by decide +kernel
theorem dksX7_wanted_1 : cX7_wanted.data.toList.drop 24 = dktX7_wanted_1 := dk_seg dksX7_wanted_0 24 rfl rfl
theorem dksX7_wanted_2 : cX7_wanted.data.toList.drop 48 = dktX7_wanted_2 := dk_seg dksX7_wanted_1 24 rfl rfl
theorem dksX7_wanted_3 : cX7_wanted.data.toList.drop 72 = dktX7_wanted_3 := dk_seg dksX7_wanted_2 24 rfl rfl
theorem dksX7_wanted_4 : cX7_wanted.data.toList.drop 94 = dktX7_wanted_4 := dk_seg dksX7_wanted_3 22 rfl rfl
theorem dX7_wanted_0 : decode cX7_wanted 0 = .ok (.aload_n 0, 1) := dk_42 (dk_at dksX7_wanted_0 0 rfl rfl)
theorem dX7_wanted_1 : decode cX7_wanted 1 = .ok (.iconst 0, 1) := dk_3 (dk_at dksX7_wanted_0 1 rfl rfl)
theorem dX7_wanted_2 : decode cX7_wanted 2 = .ok (.putfield 190, 3) := dk_181 0 190 (dk_at dksX7_wanted_0 2 rfl rfl)
theorem dX7_wanted_5 : decode cX7_wanted 5 = .ok (.aload_n 0, 1) := dk_42 (dk_at dksX7_wanted_0 5 rfl rfl)
theorem dX7_wanted_6 : decode cX7_wanted 6 = .ok (.iload_n 2, 1) := dk_28 (dk_at dksX7_wanted_0 6 rfl rfl)
theorem dX7_wanted_7 : decode cX7_wanted 7 = .ok (.invokevirtual 515, 3) := dk_182 2 3 (dk_at dksX7_wanted_0 7 rfl rfl)
theorem dX7_wanted_10 : decode cX7_wanted 10 = .ok (.istore_n 3, 1) := dk_62 (dk_at dksX7_wanted_0 10 rfl rfl)
theorem dX7_wanted_11 : decode cX7_wanted 11 = .ok (.iload_n 1, 1) := dk_27 (dk_at dksX7_wanted_0 11 rfl rfl)
theorem dX7_wanted_12 : decode cX7_wanted 12 = .ok (.invokestatic 214, 3) := dk_184 0 214 (dk_at dksX7_wanted_0 12 rfl rfl)
theorem dX7_wanted_15 : decode cX7_wanted 15 = .ok (.ifCond .eq 7, 3) := dk_153 0 7 (dk_at dksX7_wanted_0 15 rfl rfl)
theorem dX7_wanted_18 : decode cX7_wanted 18 = .ok (.iload_n 3, 1) := dk_29 (dk_at dksX7_wanted_0 18 rfl rfl)
theorem dX7_wanted_19 : decode cX7_wanted 19 = .ok (.ifCond .ge 5, 3) := dk_156 0 5 (dk_at dksX7_wanted_0 19 rfl rfl)
theorem dX7_wanted_22 : decode cX7_wanted 22 = .ok (.iconst (-1), 1) := dk_2 (dk_at dksX7_wanted_0 22 rfl rfl)
theorem dX7_wanted_23 : decode cX7_wanted 23 = .ok (.ireturn, 1) := dk_172 (dk_at dksX7_wanted_0 23 rfl rfl)
theorem dX7_wanted_24 : decode cX7_wanted 24 = .ok (.aload_n 0, 1) := dk_42 (dk_at dksX7_wanted_1 0 rfl rfl)
theorem dX7_wanted_25 : decode cX7_wanted 25 = .ok (.iload_n 1, 1) := dk_27 (dk_at dksX7_wanted_1 1 rfl rfl)
theorem dX7_wanted_26 : decode cX7_wanted 26 = .ok (.iload_n 3, 1) := dk_29 (dk_at dksX7_wanted_1 2 rfl rfl)
theorem dX7_wanted_27 : decode cX7_wanted 27 = .ok (.invokevirtual 527, 3) := dk_182 2 15 (dk_at dksX7_wanted_1 3 rfl rfl)
theorem dX7_wanted_30 : decode cX7_wanted 30 = .ok (.pop, 1) := dk_87 (dk_at dksX7_wanted_1 6 rfl rfl)
theorem dX7_wanted_31 : decode cX7_wanted 31 = .ok (.aload_n 0, 1) := dk_42 (dk_at dksX7_wanted_1 7 rfl rfl)
theorem dX7_wanted_32 : decode cX7_wanted 32 = .ok (.aload_n 0, 1) := dk_42 (dk_at dksX7_wanted_1 8 rfl rfl)
theorem dX7_wanted_33 : decode cX7_wanted 33 = .ok (.getfield 518, 3) := dk_180 2 6 (dk_at dksX7_wanted_1 9 rfl rfl)
theorem dX7_wanted_36 : decode cX7_wanted 36 = .ok (.bipush 60, 2) := dk_16 60 (dk_at dksX7_wanted_1 12 rfl rfl)
theorem dX7_wanted_38 : decode cX7_wanted 38 = .ok (.if_icmp .ge 10, 3) := dk_162 0 10 (dk_at dksX7_wanted_1 14 rfl rfl)
theorem dX7_wanted_41 : decode cX7_wanted 41 = .ok (.aload_n 0, 1) := dk_42 (dk_at dksX7_wanted_1 17 rfl rfl)
theorem dX7_wanted_42 : decode cX7_wanted 42 = .ok (.getfield 518, 3) := dk_180 2 6 (dk_at dksX7_wanted_1 18 rfl rfl)
theorem dX7_wanted_45 : decode cX7_wanted 45 = .ok (.goto 5, 3) := dk_167 0 5 (dk_at dksX7_wanted_1 21 rfl rfl)
theorem dX7_wanted_48 : decode cX7_wanted 48 = .ok (.bipush 60, 2) := dk_16 60 (dk_at dksX7_wanted_2 0 rfl rfl)
theorem dX7_wanted_50 : decode cX7_wanted 50 = .ok (.putfield 530, 3) := dk_181 2 18 (dk_at dksX7_wanted_2 2 rfl rfl)
theorem dX7_wanted_53 : decode cX7_wanted 53 = .ok (.iconst 0, 1) := dk_3 (dk_at dksX7_wanted_2 5 rfl rfl)
theorem dX7_wanted_54 : decode cX7_wanted 54 = .ok (.istore 4, 2) := dk_54 4 (dk_at dksX7_wanted_2 6 rfl rfl)
theorem dX7_wanted_56 : decode cX7_wanted 56 = .ok (.iload 4, 2) := dk_21 4 (dk_at dksX7_wanted_2 8 rfl rfl)
theorem dX7_wanted_58 : decode cX7_wanted 58 = .ok (.bipush 12, 2) := dk_16 12 (dk_at dksX7_wanted_2 10 rfl rfl)
theorem dX7_wanted_60 : decode cX7_wanted 60 = .ok (.aload_n 0, 1) := dk_42 (dk_at dksX7_wanted_2 12 rfl rfl)
theorem dX7_wanted_61 : decode cX7_wanted 61 = .ok (.getfield 530, 3) := dk_180 2 18 (dk_at dksX7_wanted_2 13 rfl rfl)
theorem dX7_wanted_64 : decode cX7_wanted 64 = .ok (.imul, 1) := dk_104 (dk_at dksX7_wanted_2 16 rfl rfl)
theorem dX7_wanted_65 : decode cX7_wanted 65 = .ok (.if_icmp .ge 23, 3) := dk_162 0 23 (dk_at dksX7_wanted_2 17 rfl rfl)
theorem dX7_wanted_68 : decode cX7_wanted 68 = .ok (.aload_n 0, 1) := dk_42 (dk_at dksX7_wanted_2 20 rfl rfl)
theorem dX7_wanted_69 : decode cX7_wanted 69 = .ok (.getfield 178, 3) := dk_180 0 178 (dk_at dksX7_wanted_2 21 rfl rfl)
theorem dX7_wanted_72 : decode cX7_wanted 72 = .ok (.iload 4, 2) := dk_21 4 (dk_at dksX7_wanted_3 0 rfl rfl)
theorem dX7_wanted_74 : decode cX7_wanted 74 = .ok (.aload_n 0, 1) := dk_42 (dk_at dksX7_wanted_3 2 rfl rfl)
theorem dX7_wanted_75 : decode cX7_wanted 75 = .ok (.getfield 172, 3) := dk_180 0 172 (dk_at dksX7_wanted_3 3 rfl rfl)
theorem dX7_wanted_78 : decode cX7_wanted 78 = .ok (.iload 4, 2) := dk_21 4 (dk_at dksX7_wanted_3 6 rfl rfl)
theorem dX7_wanted_80 : decode cX7_wanted 80 = .ok (.iaload, 1) := dk_46 (dk_at dksX7_wanted_3 8 rfl rfl)
theorem dX7_wanted_81 : decode cX7_wanted 81 = .ok (.iastore, 1) := dk_79 (dk_at dksX7_wanted_3 9 rfl rfl)
theorem dX7_wanted_82 : decode cX7_wanted 82 = .ok (.iinc 4 1, 3) := dk_132 4 1 (dk_at dksX7_wanted_3 10 rfl rfl)
theorem dX7_wanted_85 : decode cX7_wanted 85 = .ok (.goto (-29), 3) := dk_167 255 227 (dk_at dksX7_wanted_3 13 rfl rfl)
theorem dX7_wanted_88 : decode cX7_wanted 88 = .ok (.aload_n 0, 1) := dk_42 (dk_at dksX7_wanted_3 16 rfl rfl)
theorem dX7_wanted_89 : decode cX7_wanted 89 = .ok (.iconst 1, 1) := dk_4 (dk_at dksX7_wanted_3 17 rfl rfl)
theorem dX7_wanted_90 : decode cX7_wanted 90 = .ok (.putfield 533, 3) := dk_181 2 21 (dk_at dksX7_wanted_3 18 rfl rfl)
theorem dX7_wanted_93 : decode cX7_wanted 93 = .ok (.aload_n 0, 1) := dk_42 (dk_at dksX7_wanted_3 21 rfl rfl)
theorem dX7_wanted_94 : decode cX7_wanted 94 = .ok (.getfield 530, 3) := dk_180 2 18 (dk_at dksX7_wanted_4 0 rfl rfl)
theorem dX7_wanted_97 : decode cX7_wanted 97 = .ok (.ireturn, 1) := dk_172 (dk_at dksX7_wanted_4 3 rfl rfl)
abbrev cX7_dues : ByteArray := prog_14_method_86_code
def yX7_dues : MethodName := ⟨RX7, "dues", "(II)I"⟩
def dkwX7_dues_10 : List UInt8 := [42, 180, 2, 6, 172]
abbrev dktX7_dues_10 : List UInt8 := dkwX7_dues_10 ++ []
def dkwX7_dues_9 : List UInt8 := [21, 5, 163, 0, 16, 42, 28, 21, 6, 182, 2, 12, 132, 6, 1, 167, 255, 239, 132, 3, 1, 167, 255, 55]
abbrev dktX7_dues_9 : List UInt8 := dkwX7_dues_9 ++ dktX7_dues_10
def dkwX7_dues_8 : List UInt8 := [167, 255, 173, 29, 4, 96, 42, 180, 0, 17, 27, 46, 160, 0, 6, 6, 54, 5, 4, 54, 6, 21, 6]
abbrev dktX7_dues_8 : List UInt8 := dkwX7_dues_8 ++ dktX7_dues_9
def dkwX7_dues_7 : List UInt8 := [21, 6, 46, 96, 4, 100, 46, 16, 16, 112, 159, 0, 9, 21, 6, 4, 96, 54, 5, 132, 6, 1]
abbrev dktX7_dues_7 : List UInt8 := dkwX7_dues_7 ++ dktX7_dues_8
def dkwX7_dues_6 : List UInt8 := [21, 6, 46, 96, 4, 100, 46, 16, 16, 112, 42, 180, 0, 13, 21, 4, 16, 20, 96, 42, 180, 0, 130]
abbrev dktX7_dues_6 : List UInt8 := dkwX7_dues_6 ++ dktX7_dues_7
def dkwX7_dues_5 : List UInt8 := [162, 0, 65, 42, 180, 0, 130, 21, 6, 46, 158, 0, 55, 42, 180, 0, 13, 21, 4, 42, 180, 0, 130]
abbrev dktX7_dues_5 : List UInt8 := dkwX7_dues_5 ++ dktX7_dues_6
def dkwX7_dues_4 : List UInt8 := [167, 255, 215, 3, 54, 5, 3, 54, 6, 21, 6, 6, 162, 0, 83, 29, 4, 96, 42, 180, 0, 17, 27, 46]
abbrev dktX7_dues_4 : List UInt8 := dkwX7_dues_4 ++ dktX7_dues_5
def dkwX7_dues_3 : List UInt8 := [180, 0, 175, 21, 5, 46, 42, 21, 5, 21, 4, 182, 2, 9, 96, 19, 1, 142, 112, 79, 132, 5, 1]
abbrev dktX7_dues_3 : List UInt8 := dkwX7_dues_3 ++ dktX7_dues_4
def dkwX7_dues_2 : List UInt8 := [54, 4, 3, 54, 5, 21, 5, 42, 180, 0, 133, 3, 46, 162, 0, 36, 42, 180, 0, 175, 21, 5, 42]
abbrev dktX7_dues_2 : List UInt8 := dkwX7_dues_2 ++ dktX7_dues_3
def dkwX7_dues_1 : List UInt8 := [181, 2, 6, 3, 62, 29, 42, 180, 0, 17, 27, 46, 162, 0, 197, 16, 20, 16, 40, 27, 104, 29, 96, 104]
abbrev dktX7_dues_1 : List UInt8 := dkwX7_dues_1 ++ dktX7_dues_2
def dkwX7_dues_0 : List UInt8 := [3, 62, 29, 16, 8, 162, 0, 16, 42, 180, 0, 175, 29, 3, 79, 132, 3, 1, 167, 255, 240, 42, 3]
abbrev dktX7_dues_0 : List UInt8 := dkwX7_dues_0 ++ dktX7_dues_1
theorem dksX7_dues_0 : cX7_dues.data.toList.drop 0 = dktX7_dues_0 := by decide +kernel
theorem dksX7_dues_1 : cX7_dues.data.toList.drop 23 = dktX7_dues_1 := dk_seg dksX7_dues_0 23 rfl rfl
theorem dksX7_dues_2 : cX7_dues.data.toList.drop 47 = dktX7_dues_2 := dk_seg dksX7_dues_1 24 rfl rfl
theorem dksX7_dues_3 : cX7_dues.data.toList.drop 70 = dktX7_dues_3 := dk_seg dksX7_dues_2 23 rfl rfl
theorem dksX7_dues_4 : cX7_dues.data.toList.drop 93 = dktX7_dues_4 := dk_seg dksX7_dues_3 23 rfl rfl
theorem dksX7_dues_5 : cX7_dues.data.toList.drop 117 = dktX7_dues_5 := dk_seg dksX7_dues_4 24 rfl rfl
theorem dksX7_dues_6 : cX7_dues.data.toList.drop 140 = dktX7_dues_6 := dk_seg dksX7_dues_5 23 rfl rfl
theorem dksX7_dues_7 : cX7_dues.data.toList.drop 163 = dktX7_dues_7 := dk_seg dksX7_dues_6 23 rfl rfl
theorem dksX7_dues_8 : cX7_dues.data.toList.drop 185 = dktX7_dues_8 := dk_seg dksX7_dues_7 22 rfl rfl
theorem dksX7_dues_9 : cX7_dues.data.toList.drop 208 = dktX7_dues_9 := dk_seg dksX7_dues_8 23 rfl rfl
theorem dksX7_dues_10 : cX7_dues.data.toList.drop 232 = dktX7_dues_10 := dk_seg dksX7_dues_9 24 rfl rfl
theorem dX7_dues_0 : decode cX7_dues 0 = .ok (.iconst 0, 1) := dk_3 (dk_at dksX7_dues_0 0 rfl rfl)
theorem dX7_dues_1 : decode cX7_dues 1 = .ok (.istore_n 3, 1) := dk_62 (dk_at dksX7_dues_0 1 rfl rfl)
theorem dX7_dues_2 : decode cX7_dues 2 = .ok (.iload_n 3, 1) := dk_29 (dk_at dksX7_dues_0 2 rfl rfl)
theorem dX7_dues_3 : decode cX7_dues 3 = .ok (.bipush 8, 2) := dk_16 8 (dk_at dksX7_dues_0 3 rfl rfl)
theorem dX7_dues_5 : decode cX7_dues 5 = .ok (.if_icmp .ge 16, 3) := dk_162 0 16 (dk_at dksX7_dues_0 5 rfl rfl)
theorem dX7_dues_8 : decode cX7_dues 8 = .ok (.aload_n 0, 1) := dk_42 (dk_at dksX7_dues_0 8 rfl rfl)
theorem dX7_dues_9 : decode cX7_dues 9 = .ok (.getfield 175, 3) := dk_180 0 175 (dk_at dksX7_dues_0 9 rfl rfl)
theorem dX7_dues_12 : decode cX7_dues 12 = .ok (.iload_n 3, 1) := dk_29 (dk_at dksX7_dues_0 12 rfl rfl)
theorem dX7_dues_13 : decode cX7_dues 13 = .ok (.iconst 0, 1) := dk_3 (dk_at dksX7_dues_0 13 rfl rfl)
theorem dX7_dues_14 : decode cX7_dues 14 = .ok (.iastore, 1) := dk_79 (dk_at dksX7_dues_0 14 rfl rfl)
theorem dX7_dues_15 : decode cX7_dues 15 = .ok (.iinc 3 1, 3) := dk_132 3 1 (dk_at dksX7_dues_0 15 rfl rfl)
theorem dX7_dues_18 : decode cX7_dues 18 = .ok (.goto (-16), 3) := dk_167 255 240 (dk_at dksX7_dues_0 18 rfl rfl)
theorem dX7_dues_21 : decode cX7_dues 21 = .ok (.aload_n 0, 1) := dk_42 (dk_at dksX7_dues_0 21 rfl rfl)
theorem dX7_dues_22 : decode cX7_dues 22 = .ok (.iconst 0, 1) := dk_3 (dk_at dksX7_dues_0 22 rfl rfl)
theorem dX7_dues_23 : decode cX7_dues 23 = .ok (.putfield 518, 3) := dk_181 2 6 (dk_at dksX7_dues_1 0 rfl rfl)
theorem dX7_dues_26 : decode cX7_dues 26 = .ok (.iconst 0, 1) := dk_3 (dk_at dksX7_dues_1 3 rfl rfl)
theorem dX7_dues_27 : decode cX7_dues 27 = .ok (.istore_n 3, 1) := dk_62 (dk_at dksX7_dues_1 4 rfl rfl)
theorem dX7_dues_28 : decode cX7_dues 28 = .ok (.iload_n 3, 1) := dk_29 (dk_at dksX7_dues_1 5 rfl rfl)
theorem dX7_dues_29 : decode cX7_dues 29 = .ok (.aload_n 0, 1) := dk_42 (dk_at dksX7_dues_1 6 rfl rfl)
theorem dX7_dues_30 : decode cX7_dues 30 = .ok (.getfield 17, 3) := dk_180 0 17 (dk_at dksX7_dues_1 7 rfl rfl)
theorem dX7_dues_33 : decode cX7_dues 33 = .ok (.iload_n 1, 1) := dk_27 (dk_at dksX7_dues_1 10 rfl rfl)
theorem dX7_dues_34 : decode cX7_dues 34 = .ok (.iaload, 1) := dk_46 (dk_at dksX7_dues_1 11 rfl rfl)
theorem dX7_dues_35 : decode cX7_dues 35 = .ok (.if_icmp .ge 197, 3) := dk_162 0 197 (dk_at dksX7_dues_1 12 rfl rfl)
theorem dX7_dues_38 : decode cX7_dues 38 = .ok (.bipush 20, 2) := dk_16 20 (dk_at dksX7_dues_1 15 rfl rfl)
theorem dX7_dues_40 : decode cX7_dues 40 = .ok (.bipush 40, 2) := dk_16 40 (dk_at dksX7_dues_1 17 rfl rfl)
theorem dX7_dues_42 : decode cX7_dues 42 = .ok (.iload_n 1, 1) := dk_27 (dk_at dksX7_dues_1 19 rfl rfl)
theorem dX7_dues_43 : decode cX7_dues 43 = .ok (.imul, 1) := dk_104 (dk_at dksX7_dues_1 20 rfl rfl)
theorem dX7_dues_44 : decode cX7_dues 44 = .ok (.iload_n 3, 1) := dk_29 (dk_at dksX7_dues_1 21 rfl rfl)
theorem dX7_dues_45 : decode cX7_dues 45 = .ok (.iadd, 1) := dk_96 (dk_at dksX7_dues_1 22 rfl rfl)
theorem dX7_dues_46 : decode cX7_dues 46 = .ok (.imul, 1) := dk_104 (dk_at dksX7_dues_1 23 rfl rfl)
theorem dX7_dues_47 : decode cX7_dues 47 = .ok (.istore 4, 2) := dk_54 4 (dk_at dksX7_dues_2 0 rfl rfl)
theorem dX7_dues_49 : decode cX7_dues 49 = .ok (.iconst 0, 1) := dk_3 (dk_at dksX7_dues_2 2 rfl rfl)
theorem dX7_dues_50 : decode cX7_dues 50 = .ok (.istore 5, 2) := dk_54 5 (dk_at dksX7_dues_2 3 rfl rfl)
theorem dX7_dues_52 : decode cX7_dues 52 = .ok (.iload 5, 2) := dk_21 5 (dk_at dksX7_dues_2 5 rfl rfl)
theorem dX7_dues_54 : decode cX7_dues 54 = .ok (.aload_n 0, 1) := dk_42 (dk_at dksX7_dues_2 7 rfl rfl)
theorem dX7_dues_55 : decode cX7_dues 55 = .ok (.getfield 133, 3) := dk_180 0 133 (dk_at dksX7_dues_2 8 rfl rfl)
theorem dX7_dues_58 : decode cX7_dues 58 = .ok (.iconst 0, 1) := dk_3 (dk_at dksX7_dues_2 11 rfl rfl)
theorem dX7_dues_59 : decode cX7_dues 59 = .ok (.iaload, 1) := dk_46 (dk_at dksX7_dues_2 12 rfl rfl)
theorem dX7_dues_60 : decode cX7_dues 60 = .ok (.if_icmp .ge 36, 3) := dk_162 0 36 (dk_at dksX7_dues_2 13 rfl rfl)
theorem dX7_dues_63 : decode cX7_dues 63 = .ok (.aload_n 0, 1) := dk_42 (dk_at dksX7_dues_2 16 rfl rfl)
theorem dX7_dues_64 : decode cX7_dues 64 = .ok (.getfield 175, 3) := dk_180 0 175 (dk_at dksX7_dues_2 17 rfl rfl)
theorem dX7_dues_67 : decode cX7_dues 67 = .ok (.iload 5, 2) := dk_21 5 (dk_at dksX7_dues_2 20 rfl rfl)
theorem dX7_dues_69 : decode cX7_dues 69 = .ok (.aload_n 0, 1) := dk_42 (dk_at dksX7_dues_2 22 rfl rfl)
theorem dX7_dues_70 : decode cX7_dues 70 = .ok (.getfield 175, 3) := dk_180 0 175 (dk_at dksX7_dues_3 0 rfl rfl)
theorem dX7_dues_73 : decode cX7_dues 73 = .ok (.iload 5, 2) := dk_21 5 (dk_at dksX7_dues_3 3 rfl rfl)
theorem dX7_dues_75 : decode cX7_dues 75 = .ok (.iaload, 1) := dk_46 (dk_at dksX7_dues_3 5 rfl rfl)
theorem dX7_dues_76 : decode cX7_dues 76 = .ok (.aload_n 0, 1) := dk_42 (dk_at dksX7_dues_3 6 rfl rfl)
theorem dX7_dues_77 : decode cX7_dues 77 = .ok (.iload 5, 2) := dk_21 5 (dk_at dksX7_dues_3 7 rfl rfl)
theorem dX7_dues_79 : decode cX7_dues 79 = .ok (.iload 4, 2) := dk_21 4 (dk_at dksX7_dues_3 9 rfl rfl)
theorem dX7_dues_81 : decode cX7_dues 81 = .ok (.invokevirtual 521, 3) := dk_182 2 9 (dk_at dksX7_dues_3 11 rfl rfl)
theorem dX7_dues_84 : decode cX7_dues 84 = .ok (.iadd, 1) := dk_96 (dk_at dksX7_dues_3 14 rfl rfl)
theorem dX7_dues_85 : decode cX7_dues 85 = .ok (.ldc_w 398, 3) := dk_19 1 142 (dk_at dksX7_dues_3 15 rfl rfl)
theorem dX7_dues_88 : decode cX7_dues 88 = .ok (.irem, 1) := dk_112 (dk_at dksX7_dues_3 18 rfl rfl)
theorem dX7_dues_89 : decode cX7_dues 89 = .ok (.iastore, 1) := dk_79 (dk_at dksX7_dues_3 19 rfl rfl)
theorem dX7_dues_90 : decode cX7_dues 90 = .ok (.iinc 5 1, 3) := dk_132 5 1 (dk_at dksX7_dues_3 20 rfl rfl)
theorem dX7_dues_93 : decode cX7_dues 93 = .ok (.goto (-41), 3) := dk_167 255 215 (dk_at dksX7_dues_4 0 rfl rfl)
theorem dX7_dues_96 : decode cX7_dues 96 = .ok (.iconst 0, 1) := dk_3 (dk_at dksX7_dues_4 3 rfl rfl)
theorem dX7_dues_97 : decode cX7_dues 97 = .ok (.istore 5, 2) := dk_54 5 (dk_at dksX7_dues_4 4 rfl rfl)
theorem dX7_dues_99 : decode cX7_dues 99 = .ok (.iconst 0, 1) := dk_3 (dk_at dksX7_dues_4 6 rfl rfl)
theorem dX7_dues_100 : decode cX7_dues 100 = .ok (.istore 6, 2) := dk_54 6 (dk_at dksX7_dues_4 7 rfl rfl)
theorem dX7_dues_102 : decode cX7_dues 102 = .ok (.iload 6, 2) := dk_21 6 (dk_at dksX7_dues_4 9 rfl rfl)
theorem dX7_dues_104 : decode cX7_dues 104 = .ok (.iconst 3, 1) := dk_6 (dk_at dksX7_dues_4 11 rfl rfl)
theorem dX7_dues_105 : decode cX7_dues 105 = .ok (.if_icmp .ge 83, 3) := dk_162 0 83 (dk_at dksX7_dues_4 12 rfl rfl)
theorem dX7_dues_108 : decode cX7_dues 108 = .ok (.iload_n 3, 1) := dk_29 (dk_at dksX7_dues_4 15 rfl rfl)
theorem dX7_dues_109 : decode cX7_dues 109 = .ok (.iconst 1, 1) := dk_4 (dk_at dksX7_dues_4 16 rfl rfl)
theorem dX7_dues_110 : decode cX7_dues 110 = .ok (.iadd, 1) := dk_96 (dk_at dksX7_dues_4 17 rfl rfl)
theorem dX7_dues_111 : decode cX7_dues 111 = .ok (.aload_n 0, 1) := dk_42 (dk_at dksX7_dues_4 18 rfl rfl)
theorem dX7_dues_112 : decode cX7_dues 112 = .ok (.getfield 17, 3) := dk_180 0 17 (dk_at dksX7_dues_4 19 rfl rfl)
theorem dX7_dues_115 : decode cX7_dues 115 = .ok (.iload_n 1, 1) := dk_27 (dk_at dksX7_dues_4 22 rfl rfl)
theorem dX7_dues_116 : decode cX7_dues 116 = .ok (.iaload, 1) := dk_46 (dk_at dksX7_dues_4 23 rfl rfl)
theorem dX7_dues_117 : decode cX7_dues 117 = .ok (.if_icmp .ge 65, 3) := dk_162 0 65 (dk_at dksX7_dues_5 0 rfl rfl)
theorem dX7_dues_120 : decode cX7_dues 120 = .ok (.aload_n 0, 1) := dk_42 (dk_at dksX7_dues_5 3 rfl rfl)
theorem dX7_dues_121 : decode cX7_dues 121 = .ok (.getfield 130, 3) := dk_180 0 130 (dk_at dksX7_dues_5 4 rfl rfl)
theorem dX7_dues_124 : decode cX7_dues 124 = .ok (.iload 6, 2) := dk_21 6 (dk_at dksX7_dues_5 7 rfl rfl)
theorem dX7_dues_126 : decode cX7_dues 126 = .ok (.iaload, 1) := dk_46 (dk_at dksX7_dues_5 9 rfl rfl)
theorem dX7_dues_127 : decode cX7_dues 127 = .ok (.ifCond .le 55, 3) := dk_158 0 55 (dk_at dksX7_dues_5 10 rfl rfl)
theorem dX7_dues_130 : decode cX7_dues 130 = .ok (.aload_n 0, 1) := dk_42 (dk_at dksX7_dues_5 13 rfl rfl)
theorem dX7_dues_131 : decode cX7_dues 131 = .ok (.getfield 13, 3) := dk_180 0 13 (dk_at dksX7_dues_5 14 rfl rfl)
theorem dX7_dues_134 : decode cX7_dues 134 = .ok (.iload 4, 2) := dk_21 4 (dk_at dksX7_dues_5 17 rfl rfl)
theorem dX7_dues_136 : decode cX7_dues 136 = .ok (.aload_n 0, 1) := dk_42 (dk_at dksX7_dues_5 19 rfl rfl)
theorem dX7_dues_137 : decode cX7_dues 137 = .ok (.getfield 130, 3) := dk_180 0 130 (dk_at dksX7_dues_5 20 rfl rfl)
theorem dX7_dues_140 : decode cX7_dues 140 = .ok (.iload 6, 2) := dk_21 6 (dk_at dksX7_dues_6 0 rfl rfl)
theorem dX7_dues_142 : decode cX7_dues 142 = .ok (.iaload, 1) := dk_46 (dk_at dksX7_dues_6 2 rfl rfl)
theorem dX7_dues_143 : decode cX7_dues 143 = .ok (.iadd, 1) := dk_96 (dk_at dksX7_dues_6 3 rfl rfl)
theorem dX7_dues_144 : decode cX7_dues 144 = .ok (.iconst 1, 1) := dk_4 (dk_at dksX7_dues_6 4 rfl rfl)
theorem dX7_dues_145 : decode cX7_dues 145 = .ok (.isub, 1) := dk_100 (dk_at dksX7_dues_6 5 rfl rfl)
theorem dX7_dues_146 : decode cX7_dues 146 = .ok (.iaload, 1) := dk_46 (dk_at dksX7_dues_6 6 rfl rfl)
theorem dX7_dues_147 : decode cX7_dues 147 = .ok (.bipush 16, 2) := dk_16 16 (dk_at dksX7_dues_6 7 rfl rfl)
theorem dX7_dues_149 : decode cX7_dues 149 = .ok (.irem, 1) := dk_112 (dk_at dksX7_dues_6 9 rfl rfl)
theorem dX7_dues_150 : decode cX7_dues 150 = .ok (.aload_n 0, 1) := dk_42 (dk_at dksX7_dues_6 10 rfl rfl)
theorem dX7_dues_151 : decode cX7_dues 151 = .ok (.getfield 13, 3) := dk_180 0 13 (dk_at dksX7_dues_6 11 rfl rfl)
theorem dX7_dues_154 : decode cX7_dues 154 = .ok (.iload 4, 2) := dk_21 4 (dk_at dksX7_dues_6 14 rfl rfl)
theorem dX7_dues_156 : decode cX7_dues 156 = .ok (.bipush 20, 2) := dk_16 20 (dk_at dksX7_dues_6 16 rfl rfl)
theorem dX7_dues_158 : decode cX7_dues 158 = .ok (.iadd, 1) := dk_96 (dk_at dksX7_dues_6 18 rfl rfl)
theorem dX7_dues_159 : decode cX7_dues 159 = .ok (.aload_n 0, 1) := dk_42 (dk_at dksX7_dues_6 19 rfl rfl)
theorem dX7_dues_160 : decode cX7_dues 160 = .ok (.getfield 130, 3) := dk_180 0 130 (dk_at dksX7_dues_6 20 rfl rfl)
theorem dX7_dues_163 : decode cX7_dues 163 = .ok (.iload 6, 2) := dk_21 6 (dk_at dksX7_dues_7 0 rfl rfl)
theorem dX7_dues_165 : decode cX7_dues 165 = .ok (.iaload, 1) := dk_46 (dk_at dksX7_dues_7 2 rfl rfl)
theorem dX7_dues_166 : decode cX7_dues 166 = .ok (.iadd, 1) := dk_96 (dk_at dksX7_dues_7 3 rfl rfl)
theorem dX7_dues_167 : decode cX7_dues 167 = .ok (.iconst 1, 1) := dk_4 (dk_at dksX7_dues_7 4 rfl rfl)
theorem dX7_dues_168 : decode cX7_dues 168 = .ok (.isub, 1) := dk_100 (dk_at dksX7_dues_7 5 rfl rfl)
theorem dX7_dues_169 : decode cX7_dues 169 = .ok (.iaload, 1) := dk_46 (dk_at dksX7_dues_7 6 rfl rfl)
theorem dX7_dues_170 : decode cX7_dues 170 = .ok (.bipush 16, 2) := dk_16 16 (dk_at dksX7_dues_7 7 rfl rfl)
theorem dX7_dues_172 : decode cX7_dues 172 = .ok (.irem, 1) := dk_112 (dk_at dksX7_dues_7 9 rfl rfl)
theorem dX7_dues_173 : decode cX7_dues 173 = .ok (.if_icmp .eq 9, 3) := dk_159 0 9 (dk_at dksX7_dues_7 10 rfl rfl)
theorem dX7_dues_176 : decode cX7_dues 176 = .ok (.iload 6, 2) := dk_21 6 (dk_at dksX7_dues_7 13 rfl rfl)
theorem dX7_dues_178 : decode cX7_dues 178 = .ok (.iconst 1, 1) := dk_4 (dk_at dksX7_dues_7 15 rfl rfl)
theorem dX7_dues_179 : decode cX7_dues 179 = .ok (.iadd, 1) := dk_96 (dk_at dksX7_dues_7 16 rfl rfl)
theorem dX7_dues_180 : decode cX7_dues 180 = .ok (.istore 5, 2) := dk_54 5 (dk_at dksX7_dues_7 17 rfl rfl)
theorem dX7_dues_182 : decode cX7_dues 182 = .ok (.iinc 6 1, 3) := dk_132 6 1 (dk_at dksX7_dues_7 19 rfl rfl)
theorem dX7_dues_185 : decode cX7_dues 185 = .ok (.goto (-83), 3) := dk_167 255 173 (dk_at dksX7_dues_8 0 rfl rfl)
theorem dX7_dues_188 : decode cX7_dues 188 = .ok (.iload_n 3, 1) := dk_29 (dk_at dksX7_dues_8 3 rfl rfl)
theorem dX7_dues_189 : decode cX7_dues 189 = .ok (.iconst 1, 1) := dk_4 (dk_at dksX7_dues_8 4 rfl rfl)
theorem dX7_dues_190 : decode cX7_dues 190 = .ok (.iadd, 1) := dk_96 (dk_at dksX7_dues_8 5 rfl rfl)
theorem dX7_dues_191 : decode cX7_dues 191 = .ok (.aload_n 0, 1) := dk_42 (dk_at dksX7_dues_8 6 rfl rfl)
theorem dX7_dues_192 : decode cX7_dues 192 = .ok (.getfield 17, 3) := dk_180 0 17 (dk_at dksX7_dues_8 7 rfl rfl)
theorem dX7_dues_195 : decode cX7_dues 195 = .ok (.iload_n 1, 1) := dk_27 (dk_at dksX7_dues_8 10 rfl rfl)
theorem dX7_dues_196 : decode cX7_dues 196 = .ok (.iaload, 1) := dk_46 (dk_at dksX7_dues_8 11 rfl rfl)
theorem dX7_dues_197 : decode cX7_dues 197 = .ok (.if_icmp .ne 6, 3) := dk_160 0 6 (dk_at dksX7_dues_8 12 rfl rfl)
theorem dX7_dues_200 : decode cX7_dues 200 = .ok (.iconst 3, 1) := dk_6 (dk_at dksX7_dues_8 15 rfl rfl)
theorem dX7_dues_201 : decode cX7_dues 201 = .ok (.istore 5, 2) := dk_54 5 (dk_at dksX7_dues_8 16 rfl rfl)
theorem dX7_dues_203 : decode cX7_dues 203 = .ok (.iconst 1, 1) := dk_4 (dk_at dksX7_dues_8 18 rfl rfl)
theorem dX7_dues_204 : decode cX7_dues 204 = .ok (.istore 6, 2) := dk_54 6 (dk_at dksX7_dues_8 19 rfl rfl)
theorem dX7_dues_206 : decode cX7_dues 206 = .ok (.iload 6, 2) := dk_21 6 (dk_at dksX7_dues_8 21 rfl rfl)
theorem dX7_dues_208 : decode cX7_dues 208 = .ok (.iload 5, 2) := dk_21 5 (dk_at dksX7_dues_9 0 rfl rfl)
theorem dX7_dues_210 : decode cX7_dues 210 = .ok (.if_icmp .gt 16, 3) := dk_163 0 16 (dk_at dksX7_dues_9 2 rfl rfl)
theorem dX7_dues_213 : decode cX7_dues 213 = .ok (.aload_n 0, 1) := dk_42 (dk_at dksX7_dues_9 5 rfl rfl)
theorem dX7_dues_214 : decode cX7_dues 214 = .ok (.iload_n 2, 1) := dk_28 (dk_at dksX7_dues_9 6 rfl rfl)
theorem dX7_dues_215 : decode cX7_dues 215 = .ok (.iload 6, 2) := dk_21 6 (dk_at dksX7_dues_9 7 rfl rfl)
theorem dX7_dues_217 : decode cX7_dues 217 = .ok (.invokevirtual 524, 3) := dk_182 2 12 (dk_at dksX7_dues_9 9 rfl rfl)
theorem dX7_dues_220 : decode cX7_dues 220 = .ok (.iinc 6 1, 3) := dk_132 6 1 (dk_at dksX7_dues_9 12 rfl rfl)
theorem dX7_dues_223 : decode cX7_dues 223 = .ok (.goto (-17), 3) := dk_167 255 239 (dk_at dksX7_dues_9 15 rfl rfl)
theorem dX7_dues_226 : decode cX7_dues 226 = .ok (.iinc 3 1, 3) := dk_132 3 1 (dk_at dksX7_dues_9 18 rfl rfl)
theorem dX7_dues_229 : decode cX7_dues 229 = .ok (.goto (-201), 3) := dk_167 255 55 (dk_at dksX7_dues_9 21 rfl rfl)
theorem dX7_dues_232 : decode cX7_dues 232 = .ok (.aload_n 0, 1) := dk_42 (dk_at dksX7_dues_10 0 rfl rfl)
theorem dX7_dues_233 : decode cX7_dues 233 = .ok (.getfield 518, 3) := dk_180 2 6 (dk_at dksX7_dues_10 1 rfl rfl)
theorem dX7_dues_236 : decode cX7_dues 236 = .ok (.ireturn, 1) := dk_172 (dk_at dksX7_dues_10 4 rfl rfl)
abbrev cX7_added : ByteArray := prog_14_method_87_code
def yX7_added : MethodName := ⟨RX7, "added", "(II)I"⟩
def dkwX7_added_5 : List UInt8 := [29, 172]
abbrev dktX7_added_5 : List UInt8 := dkwX7_added_5 ++ []
def dkwX7_added_4 : List UInt8 := [180, 0, 13, 28, 42, 180, 0, 145, 27, 46, 96, 4, 100, 46, 16, 15, 164, 0, 8, 29, 116, 167, 0, 4]
abbrev dktX7_added_4 : List UInt8 := dkwX7_added_4 ++ dktX7_added_5
def dkwX7_added_3 : List UInt8 := [167, 0, 5, 21, 5, 96, 62, 132, 4, 1, 167, 255, 202, 42, 180, 0, 145, 27, 46, 158, 0, 28, 42]
abbrev dktX7_added_3 : List UInt8 := dkwX7_added_3 ++ dktX7_added_4
def dkwX7_added_2 : List UInt8 := [21, 4, 96, 4, 100, 46, 16, 16, 112, 54, 5, 16, 10, 29, 104, 21, 5, 16, 15, 160, 0, 7, 3]
abbrev dktX7_added_2 : List UInt8 := dkwX7_added_2 ++ dktX7_added_3
def dkwX7_added_1 : List UInt8 := [54, 4, 21, 4, 42, 180, 0, 127, 42, 180, 0, 136, 27, 46, 46, 163, 0, 44, 42, 180, 0, 13, 28]
abbrev dktX7_added_1 : List UInt8 := dkwX7_added_1 ++ dktX7_added_2
def dkwX7_added_0 : List UInt8 := [42, 180, 0, 136, 27, 46, 156, 0, 5, 4, 172, 3, 62, 42, 180, 0, 124, 42, 180, 0, 136, 27, 46, 46]
abbrev dktX7_added_0 : List UInt8 := dkwX7_added_0 ++ dktX7_added_1
theorem dksX7_added_0 : cX7_added.data.toList.drop 0 = dktX7_added_0 := by decide +kernel
theorem dksX7_added_1 : cX7_added.data.toList.drop 24 = dktX7_added_1 := dk_seg dksX7_added_0 24 rfl rfl
theorem dksX7_added_2 : cX7_added.data.toList.drop 47 = dktX7_added_2 := dk_seg dksX7_added_1 23 rfl rfl
theorem dksX7_added_3 : cX7_added.data.toList.drop 70 = dktX7_added_3 := dk_seg dksX7_added_2 23 rfl rfl
theorem dksX7_added_4 : cX7_added.data.toList.drop 93 = dktX7_added_4 := dk_seg dksX7_added_3 23 rfl rfl
theorem dksX7_added_5 : cX7_added.data.toList.drop 117 = dktX7_added_5 := dk_seg dksX7_added_4 24 rfl rfl
theorem dX7_added_0 : decode cX7_added 0 = .ok (.aload_n 0, 1) := dk_42 (dk_at dksX7_added_0 0 rfl rfl)
theorem dX7_added_1 : decode cX7_added 1 = .ok (.getfield 136, 3) := dk_180 0 136 (dk_at dksX7_added_0 1 rfl rfl)
theorem dX7_added_4 : decode cX7_added 4 = .ok (.iload_n 1, 1) := dk_27 (dk_at dksX7_added_0 4 rfl rfl)
theorem dX7_added_5 : decode cX7_added 5 = .ok (.iaload, 1) := dk_46 (dk_at dksX7_added_0 5 rfl rfl)
theorem dX7_added_6 : decode cX7_added 6 = .ok (.ifCond .ge 5, 3) := dk_156 0 5 (dk_at dksX7_added_0 6 rfl rfl)
theorem dX7_added_9 : decode cX7_added 9 = .ok (.iconst 1, 1) := dk_4 (dk_at dksX7_added_0 9 rfl rfl)
theorem dX7_added_10 : decode cX7_added 10 = .ok (.ireturn, 1) := dk_172 (dk_at dksX7_added_0 10 rfl rfl)
theorem dX7_added_11 : decode cX7_added 11 = .ok (.iconst 0, 1) := dk_3 (dk_at dksX7_added_0 11 rfl rfl)
theorem dX7_added_12 : decode cX7_added 12 = .ok (.istore_n 3, 1) := dk_62 (dk_at dksX7_added_0 12 rfl rfl)
theorem dX7_added_13 : decode cX7_added 13 = .ok (.aload_n 0, 1) := dk_42 (dk_at dksX7_added_0 13 rfl rfl)
theorem dX7_added_14 : decode cX7_added 14 = .ok (.getfield 124, 3) := dk_180 0 124 (dk_at dksX7_added_0 14 rfl rfl)
theorem dX7_added_17 : decode cX7_added 17 = .ok (.aload_n 0, 1) := dk_42 (dk_at dksX7_added_0 17 rfl rfl)
theorem dX7_added_18 : decode cX7_added 18 = .ok (.getfield 136, 3) := dk_180 0 136 (dk_at dksX7_added_0 18 rfl rfl)
theorem dX7_added_21 : decode cX7_added 21 = .ok (.iload_n 1, 1) := dk_27 (dk_at dksX7_added_0 21 rfl rfl)
theorem dX7_added_22 : decode cX7_added 22 = .ok (.iaload, 1) := dk_46 (dk_at dksX7_added_0 22 rfl rfl)
theorem dX7_added_23 : decode cX7_added 23 = .ok (.iaload, 1) := dk_46 (dk_at dksX7_added_0 23 rfl rfl)
theorem dX7_added_24 : decode cX7_added 24 = .ok (.istore 4, 2) := dk_54 4 (dk_at dksX7_added_1 0 rfl rfl)
theorem dX7_added_26 : decode cX7_added 26 = .ok (.iload 4, 2) := dk_21 4 (dk_at dksX7_added_1 2 rfl rfl)
theorem dX7_added_28 : decode cX7_added 28 = .ok (.aload_n 0, 1) := dk_42 (dk_at dksX7_added_1 4 rfl rfl)
theorem dX7_added_29 : decode cX7_added 29 = .ok (.getfield 127, 3) := dk_180 0 127 (dk_at dksX7_added_1 5 rfl rfl)
theorem dX7_added_32 : decode cX7_added 32 = .ok (.aload_n 0, 1) := dk_42 (dk_at dksX7_added_1 8 rfl rfl)
theorem dX7_added_33 : decode cX7_added 33 = .ok (.getfield 136, 3) := dk_180 0 136 (dk_at dksX7_added_1 9 rfl rfl)
theorem dX7_added_36 : decode cX7_added 36 = .ok (.iload_n 1, 1) := dk_27 (dk_at dksX7_added_1 12 rfl rfl)
theorem dX7_added_37 : decode cX7_added 37 = .ok (.iaload, 1) := dk_46 (dk_at dksX7_added_1 13 rfl rfl)
theorem dX7_added_38 : decode cX7_added 38 = .ok (.iaload, 1) := dk_46 (dk_at dksX7_added_1 14 rfl rfl)
theorem dX7_added_39 : decode cX7_added 39 = .ok (.if_icmp .gt 44, 3) := dk_163 0 44 (dk_at dksX7_added_1 15 rfl rfl)
theorem dX7_added_42 : decode cX7_added 42 = .ok (.aload_n 0, 1) := dk_42 (dk_at dksX7_added_1 18 rfl rfl)
theorem dX7_added_43 : decode cX7_added 43 = .ok (.getfield 13, 3) := dk_180 0 13 (dk_at dksX7_added_1 19 rfl rfl)
theorem dX7_added_46 : decode cX7_added 46 = .ok (.iload_n 2, 1) := dk_28 (dk_at dksX7_added_1 22 rfl rfl)
theorem dX7_added_47 : decode cX7_added 47 = .ok (.iload 4, 2) := dk_21 4 (dk_at dksX7_added_2 0 rfl rfl)
theorem dX7_added_49 : decode cX7_added 49 = .ok (.iadd, 1) := dk_96 (dk_at dksX7_added_2 2 rfl rfl)
theorem dX7_added_50 : decode cX7_added 50 = .ok (.iconst 1, 1) := dk_4 (dk_at dksX7_added_2 3 rfl rfl)
theorem dX7_added_51 : decode cX7_added 51 = .ok (.isub, 1) := dk_100 (dk_at dksX7_added_2 4 rfl rfl)
theorem dX7_added_52 : decode cX7_added 52 = .ok (.iaload, 1) := dk_46 (dk_at dksX7_added_2 5 rfl rfl)
theorem dX7_added_53 : decode cX7_added 53 = .ok (.bipush 16, 2) := dk_16 16 (dk_at dksX7_added_2 6 rfl rfl)
theorem dX7_added_55 : decode cX7_added 55 = .ok (.irem, 1) := dk_112 (dk_at dksX7_added_2 8 rfl rfl)
theorem dX7_added_56 : decode cX7_added 56 = .ok (.istore 5, 2) := dk_54 5 (dk_at dksX7_added_2 9 rfl rfl)
theorem dX7_added_58 : decode cX7_added 58 = .ok (.bipush 10, 2) := dk_16 10 (dk_at dksX7_added_2 11 rfl rfl)
theorem dX7_added_60 : decode cX7_added 60 = .ok (.iload_n 3, 1) := dk_29 (dk_at dksX7_added_2 13 rfl rfl)
theorem dX7_added_61 : decode cX7_added 61 = .ok (.imul, 1) := dk_104 (dk_at dksX7_added_2 14 rfl rfl)
theorem dX7_added_62 : decode cX7_added 62 = .ok (.iload 5, 2) := dk_21 5 (dk_at dksX7_added_2 15 rfl rfl)
theorem dX7_added_64 : decode cX7_added 64 = .ok (.bipush 15, 2) := dk_16 15 (dk_at dksX7_added_2 17 rfl rfl)
theorem dX7_added_66 : decode cX7_added 66 = .ok (.if_icmp .ne 7, 3) := dk_160 0 7 (dk_at dksX7_added_2 19 rfl rfl)
theorem dX7_added_69 : decode cX7_added 69 = .ok (.iconst 0, 1) := dk_3 (dk_at dksX7_added_2 22 rfl rfl)
theorem dX7_added_70 : decode cX7_added 70 = .ok (.goto 5, 3) := dk_167 0 5 (dk_at dksX7_added_3 0 rfl rfl)
theorem dX7_added_73 : decode cX7_added 73 = .ok (.iload 5, 2) := dk_21 5 (dk_at dksX7_added_3 3 rfl rfl)
theorem dX7_added_75 : decode cX7_added 75 = .ok (.iadd, 1) := dk_96 (dk_at dksX7_added_3 5 rfl rfl)
theorem dX7_added_76 : decode cX7_added 76 = .ok (.istore_n 3, 1) := dk_62 (dk_at dksX7_added_3 6 rfl rfl)
theorem dX7_added_77 : decode cX7_added 77 = .ok (.iinc 4 1, 3) := dk_132 4 1 (dk_at dksX7_added_3 7 rfl rfl)
theorem dX7_added_80 : decode cX7_added 80 = .ok (.goto (-54), 3) := dk_167 255 202 (dk_at dksX7_added_3 10 rfl rfl)
theorem dX7_added_83 : decode cX7_added 83 = .ok (.aload_n 0, 1) := dk_42 (dk_at dksX7_added_3 13 rfl rfl)
theorem dX7_added_84 : decode cX7_added 84 = .ok (.getfield 145, 3) := dk_180 0 145 (dk_at dksX7_added_3 14 rfl rfl)
theorem dX7_added_87 : decode cX7_added 87 = .ok (.iload_n 1, 1) := dk_27 (dk_at dksX7_added_3 17 rfl rfl)
theorem dX7_added_88 : decode cX7_added 88 = .ok (.iaload, 1) := dk_46 (dk_at dksX7_added_3 18 rfl rfl)
theorem dX7_added_89 : decode cX7_added 89 = .ok (.ifCond .le 28, 3) := dk_158 0 28 (dk_at dksX7_added_3 19 rfl rfl)
theorem dX7_added_92 : decode cX7_added 92 = .ok (.aload_n 0, 1) := dk_42 (dk_at dksX7_added_3 22 rfl rfl)
theorem dX7_added_93 : decode cX7_added 93 = .ok (.getfield 13, 3) := dk_180 0 13 (dk_at dksX7_added_4 0 rfl rfl)
theorem dX7_added_96 : decode cX7_added 96 = .ok (.iload_n 2, 1) := dk_28 (dk_at dksX7_added_4 3 rfl rfl)
theorem dX7_added_97 : decode cX7_added 97 = .ok (.aload_n 0, 1) := dk_42 (dk_at dksX7_added_4 4 rfl rfl)
theorem dX7_added_98 : decode cX7_added 98 = .ok (.getfield 145, 3) := dk_180 0 145 (dk_at dksX7_added_4 5 rfl rfl)
theorem dX7_added_101 : decode cX7_added 101 = .ok (.iload_n 1, 1) := dk_27 (dk_at dksX7_added_4 8 rfl rfl)
theorem dX7_added_102 : decode cX7_added 102 = .ok (.iaload, 1) := dk_46 (dk_at dksX7_added_4 9 rfl rfl)
theorem dX7_added_103 : decode cX7_added 103 = .ok (.iadd, 1) := dk_96 (dk_at dksX7_added_4 10 rfl rfl)
theorem dX7_added_104 : decode cX7_added 104 = .ok (.iconst 1, 1) := dk_4 (dk_at dksX7_added_4 11 rfl rfl)
theorem dX7_added_105 : decode cX7_added 105 = .ok (.isub, 1) := dk_100 (dk_at dksX7_added_4 12 rfl rfl)
theorem dX7_added_106 : decode cX7_added 106 = .ok (.iaload, 1) := dk_46 (dk_at dksX7_added_4 13 rfl rfl)
theorem dX7_added_107 : decode cX7_added 107 = .ok (.bipush 15, 2) := dk_16 15 (dk_at dksX7_added_4 14 rfl rfl)
theorem dX7_added_109 : decode cX7_added 109 = .ok (.if_icmp .le 8, 3) := dk_164 0 8 (dk_at dksX7_added_4 16 rfl rfl)
theorem dX7_added_112 : decode cX7_added 112 = .ok (.iload_n 3, 1) := dk_29 (dk_at dksX7_added_4 19 rfl rfl)
theorem dX7_added_113 : decode cX7_added 113 = .ok (.ineg, 1) := dk_116 (dk_at dksX7_added_4 20 rfl rfl)
theorem dX7_added_114 : decode cX7_added 114 = .ok (.goto 4, 3) := dk_167 0 4 (dk_at dksX7_added_4 21 rfl rfl)
theorem dX7_added_117 : decode cX7_added 117 = .ok (.iload_n 3, 1) := dk_29 (dk_at dksX7_added_5 0 rfl rfl)
theorem dX7_added_118 : decode cX7_added 118 = .ok (.ireturn, 1) := dk_172 (dk_at dksX7_added_5 1 rfl rfl)
abbrev cX7_dueLine : ByteArray := prog_14_method_88_code
def yX7_dueLine : MethodName := ⟨RX7, "dueLine", "(II)V"⟩
def dkwX7_dueLine_10 : List UInt8 := [42, 89, 180, 2, 6, 4, 96, 181, 2, 6, 177]
abbrev dktX7_dueLine_10 : List UInt8 := dkwX7_dueLine_10 ++ []
def dkwX7_dueLine_9 : List UInt8 := [154, 0, 8, 21, 6, 153, 0, 7, 4, 167, 0, 4, 3, 62, 132, 5, 1, 167, 255, 76, 29, 153, 0, 13]
abbrev dktX7_dueLine_9 : List UInt8 := dkwX7_dueLine_9 ++ dktX7_dueLine_10
def dkwX7_dueLine_8 : List UInt8 := [16, 10, 108, 54, 7, 132, 8, 255, 167, 255, 204, 21, 4, 42, 180, 0, 139, 21, 5, 46, 96, 54, 4, 29]
abbrev dktX7_dueLine_8 : List UInt8 := dkwX7_dueLine_8 ++ dktX7_dueLine_9
def dkwX7_dueLine_7 : List UInt8 := [180, 0, 172, 16, 12, 42, 180, 2, 6, 104, 21, 4, 96, 21, 8, 96, 21, 7, 16, 10, 112, 79, 21, 7]
abbrev dktX7_dueLine_7 : List UInt8 := dkwX7_dueLine_7 ++ dktX7_dueLine_8
def dkwX7_dueLine_6 : List UInt8 := [54, 8, 21, 8, 155, 0, 53, 21, 6, 153, 0, 35, 42, 180, 2, 6, 16, 60, 162, 0, 26, 42]
abbrev dktX7_dueLine_6 : List UInt8 := dkwX7_dueLine_6 ++ dktX7_dueLine_7
def dkwX7_dueLine_5 : List UInt8 := [3, 79, 27, 21, 5, 122, 4, 126, 154, 0, 6, 167, 0, 96, 42, 180, 0, 139, 21, 5, 46, 4, 100]
abbrev dktX7_dueLine_5 : List UInt8 := dkwX7_dueLine_5 ++ dktX7_dueLine_6
def dkwX7_dueLine_4 : List UInt8 := [116, 167, 0, 10, 42, 180, 0, 175, 21, 5, 46, 54, 7, 21, 6, 153, 0, 11, 42, 180, 0, 175, 21, 5]
abbrev dktX7_dueLine_4 : List UInt8 := dkwX7_dueLine_4 ++ dktX7_dueLine_5
def dkwX7_dueLine_3 : List UInt8 := [4, 167, 0, 4, 3, 54, 6, 42, 180, 0, 175, 21, 5, 46, 156, 0, 14, 42, 180, 0, 175, 21, 5, 46]
abbrev dktX7_dueLine_3 : List UInt8 := dkwX7_dueLine_3 ++ dktX7_dueLine_4
def dkwX7_dueLine_2 : List UInt8 := [54, 5, 21, 5, 42, 180, 0, 133, 3, 46, 162, 0, 175, 42, 180, 0, 142, 21, 5, 46, 28, 160, 0, 7]
abbrev dktX7_dueLine_2 : List UInt8 := dkwX7_dueLine_2 ++ dktX7_dueLine_3
def dkwX7_dueLine_1 : List UInt8 := [42, 180, 0, 172, 16, 12, 42, 180, 2, 6, 104, 21, 5, 96, 16, 15, 79, 132, 5, 1, 167, 255, 220, 3]
abbrev dktX7_dueLine_1 : List UInt8 := dkwX7_dueLine_1 ++ dktX7_dueLine_2
def dkwX7_dueLine_0 : List UInt8 := [3, 62, 3, 54, 4, 3, 54, 5, 21, 5, 16, 12, 162, 0, 35, 42, 180, 2, 6, 16, 60, 162, 0, 26]
abbrev dktX7_dueLine_0 : List UInt8 := dkwX7_dueLine_0 ++ dktX7_dueLine_1
theorem dksX7_dueLine_0 : cX7_dueLine.data.toList.drop 0 = dktX7_dueLine_0 := by decide +kernel
theorem dksX7_dueLine_1 : cX7_dueLine.data.toList.drop 24 = dktX7_dueLine_1 := dk_seg dksX7_dueLine_0 24 rfl rfl
theorem dksX7_dueLine_2 : cX7_dueLine.data.toList.drop 48 = dktX7_dueLine_2 := dk_seg dksX7_dueLine_1 24 rfl rfl
theorem dksX7_dueLine_3 : cX7_dueLine.data.toList.drop 72 = dktX7_dueLine_3 := dk_seg dksX7_dueLine_2 24 rfl rfl
theorem dksX7_dueLine_4 : cX7_dueLine.data.toList.drop 96 = dktX7_dueLine_4 := dk_seg dksX7_dueLine_3 24 rfl rfl
theorem dksX7_dueLine_5 : cX7_dueLine.data.toList.drop 120 = dktX7_dueLine_5 := dk_seg dksX7_dueLine_4 24 rfl rfl
theorem dksX7_dueLine_6 : cX7_dueLine.data.toList.drop 143 = dktX7_dueLine_6 := dk_seg dksX7_dueLine_5 23 rfl rfl
theorem dksX7_dueLine_7 : cX7_dueLine.data.toList.drop 165 = dktX7_dueLine_7 := dk_seg dksX7_dueLine_6 22 rfl rfl
theorem dksX7_dueLine_8 : cX7_dueLine.data.toList.drop 189 = dktX7_dueLine_8 := dk_seg dksX7_dueLine_7 24 rfl rfl
theorem dksX7_dueLine_9 : cX7_dueLine.data.toList.drop 213 = dktX7_dueLine_9 := dk_seg dksX7_dueLine_8 24 rfl rfl
theorem dksX7_dueLine_10 : cX7_dueLine.data.toList.drop 237 = dktX7_dueLine_10 := dk_seg dksX7_dueLine_9 24 rfl rfl
theorem dX7_dueLine_0 : decode cX7_dueLine 0 = .ok (.iconst 0, 1) := dk_3 (dk_at dksX7_dueLine_0 0 rfl rfl)
theorem dX7_dueLine_1 : decode cX7_dueLine 1 = .ok (.istore_n 3, 1) := dk_62 (dk_at dksX7_dueLine_0 1 rfl rfl)
theorem dX7_dueLine_2 : decode cX7_dueLine 2 = .ok (.iconst 0, 1) := dk_3 (dk_at dksX7_dueLine_0 2 rfl rfl)
theorem dX7_dueLine_3 : decode cX7_dueLine 3 = .ok (.istore 4, 2) := dk_54 4 (dk_at dksX7_dueLine_0 3 rfl rfl)
theorem dX7_dueLine_5 : decode cX7_dueLine 5 = .ok (.iconst 0, 1) := dk_3 (dk_at dksX7_dueLine_0 5 rfl rfl)
theorem dX7_dueLine_6 : decode cX7_dueLine 6 = .ok (.istore 5, 2) := dk_54 5 (dk_at dksX7_dueLine_0 6 rfl rfl)
theorem dX7_dueLine_8 : decode cX7_dueLine 8 = .ok (.iload 5, 2) := dk_21 5 (dk_at dksX7_dueLine_0 8 rfl rfl)
theorem dX7_dueLine_10 : decode cX7_dueLine 10 = .ok (.bipush 12, 2) := dk_16 12 (dk_at dksX7_dueLine_0 10 rfl rfl)
theorem dX7_dueLine_12 : decode cX7_dueLine 12 = .ok (.if_icmp .ge 35, 3) := dk_162 0 35 (dk_at dksX7_dueLine_0 12 rfl rfl)
theorem dX7_dueLine_15 : decode cX7_dueLine 15 = .ok (.aload_n 0, 1) := dk_42 (dk_at dksX7_dueLine_0 15 rfl rfl)
theorem dX7_dueLine_16 : decode cX7_dueLine 16 = .ok (.getfield 518, 3) := dk_180 2 6 (dk_at dksX7_dueLine_0 16 rfl rfl)
theorem dX7_dueLine_19 : decode cX7_dueLine 19 = .ok (.bipush 60, 2) := dk_16 60 (dk_at dksX7_dueLine_0 19 rfl rfl)
theorem dX7_dueLine_21 : decode cX7_dueLine 21 = .ok (.if_icmp .ge 26, 3) := dk_162 0 26 (dk_at dksX7_dueLine_0 21 rfl rfl)
theorem dX7_dueLine_24 : decode cX7_dueLine 24 = .ok (.aload_n 0, 1) := dk_42 (dk_at dksX7_dueLine_1 0 rfl rfl)
theorem dX7_dueLine_25 : decode cX7_dueLine 25 = .ok (.getfield 172, 3) := dk_180 0 172 (dk_at dksX7_dueLine_1 1 rfl rfl)
theorem dX7_dueLine_28 : decode cX7_dueLine 28 = .ok (.bipush 12, 2) := dk_16 12 (dk_at dksX7_dueLine_1 4 rfl rfl)
theorem dX7_dueLine_30 : decode cX7_dueLine 30 = .ok (.aload_n 0, 1) := dk_42 (dk_at dksX7_dueLine_1 6 rfl rfl)
theorem dX7_dueLine_31 : decode cX7_dueLine 31 = .ok (.getfield 518, 3) := dk_180 2 6 (dk_at dksX7_dueLine_1 7 rfl rfl)
theorem dX7_dueLine_34 : decode cX7_dueLine 34 = .ok (.imul, 1) := dk_104 (dk_at dksX7_dueLine_1 10 rfl rfl)
theorem dX7_dueLine_35 : decode cX7_dueLine 35 = .ok (.iload 5, 2) := dk_21 5 (dk_at dksX7_dueLine_1 11 rfl rfl)
theorem dX7_dueLine_37 : decode cX7_dueLine 37 = .ok (.iadd, 1) := dk_96 (dk_at dksX7_dueLine_1 13 rfl rfl)
theorem dX7_dueLine_38 : decode cX7_dueLine 38 = .ok (.bipush 15, 2) := dk_16 15 (dk_at dksX7_dueLine_1 14 rfl rfl)
theorem dX7_dueLine_40 : decode cX7_dueLine 40 = .ok (.iastore, 1) := dk_79 (dk_at dksX7_dueLine_1 16 rfl rfl)
theorem dX7_dueLine_41 : decode cX7_dueLine 41 = .ok (.iinc 5 1, 3) := dk_132 5 1 (dk_at dksX7_dueLine_1 17 rfl rfl)
theorem dX7_dueLine_44 : decode cX7_dueLine 44 = .ok (.goto (-36), 3) := dk_167 255 220 (dk_at dksX7_dueLine_1 20 rfl rfl)
theorem dX7_dueLine_47 : decode cX7_dueLine 47 = .ok (.iconst 0, 1) := dk_3 (dk_at dksX7_dueLine_1 23 rfl rfl)
theorem dX7_dueLine_48 : decode cX7_dueLine 48 = .ok (.istore 5, 2) := dk_54 5 (dk_at dksX7_dueLine_2 0 rfl rfl)
theorem dX7_dueLine_50 : decode cX7_dueLine 50 = .ok (.iload 5, 2) := dk_21 5 (dk_at dksX7_dueLine_2 2 rfl rfl)
theorem dX7_dueLine_52 : decode cX7_dueLine 52 = .ok (.aload_n 0, 1) := dk_42 (dk_at dksX7_dueLine_2 4 rfl rfl)
theorem dX7_dueLine_53 : decode cX7_dueLine 53 = .ok (.getfield 133, 3) := dk_180 0 133 (dk_at dksX7_dueLine_2 5 rfl rfl)
theorem dX7_dueLine_56 : decode cX7_dueLine 56 = .ok (.iconst 0, 1) := dk_3 (dk_at dksX7_dueLine_2 8 rfl rfl)
theorem dX7_dueLine_57 : decode cX7_dueLine 57 = .ok (.iaload, 1) := dk_46 (dk_at dksX7_dueLine_2 9 rfl rfl)
theorem dX7_dueLine_58 : decode cX7_dueLine 58 = .ok (.if_icmp .ge 175, 3) := dk_162 0 175 (dk_at dksX7_dueLine_2 10 rfl rfl)
theorem dX7_dueLine_61 : decode cX7_dueLine 61 = .ok (.aload_n 0, 1) := dk_42 (dk_at dksX7_dueLine_2 13 rfl rfl)
theorem dX7_dueLine_62 : decode cX7_dueLine 62 = .ok (.getfield 142, 3) := dk_180 0 142 (dk_at dksX7_dueLine_2 14 rfl rfl)
theorem dX7_dueLine_65 : decode cX7_dueLine 65 = .ok (.iload 5, 2) := dk_21 5 (dk_at dksX7_dueLine_2 17 rfl rfl)
theorem dX7_dueLine_67 : decode cX7_dueLine 67 = .ok (.iaload, 1) := dk_46 (dk_at dksX7_dueLine_2 19 rfl rfl)
theorem dX7_dueLine_68 : decode cX7_dueLine 68 = .ok (.iload_n 2, 1) := dk_28 (dk_at dksX7_dueLine_2 20 rfl rfl)
theorem dX7_dueLine_69 : decode cX7_dueLine 69 = .ok (.if_icmp .ne 7, 3) := dk_160 0 7 (dk_at dksX7_dueLine_2 21 rfl rfl)
theorem dX7_dueLine_72 : decode cX7_dueLine 72 = .ok (.iconst 1, 1) := dk_4 (dk_at dksX7_dueLine_3 0 rfl rfl)
theorem dX7_dueLine_73 : decode cX7_dueLine 73 = .ok (.goto 4, 3) := dk_167 0 4 (dk_at dksX7_dueLine_3 1 rfl rfl)
theorem dX7_dueLine_76 : decode cX7_dueLine 76 = .ok (.iconst 0, 1) := dk_3 (dk_at dksX7_dueLine_3 4 rfl rfl)
theorem dX7_dueLine_77 : decode cX7_dueLine 77 = .ok (.istore 6, 2) := dk_54 6 (dk_at dksX7_dueLine_3 5 rfl rfl)
theorem dX7_dueLine_79 : decode cX7_dueLine 79 = .ok (.aload_n 0, 1) := dk_42 (dk_at dksX7_dueLine_3 7 rfl rfl)
theorem dX7_dueLine_80 : decode cX7_dueLine 80 = .ok (.getfield 175, 3) := dk_180 0 175 (dk_at dksX7_dueLine_3 8 rfl rfl)
theorem dX7_dueLine_83 : decode cX7_dueLine 83 = .ok (.iload 5, 2) := dk_21 5 (dk_at dksX7_dueLine_3 11 rfl rfl)
theorem dX7_dueLine_85 : decode cX7_dueLine 85 = .ok (.iaload, 1) := dk_46 (dk_at dksX7_dueLine_3 13 rfl rfl)
theorem dX7_dueLine_86 : decode cX7_dueLine 86 = .ok (.ifCond .ge 14, 3) := dk_156 0 14 (dk_at dksX7_dueLine_3 14 rfl rfl)
theorem dX7_dueLine_89 : decode cX7_dueLine 89 = .ok (.aload_n 0, 1) := dk_42 (dk_at dksX7_dueLine_3 17 rfl rfl)
theorem dX7_dueLine_90 : decode cX7_dueLine 90 = .ok (.getfield 175, 3) := dk_180 0 175 (dk_at dksX7_dueLine_3 18 rfl rfl)
theorem dX7_dueLine_93 : decode cX7_dueLine 93 = .ok (.iload 5, 2) := dk_21 5 (dk_at dksX7_dueLine_3 21 rfl rfl)
theorem dX7_dueLine_95 : decode cX7_dueLine 95 = .ok (.iaload, 1) := dk_46 (dk_at dksX7_dueLine_3 23 rfl rfl)
theorem dX7_dueLine_96 : decode cX7_dueLine 96 = .ok (.ineg, 1) := dk_116 (dk_at dksX7_dueLine_4 0 rfl rfl)
theorem dX7_dueLine_97 : decode cX7_dueLine 97 = .ok (.goto 10, 3) := dk_167 0 10 (dk_at dksX7_dueLine_4 1 rfl rfl)
theorem dX7_dueLine_100 : decode cX7_dueLine 100 = .ok (.aload_n 0, 1) := dk_42 (dk_at dksX7_dueLine_4 4 rfl rfl)
theorem dX7_dueLine_101 : decode cX7_dueLine 101 = .ok (.getfield 175, 3) := dk_180 0 175 (dk_at dksX7_dueLine_4 5 rfl rfl)
theorem dX7_dueLine_104 : decode cX7_dueLine 104 = .ok (.iload 5, 2) := dk_21 5 (dk_at dksX7_dueLine_4 8 rfl rfl)
theorem dX7_dueLine_106 : decode cX7_dueLine 106 = .ok (.iaload, 1) := dk_46 (dk_at dksX7_dueLine_4 10 rfl rfl)
theorem dX7_dueLine_107 : decode cX7_dueLine 107 = .ok (.istore 7, 2) := dk_54 7 (dk_at dksX7_dueLine_4 11 rfl rfl)
theorem dX7_dueLine_109 : decode cX7_dueLine 109 = .ok (.iload 6, 2) := dk_21 6 (dk_at dksX7_dueLine_4 13 rfl rfl)
theorem dX7_dueLine_111 : decode cX7_dueLine 111 = .ok (.ifCond .eq 11, 3) := dk_153 0 11 (dk_at dksX7_dueLine_4 15 rfl rfl)
theorem dX7_dueLine_114 : decode cX7_dueLine 114 = .ok (.aload_n 0, 1) := dk_42 (dk_at dksX7_dueLine_4 18 rfl rfl)
theorem dX7_dueLine_115 : decode cX7_dueLine 115 = .ok (.getfield 175, 3) := dk_180 0 175 (dk_at dksX7_dueLine_4 19 rfl rfl)
theorem dX7_dueLine_118 : decode cX7_dueLine 118 = .ok (.iload 5, 2) := dk_21 5 (dk_at dksX7_dueLine_4 22 rfl rfl)
theorem dX7_dueLine_120 : decode cX7_dueLine 120 = .ok (.iconst 0, 1) := dk_3 (dk_at dksX7_dueLine_5 0 rfl rfl)
theorem dX7_dueLine_121 : decode cX7_dueLine 121 = .ok (.iastore, 1) := dk_79 (dk_at dksX7_dueLine_5 1 rfl rfl)
theorem dX7_dueLine_122 : decode cX7_dueLine 122 = .ok (.iload_n 1, 1) := dk_27 (dk_at dksX7_dueLine_5 2 rfl rfl)
theorem dX7_dueLine_123 : decode cX7_dueLine 123 = .ok (.iload 5, 2) := dk_21 5 (dk_at dksX7_dueLine_5 3 rfl rfl)
theorem dX7_dueLine_125 : decode cX7_dueLine 125 = .ok (.ishr, 1) := dk_122 (dk_at dksX7_dueLine_5 5 rfl rfl)
theorem dX7_dueLine_126 : decode cX7_dueLine 126 = .ok (.iconst 1, 1) := dk_4 (dk_at dksX7_dueLine_5 6 rfl rfl)
theorem dX7_dueLine_127 : decode cX7_dueLine 127 = .ok (.iand, 1) := dk_126 (dk_at dksX7_dueLine_5 7 rfl rfl)
theorem dX7_dueLine_128 : decode cX7_dueLine 128 = .ok (.ifCond .ne 6, 3) := dk_154 0 6 (dk_at dksX7_dueLine_5 8 rfl rfl)
theorem dX7_dueLine_131 : decode cX7_dueLine 131 = .ok (.goto 96, 3) := dk_167 0 96 (dk_at dksX7_dueLine_5 11 rfl rfl)
theorem dX7_dueLine_134 : decode cX7_dueLine 134 = .ok (.aload_n 0, 1) := dk_42 (dk_at dksX7_dueLine_5 14 rfl rfl)
theorem dX7_dueLine_135 : decode cX7_dueLine 135 = .ok (.getfield 139, 3) := dk_180 0 139 (dk_at dksX7_dueLine_5 15 rfl rfl)
theorem dX7_dueLine_138 : decode cX7_dueLine 138 = .ok (.iload 5, 2) := dk_21 5 (dk_at dksX7_dueLine_5 18 rfl rfl)
theorem dX7_dueLine_140 : decode cX7_dueLine 140 = .ok (.iaload, 1) := dk_46 (dk_at dksX7_dueLine_5 20 rfl rfl)
theorem dX7_dueLine_141 : decode cX7_dueLine 141 = .ok (.iconst 1, 1) := dk_4 (dk_at dksX7_dueLine_5 21 rfl rfl)
theorem dX7_dueLine_142 : decode cX7_dueLine 142 = .ok (.isub, 1) := dk_100 (dk_at dksX7_dueLine_5 22 rfl rfl)
theorem dX7_dueLine_143 : decode cX7_dueLine 143 = .ok (.istore 8, 2) := dk_54 8 (dk_at dksX7_dueLine_6 0 rfl rfl)
theorem dX7_dueLine_145 : decode cX7_dueLine 145 = .ok (.iload 8, 2) := dk_21 8 (dk_at dksX7_dueLine_6 2 rfl rfl)
theorem dX7_dueLine_147 : decode cX7_dueLine 147 = .ok (.ifCond .lt 53, 3) := dk_155 0 53 (dk_at dksX7_dueLine_6 4 rfl rfl)
theorem dX7_dueLine_150 : decode cX7_dueLine 150 = .ok (.iload 6, 2) := dk_21 6 (dk_at dksX7_dueLine_6 7 rfl rfl)
theorem dX7_dueLine_152 : decode cX7_dueLine 152 = .ok (.ifCond .eq 35, 3) := dk_153 0 35 (dk_at dksX7_dueLine_6 9 rfl rfl)
theorem dX7_dueLine_155 : decode cX7_dueLine 155 = .ok (.aload_n 0, 1) := dk_42 (dk_at dksX7_dueLine_6 12 rfl rfl)
theorem dX7_dueLine_156 : decode cX7_dueLine 156 = .ok (.getfield 518, 3) := dk_180 2 6 (dk_at dksX7_dueLine_6 13 rfl rfl)
theorem dX7_dueLine_159 : decode cX7_dueLine 159 = .ok (.bipush 60, 2) := dk_16 60 (dk_at dksX7_dueLine_6 16 rfl rfl)
theorem dX7_dueLine_161 : decode cX7_dueLine 161 = .ok (.if_icmp .ge 26, 3) := dk_162 0 26 (dk_at dksX7_dueLine_6 18 rfl rfl)
theorem dX7_dueLine_164 : decode cX7_dueLine 164 = .ok (.aload_n 0, 1) := dk_42 (dk_at dksX7_dueLine_6 21 rfl rfl)
theorem dX7_dueLine_165 : decode cX7_dueLine 165 = .ok (.getfield 172, 3) := dk_180 0 172 (dk_at dksX7_dueLine_7 0 rfl rfl)
theorem dX7_dueLine_168 : decode cX7_dueLine 168 = .ok (.bipush 12, 2) := dk_16 12 (dk_at dksX7_dueLine_7 3 rfl rfl)
theorem dX7_dueLine_170 : decode cX7_dueLine 170 = .ok (.aload_n 0, 1) := dk_42 (dk_at dksX7_dueLine_7 5 rfl rfl)
theorem dX7_dueLine_171 : decode cX7_dueLine 171 = .ok (.getfield 518, 3) := dk_180 2 6 (dk_at dksX7_dueLine_7 6 rfl rfl)
theorem dX7_dueLine_174 : decode cX7_dueLine 174 = .ok (.imul, 1) := dk_104 (dk_at dksX7_dueLine_7 9 rfl rfl)
theorem dX7_dueLine_175 : decode cX7_dueLine 175 = .ok (.iload 4, 2) := dk_21 4 (dk_at dksX7_dueLine_7 10 rfl rfl)
theorem dX7_dueLine_177 : decode cX7_dueLine 177 = .ok (.iadd, 1) := dk_96 (dk_at dksX7_dueLine_7 12 rfl rfl)
theorem dX7_dueLine_178 : decode cX7_dueLine 178 = .ok (.iload 8, 2) := dk_21 8 (dk_at dksX7_dueLine_7 13 rfl rfl)
theorem dX7_dueLine_180 : decode cX7_dueLine 180 = .ok (.iadd, 1) := dk_96 (dk_at dksX7_dueLine_7 15 rfl rfl)
theorem dX7_dueLine_181 : decode cX7_dueLine 181 = .ok (.iload 7, 2) := dk_21 7 (dk_at dksX7_dueLine_7 16 rfl rfl)
theorem dX7_dueLine_183 : decode cX7_dueLine 183 = .ok (.bipush 10, 2) := dk_16 10 (dk_at dksX7_dueLine_7 18 rfl rfl)
theorem dX7_dueLine_185 : decode cX7_dueLine 185 = .ok (.irem, 1) := dk_112 (dk_at dksX7_dueLine_7 20 rfl rfl)
theorem dX7_dueLine_186 : decode cX7_dueLine 186 = .ok (.iastore, 1) := dk_79 (dk_at dksX7_dueLine_7 21 rfl rfl)
theorem dX7_dueLine_187 : decode cX7_dueLine 187 = .ok (.iload 7, 2) := dk_21 7 (dk_at dksX7_dueLine_7 22 rfl rfl)
theorem dX7_dueLine_189 : decode cX7_dueLine 189 = .ok (.bipush 10, 2) := dk_16 10 (dk_at dksX7_dueLine_8 0 rfl rfl)
theorem dX7_dueLine_191 : decode cX7_dueLine 191 = .ok (.idiv, 1) := dk_108 (dk_at dksX7_dueLine_8 2 rfl rfl)
theorem dX7_dueLine_192 : decode cX7_dueLine 192 = .ok (.istore 7, 2) := dk_54 7 (dk_at dksX7_dueLine_8 3 rfl rfl)
theorem dX7_dueLine_194 : decode cX7_dueLine 194 = .ok (.iinc 8 (-1), 3) := dk_132 8 255 (dk_at dksX7_dueLine_8 5 rfl rfl)
theorem dX7_dueLine_197 : decode cX7_dueLine 197 = .ok (.goto (-52), 3) := dk_167 255 204 (dk_at dksX7_dueLine_8 8 rfl rfl)
theorem dX7_dueLine_200 : decode cX7_dueLine 200 = .ok (.iload 4, 2) := dk_21 4 (dk_at dksX7_dueLine_8 11 rfl rfl)
theorem dX7_dueLine_202 : decode cX7_dueLine 202 = .ok (.aload_n 0, 1) := dk_42 (dk_at dksX7_dueLine_8 13 rfl rfl)
theorem dX7_dueLine_203 : decode cX7_dueLine 203 = .ok (.getfield 139, 3) := dk_180 0 139 (dk_at dksX7_dueLine_8 14 rfl rfl)
theorem dX7_dueLine_206 : decode cX7_dueLine 206 = .ok (.iload 5, 2) := dk_21 5 (dk_at dksX7_dueLine_8 17 rfl rfl)
theorem dX7_dueLine_208 : decode cX7_dueLine 208 = .ok (.iaload, 1) := dk_46 (dk_at dksX7_dueLine_8 19 rfl rfl)
theorem dX7_dueLine_209 : decode cX7_dueLine 209 = .ok (.iadd, 1) := dk_96 (dk_at dksX7_dueLine_8 20 rfl rfl)
theorem dX7_dueLine_210 : decode cX7_dueLine 210 = .ok (.istore 4, 2) := dk_54 4 (dk_at dksX7_dueLine_8 21 rfl rfl)
theorem dX7_dueLine_212 : decode cX7_dueLine 212 = .ok (.iload_n 3, 1) := dk_29 (dk_at dksX7_dueLine_8 23 rfl rfl)
theorem dX7_dueLine_213 : decode cX7_dueLine 213 = .ok (.ifCond .ne 8, 3) := dk_154 0 8 (dk_at dksX7_dueLine_9 0 rfl rfl)
theorem dX7_dueLine_216 : decode cX7_dueLine 216 = .ok (.iload 6, 2) := dk_21 6 (dk_at dksX7_dueLine_9 3 rfl rfl)
theorem dX7_dueLine_218 : decode cX7_dueLine 218 = .ok (.ifCond .eq 7, 3) := dk_153 0 7 (dk_at dksX7_dueLine_9 5 rfl rfl)
theorem dX7_dueLine_221 : decode cX7_dueLine 221 = .ok (.iconst 1, 1) := dk_4 (dk_at dksX7_dueLine_9 8 rfl rfl)
theorem dX7_dueLine_222 : decode cX7_dueLine 222 = .ok (.goto 4, 3) := dk_167 0 4 (dk_at dksX7_dueLine_9 9 rfl rfl)
theorem dX7_dueLine_225 : decode cX7_dueLine 225 = .ok (.iconst 0, 1) := dk_3 (dk_at dksX7_dueLine_9 12 rfl rfl)
theorem dX7_dueLine_226 : decode cX7_dueLine 226 = .ok (.istore_n 3, 1) := dk_62 (dk_at dksX7_dueLine_9 13 rfl rfl)
theorem dX7_dueLine_227 : decode cX7_dueLine 227 = .ok (.iinc 5 1, 3) := dk_132 5 1 (dk_at dksX7_dueLine_9 14 rfl rfl)
theorem dX7_dueLine_230 : decode cX7_dueLine 230 = .ok (.goto (-180), 3) := dk_167 255 76 (dk_at dksX7_dueLine_9 17 rfl rfl)
theorem dX7_dueLine_233 : decode cX7_dueLine 233 = .ok (.iload_n 3, 1) := dk_29 (dk_at dksX7_dueLine_9 20 rfl rfl)
theorem dX7_dueLine_234 : decode cX7_dueLine 234 = .ok (.ifCond .eq 13, 3) := dk_153 0 13 (dk_at dksX7_dueLine_9 21 rfl rfl)
theorem dX7_dueLine_237 : decode cX7_dueLine 237 = .ok (.aload_n 0, 1) := dk_42 (dk_at dksX7_dueLine_10 0 rfl rfl)
theorem dX7_dueLine_238 : decode cX7_dueLine 238 = .ok (.dup, 1) := dk_89 (dk_at dksX7_dueLine_10 1 rfl rfl)
theorem dX7_dueLine_239 : decode cX7_dueLine 239 = .ok (.getfield 518, 3) := dk_180 2 6 (dk_at dksX7_dueLine_10 2 rfl rfl)
theorem dX7_dueLine_242 : decode cX7_dueLine 242 = .ok (.iconst 1, 1) := dk_4 (dk_at dksX7_dueLine_10 5 rfl rfl)
theorem dX7_dueLine_243 : decode cX7_dueLine 243 = .ok (.iadd, 1) := dk_96 (dk_at dksX7_dueLine_10 6 rfl rfl)
theorem dX7_dueLine_244 : decode cX7_dueLine 244 = .ok (.putfield 518, 3) := dk_181 2 6 (dk_at dksX7_dueLine_10 7 rfl rfl)
theorem dX7_dueLine_247 : decode cX7_dueLine 247 = .ok (.return_, 1) := dk_177 (dk_at dksX7_dueLine_10 10 rfl rfl)
abbrev cX7_wantedAt : ByteArray := prog_14_method_90_code
def yX7_wantedAt : MethodName := ⟨RX7, "wantedAt", "(II)I"⟩
def dkwX7_wantedAt_2 : List UInt8 := [180, 0, 178, 16, 12, 27, 104, 28, 96, 4, 100, 46, 172]
abbrev dktX7_wantedAt_2 : List UInt8 := dkwX7_wantedAt_2 ++ []
def dkwX7_wantedAt_1 : List UInt8 := [16, 12, 184, 0, 207, 154, 0, 7, 4, 167, 0, 4, 3, 182, 0, 222, 153, 0, 5, 3, 172, 42]
abbrev dktX7_wantedAt_1 : List UInt8 := dkwX7_wantedAt_1 ++ dktX7_wantedAt_2
def dkwX7_wantedAt_0 : List UInt8 := [42, 42, 180, 2, 21, 153, 0, 27, 27, 3, 42, 180, 2, 18, 4, 100, 184, 0, 207, 153, 0, 13, 28, 4]
abbrev dktX7_wantedAt_0 : List UInt8 := dkwX7_wantedAt_0 ++ dktX7_wantedAt_1
theorem dksX7_wantedAt_0 : cX7_wantedAt.data.toList.drop 0 = dktX7_wantedAt_0 := by decide +kernel
theorem dksX7_wantedAt_1 : cX7_wantedAt.data.toList.drop 24 = dktX7_wantedAt_1 := dk_seg dksX7_wantedAt_0 24 rfl rfl
theorem dksX7_wantedAt_2 : cX7_wantedAt.data.toList.drop 46 = dktX7_wantedAt_2 := dk_seg dksX7_wantedAt_1 22 rfl rfl
theorem dX7_wantedAt_0 : decode cX7_wantedAt 0 = .ok (.aload_n 0, 1) := dk_42 (dk_at dksX7_wantedAt_0 0 rfl rfl)
theorem dX7_wantedAt_1 : decode cX7_wantedAt 1 = .ok (.aload_n 0, 1) := dk_42 (dk_at dksX7_wantedAt_0 1 rfl rfl)
theorem dX7_wantedAt_2 : decode cX7_wantedAt 2 = .ok (.getfield 533, 3) := dk_180 2 21 (dk_at dksX7_wantedAt_0 2 rfl rfl)
theorem dX7_wantedAt_5 : decode cX7_wantedAt 5 = .ok (.ifCond .eq 27, 3) := dk_153 0 27 (dk_at dksX7_wantedAt_0 5 rfl rfl)
theorem dX7_wantedAt_8 : decode cX7_wantedAt 8 = .ok (.iload_n 1, 1) := dk_27 (dk_at dksX7_wantedAt_0 8 rfl rfl)
theorem dX7_wantedAt_9 : decode cX7_wantedAt 9 = .ok (.iconst 0, 1) := dk_3 (dk_at dksX7_wantedAt_0 9 rfl rfl)
theorem dX7_wantedAt_10 : decode cX7_wantedAt 10 = .ok (.aload_n 0, 1) := dk_42 (dk_at dksX7_wantedAt_0 10 rfl rfl)
theorem dX7_wantedAt_11 : decode cX7_wantedAt 11 = .ok (.getfield 530, 3) := dk_180 2 18 (dk_at dksX7_wantedAt_0 11 rfl rfl)
theorem dX7_wantedAt_14 : decode cX7_wantedAt 14 = .ok (.iconst 1, 1) := dk_4 (dk_at dksX7_wantedAt_0 14 rfl rfl)
theorem dX7_wantedAt_15 : decode cX7_wantedAt 15 = .ok (.isub, 1) := dk_100 (dk_at dksX7_wantedAt_0 15 rfl rfl)
theorem dX7_wantedAt_16 : decode cX7_wantedAt 16 = .ok (.invokestatic 207, 3) := dk_184 0 207 (dk_at dksX7_wantedAt_0 16 rfl rfl)
theorem dX7_wantedAt_19 : decode cX7_wantedAt 19 = .ok (.ifCond .eq 13, 3) := dk_153 0 13 (dk_at dksX7_wantedAt_0 19 rfl rfl)
theorem dX7_wantedAt_22 : decode cX7_wantedAt 22 = .ok (.iload_n 2, 1) := dk_28 (dk_at dksX7_wantedAt_0 22 rfl rfl)
theorem dX7_wantedAt_23 : decode cX7_wantedAt 23 = .ok (.iconst 1, 1) := dk_4 (dk_at dksX7_wantedAt_0 23 rfl rfl)
theorem dX7_wantedAt_24 : decode cX7_wantedAt 24 = .ok (.bipush 12, 2) := dk_16 12 (dk_at dksX7_wantedAt_1 0 rfl rfl)
theorem dX7_wantedAt_26 : decode cX7_wantedAt 26 = .ok (.invokestatic 207, 3) := dk_184 0 207 (dk_at dksX7_wantedAt_1 2 rfl rfl)
theorem dX7_wantedAt_29 : decode cX7_wantedAt 29 = .ok (.ifCond .ne 7, 3) := dk_154 0 7 (dk_at dksX7_wantedAt_1 5 rfl rfl)
theorem dX7_wantedAt_32 : decode cX7_wantedAt 32 = .ok (.iconst 1, 1) := dk_4 (dk_at dksX7_wantedAt_1 8 rfl rfl)
theorem dX7_wantedAt_33 : decode cX7_wantedAt 33 = .ok (.goto 4, 3) := dk_167 0 4 (dk_at dksX7_wantedAt_1 9 rfl rfl)
theorem dX7_wantedAt_36 : decode cX7_wantedAt 36 = .ok (.iconst 0, 1) := dk_3 (dk_at dksX7_wantedAt_1 12 rfl rfl)
theorem dX7_wantedAt_37 : decode cX7_wantedAt 37 = .ok (.invokevirtual 222, 3) := dk_182 0 222 (dk_at dksX7_wantedAt_1 13 rfl rfl)
theorem dX7_wantedAt_40 : decode cX7_wantedAt 40 = .ok (.ifCond .eq 5, 3) := dk_153 0 5 (dk_at dksX7_wantedAt_1 16 rfl rfl)
theorem dX7_wantedAt_43 : decode cX7_wantedAt 43 = .ok (.iconst 0, 1) := dk_3 (dk_at dksX7_wantedAt_1 19 rfl rfl)
theorem dX7_wantedAt_44 : decode cX7_wantedAt 44 = .ok (.ireturn, 1) := dk_172 (dk_at dksX7_wantedAt_1 20 rfl rfl)
theorem dX7_wantedAt_45 : decode cX7_wantedAt 45 = .ok (.aload_n 0, 1) := dk_42 (dk_at dksX7_wantedAt_1 21 rfl rfl)
theorem dX7_wantedAt_46 : decode cX7_wantedAt 46 = .ok (.getfield 178, 3) := dk_180 0 178 (dk_at dksX7_wantedAt_2 0 rfl rfl)
theorem dX7_wantedAt_49 : decode cX7_wantedAt 49 = .ok (.bipush 12, 2) := dk_16 12 (dk_at dksX7_wantedAt_2 3 rfl rfl)
theorem dX7_wantedAt_51 : decode cX7_wantedAt 51 = .ok (.iload_n 1, 1) := dk_27 (dk_at dksX7_wantedAt_2 5 rfl rfl)
theorem dX7_wantedAt_52 : decode cX7_wantedAt 52 = .ok (.imul, 1) := dk_104 (dk_at dksX7_wantedAt_2 6 rfl rfl)
theorem dX7_wantedAt_53 : decode cX7_wantedAt 53 = .ok (.iload_n 2, 1) := dk_28 (dk_at dksX7_wantedAt_2 7 rfl rfl)
theorem dX7_wantedAt_54 : decode cX7_wantedAt 54 = .ok (.iadd, 1) := dk_96 (dk_at dksX7_wantedAt_2 8 rfl rfl)
theorem dX7_wantedAt_55 : decode cX7_wantedAt 55 = .ok (.iconst 1, 1) := dk_4 (dk_at dksX7_wantedAt_2 9 rfl rfl)
theorem dX7_wantedAt_56 : decode cX7_wantedAt 56 = .ok (.isub, 1) := dk_100 (dk_at dksX7_wantedAt_2 10 rfl rfl)
theorem dX7_wantedAt_57 : decode cX7_wantedAt 57 = .ok (.iaload, 1) := dk_46 (dk_at dksX7_wantedAt_2 11 rfl rfl)
theorem dX7_wantedAt_58 : decode cX7_wantedAt 58 = .ok (.ireturn, 1) := dk_172 (dk_at dksX7_wantedAt_2 12 rfl rfl)
abbrev cX7_same : ByteArray := prog_14_method_91_code
def yX7_same : MethodName := ⟨RX7, "same", "(II)I"⟩
def dkwX7_same_4 : List UInt8 := [21, 5, 46, 42, 180, 0, 66, 21, 5, 46, 159, 0, 5, 3, 172, 132, 5, 1, 167, 255, 224, 4, 172]
abbrev dktX7_same_4 : List UInt8 := dkwX7_same_4 ++ []
def dkwX7_same_3 : List UInt8 := [3, 46, 159, 0, 5, 3, 172, 3, 54, 5, 21, 5, 16, 12, 21, 4, 104, 162, 0, 28, 42, 180, 0, 172]
abbrev dktX7_same_3 : List UInt8 := dkwX7_same_3 ++ dktX7_same_4
def dkwX7_same_2 : List UInt8 := [182, 1, 143, 42, 16, 40, 182, 1, 147, 42, 180, 0, 57, 3, 46, 154, 0, 14, 21, 4, 42, 180, 0, 60]
abbrev dktX7_same_2 : List UInt8 := dkwX7_same_2 ++ dktX7_same_3
def dkwX7_same_1 : List UInt8 := [42, 27, 29, 182, 2, 15, 54, 4, 42, 2, 181, 1, 97, 42, 27, 3, 42, 180, 0, 17, 27, 46, 2]
abbrev dktX7_same_1 : List UInt8 := dkwX7_same_1 ++ dktX7_same_2
def dkwX7_same_0 : List UInt8 := [42, 3, 181, 0, 190, 42, 28, 182, 2, 3, 62, 27, 184, 0, 214, 153, 0, 7, 29, 156, 0, 5, 2, 172]
abbrev dktX7_same_0 : List UInt8 := dkwX7_same_0 ++ dktX7_same_1
theorem dksX7_same_0 : cX7_same.data.toList.drop 0 = dktX7_same_0 := by decide +kernel
theorem dksX7_same_1 : cX7_same.data.toList.drop 24 = dktX7_same_1 := dk_seg dksX7_same_0 24 rfl rfl
theorem dksX7_same_2 : cX7_same.data.toList.drop 47 = dktX7_same_2 := dk_seg dksX7_same_1 23 rfl rfl
theorem dksX7_same_3 : cX7_same.data.toList.drop 71 = dktX7_same_3 := dk_seg dksX7_same_2 24 rfl rfl
theorem dksX7_same_4 : cX7_same.data.toList.drop 95 = dktX7_same_4 := dk_seg dksX7_same_3 24 rfl rfl
theorem dX7_same_0 : decode cX7_same 0 = .ok (.aload_n 0, 1) := dk_42 (dk_at dksX7_same_0 0 rfl rfl)
theorem dX7_same_1 : decode cX7_same 1 = .ok (.iconst 0, 1) := dk_3 (dk_at dksX7_same_0 1 rfl rfl)
theorem dX7_same_2 : decode cX7_same 2 = .ok (.putfield 190, 3) := dk_181 0 190 (dk_at dksX7_same_0 2 rfl rfl)
theorem dX7_same_5 : decode cX7_same 5 = .ok (.aload_n 0, 1) := dk_42 (dk_at dksX7_same_0 5 rfl rfl)
theorem dX7_same_6 : decode cX7_same 6 = .ok (.iload_n 2, 1) := dk_28 (dk_at dksX7_same_0 6 rfl rfl)
theorem dX7_same_7 : decode cX7_same 7 = .ok (.invokevirtual 515, 3) := dk_182 2 3 (dk_at dksX7_same_0 7 rfl rfl)
theorem dX7_same_10 : decode cX7_same 10 = .ok (.istore_n 3, 1) := dk_62 (dk_at dksX7_same_0 10 rfl rfl)
theorem dX7_same_11 : decode cX7_same 11 = .ok (.iload_n 1, 1) := dk_27 (dk_at dksX7_same_0 11 rfl rfl)
theorem dX7_same_12 : decode cX7_same 12 = .ok (.invokestatic 214, 3) := dk_184 0 214 (dk_at dksX7_same_0 12 rfl rfl)
theorem dX7_same_15 : decode cX7_same 15 = .ok (.ifCond .eq 7, 3) := dk_153 0 7 (dk_at dksX7_same_0 15 rfl rfl)
theorem dX7_same_18 : decode cX7_same 18 = .ok (.iload_n 3, 1) := dk_29 (dk_at dksX7_same_0 18 rfl rfl)
theorem dX7_same_19 : decode cX7_same 19 = .ok (.ifCond .ge 5, 3) := dk_156 0 5 (dk_at dksX7_same_0 19 rfl rfl)
theorem dX7_same_22 : decode cX7_same 22 = .ok (.iconst (-1), 1) := dk_2 (dk_at dksX7_same_0 22 rfl rfl)
theorem dX7_same_23 : decode cX7_same 23 = .ok (.ireturn, 1) := dk_172 (dk_at dksX7_same_0 23 rfl rfl)
theorem dX7_same_24 : decode cX7_same 24 = .ok (.aload_n 0, 1) := dk_42 (dk_at dksX7_same_1 0 rfl rfl)
theorem dX7_same_25 : decode cX7_same 25 = .ok (.iload_n 1, 1) := dk_27 (dk_at dksX7_same_1 1 rfl rfl)
theorem dX7_same_26 : decode cX7_same 26 = .ok (.iload_n 3, 1) := dk_29 (dk_at dksX7_same_1 2 rfl rfl)
theorem dX7_same_27 : decode cX7_same 27 = .ok (.invokevirtual 527, 3) := dk_182 2 15 (dk_at dksX7_same_1 3 rfl rfl)
theorem dX7_same_30 : decode cX7_same 30 = .ok (.istore 4, 2) := dk_54 4 (dk_at dksX7_same_1 6 rfl rfl)
theorem dX7_same_32 : decode cX7_same 32 = .ok (.aload_n 0, 1) := dk_42 (dk_at dksX7_same_1 8 rfl rfl)
theorem dX7_same_33 : decode cX7_same 33 = .ok (.iconst (-1), 1) := dk_2 (dk_at dksX7_same_1 9 rfl rfl)
theorem dX7_same_34 : decode cX7_same 34 = .ok (.putfield 353, 3) := dk_181 1 97 (dk_at dksX7_same_1 10 rfl rfl)
theorem dX7_same_37 : decode cX7_same 37 = .ok (.aload_n 0, 1) := dk_42 (dk_at dksX7_same_1 13 rfl rfl)
theorem dX7_same_38 : decode cX7_same 38 = .ok (.iload_n 1, 1) := dk_27 (dk_at dksX7_same_1 14 rfl rfl)
theorem dX7_same_39 : decode cX7_same 39 = .ok (.iconst 0, 1) := dk_3 (dk_at dksX7_same_1 15 rfl rfl)
theorem dX7_same_40 : decode cX7_same 40 = .ok (.aload_n 0, 1) := dk_42 (dk_at dksX7_same_1 16 rfl rfl)
theorem dX7_same_41 : decode cX7_same 41 = .ok (.getfield 17, 3) := dk_180 0 17 (dk_at dksX7_same_1 17 rfl rfl)
theorem dX7_same_44 : decode cX7_same 44 = .ok (.iload_n 1, 1) := dk_27 (dk_at dksX7_same_1 20 rfl rfl)
theorem dX7_same_45 : decode cX7_same 45 = .ok (.iaload, 1) := dk_46 (dk_at dksX7_same_1 21 rfl rfl)
theorem dX7_same_46 : decode cX7_same 46 = .ok (.iconst (-1), 1) := dk_2 (dk_at dksX7_same_1 22 rfl rfl)
theorem dX7_same_47 : decode cX7_same 47 = .ok (.invokevirtual 399, 3) := dk_182 1 143 (dk_at dksX7_same_2 0 rfl rfl)
theorem dX7_same_50 : decode cX7_same 50 = .ok (.aload_n 0, 1) := dk_42 (dk_at dksX7_same_2 3 rfl rfl)
theorem dX7_same_51 : decode cX7_same 51 = .ok (.bipush 40, 2) := dk_16 40 (dk_at dksX7_same_2 4 rfl rfl)
theorem dX7_same_53 : decode cX7_same 53 = .ok (.invokevirtual 403, 3) := dk_182 1 147 (dk_at dksX7_same_2 6 rfl rfl)
theorem dX7_same_56 : decode cX7_same 56 = .ok (.aload_n 0, 1) := dk_42 (dk_at dksX7_same_2 9 rfl rfl)
theorem dX7_same_57 : decode cX7_same 57 = .ok (.getfield 57, 3) := dk_180 0 57 (dk_at dksX7_same_2 10 rfl rfl)
theorem dX7_same_60 : decode cX7_same 60 = .ok (.iconst 0, 1) := dk_3 (dk_at dksX7_same_2 13 rfl rfl)
theorem dX7_same_61 : decode cX7_same 61 = .ok (.iaload, 1) := dk_46 (dk_at dksX7_same_2 14 rfl rfl)
theorem dX7_same_62 : decode cX7_same 62 = .ok (.ifCond .ne 14, 3) := dk_154 0 14 (dk_at dksX7_same_2 15 rfl rfl)
theorem dX7_same_65 : decode cX7_same 65 = .ok (.iload 4, 2) := dk_21 4 (dk_at dksX7_same_2 18 rfl rfl)
theorem dX7_same_67 : decode cX7_same 67 = .ok (.aload_n 0, 1) := dk_42 (dk_at dksX7_same_2 20 rfl rfl)
theorem dX7_same_68 : decode cX7_same 68 = .ok (.getfield 60, 3) := dk_180 0 60 (dk_at dksX7_same_2 21 rfl rfl)
theorem dX7_same_71 : decode cX7_same 71 = .ok (.iconst 0, 1) := dk_3 (dk_at dksX7_same_3 0 rfl rfl)
theorem dX7_same_72 : decode cX7_same 72 = .ok (.iaload, 1) := dk_46 (dk_at dksX7_same_3 1 rfl rfl)
theorem dX7_same_73 : decode cX7_same 73 = .ok (.if_icmp .eq 5, 3) := dk_159 0 5 (dk_at dksX7_same_3 2 rfl rfl)
theorem dX7_same_76 : decode cX7_same 76 = .ok (.iconst 0, 1) := dk_3 (dk_at dksX7_same_3 5 rfl rfl)
theorem dX7_same_77 : decode cX7_same 77 = .ok (.ireturn, 1) := dk_172 (dk_at dksX7_same_3 6 rfl rfl)
theorem dX7_same_78 : decode cX7_same 78 = .ok (.iconst 0, 1) := dk_3 (dk_at dksX7_same_3 7 rfl rfl)
theorem dX7_same_79 : decode cX7_same 79 = .ok (.istore 5, 2) := dk_54 5 (dk_at dksX7_same_3 8 rfl rfl)
theorem dX7_same_81 : decode cX7_same 81 = .ok (.iload 5, 2) := dk_21 5 (dk_at dksX7_same_3 10 rfl rfl)
theorem dX7_same_83 : decode cX7_same 83 = .ok (.bipush 12, 2) := dk_16 12 (dk_at dksX7_same_3 12 rfl rfl)
theorem dX7_same_85 : decode cX7_same 85 = .ok (.iload 4, 2) := dk_21 4 (dk_at dksX7_same_3 14 rfl rfl)
theorem dX7_same_87 : decode cX7_same 87 = .ok (.imul, 1) := dk_104 (dk_at dksX7_same_3 16 rfl rfl)
theorem dX7_same_88 : decode cX7_same 88 = .ok (.if_icmp .ge 28, 3) := dk_162 0 28 (dk_at dksX7_same_3 17 rfl rfl)
theorem dX7_same_91 : decode cX7_same 91 = .ok (.aload_n 0, 1) := dk_42 (dk_at dksX7_same_3 20 rfl rfl)
theorem dX7_same_92 : decode cX7_same 92 = .ok (.getfield 172, 3) := dk_180 0 172 (dk_at dksX7_same_3 21 rfl rfl)
theorem dX7_same_95 : decode cX7_same 95 = .ok (.iload 5, 2) := dk_21 5 (dk_at dksX7_same_4 0 rfl rfl)
theorem dX7_same_97 : decode cX7_same 97 = .ok (.iaload, 1) := dk_46 (dk_at dksX7_same_4 2 rfl rfl)
theorem dX7_same_98 : decode cX7_same 98 = .ok (.aload_n 0, 1) := dk_42 (dk_at dksX7_same_4 3 rfl rfl)
theorem dX7_same_99 : decode cX7_same 99 = .ok (.getfield 66, 3) := dk_180 0 66 (dk_at dksX7_same_4 4 rfl rfl)
theorem dX7_same_102 : decode cX7_same 102 = .ok (.iload 5, 2) := dk_21 5 (dk_at dksX7_same_4 7 rfl rfl)
theorem dX7_same_104 : decode cX7_same 104 = .ok (.iaload, 1) := dk_46 (dk_at dksX7_same_4 9 rfl rfl)
theorem dX7_same_105 : decode cX7_same 105 = .ok (.if_icmp .eq 5, 3) := dk_159 0 5 (dk_at dksX7_same_4 10 rfl rfl)
theorem dX7_same_108 : decode cX7_same 108 = .ok (.iconst 0, 1) := dk_3 (dk_at dksX7_same_4 13 rfl rfl)
theorem dX7_same_109 : decode cX7_same 109 = .ok (.ireturn, 1) := dk_172 (dk_at dksX7_same_4 14 rfl rfl)
theorem dX7_same_110 : decode cX7_same 110 = .ok (.iinc 5 1, 3) := dk_132 5 1 (dk_at dksX7_same_4 15 rfl rfl)
theorem dX7_same_113 : decode cX7_same 113 = .ok (.goto (-32), 3) := dk_167 255 224 (dk_at dksX7_same_4 18 rfl rfl)
theorem dX7_same_116 : decode cX7_same 116 = .ok (.iconst 1, 1) := dk_4 (dk_at dksX7_same_4 21 rfl rfl)
theorem dX7_same_117 : decode cX7_same 117 = .ok (.ireturn, 1) := dk_172 (dk_at dksX7_same_4 22 rfl rfl)
abbrev cX7_keep : ByteArray := prog_14_method_92_code
def yX7_keep : MethodName := ⟨RX7, "keep", "(I)Z"⟩
def dkwX7_keep_1 : List UInt8 := [182, 1, 90, 42, 180, 0, 32, 27, 4, 84, 4, 172]
abbrev dktX7_keep_1 : List UInt8 := dkwX7_keep_1 ++ []
def dkwX7_keep_0 : List UInt8 := [42, 3, 181, 0, 190, 27, 3, 16, 7, 184, 0, 207, 154, 0, 5, 3, 172, 42, 3, 5, 27, 96]
abbrev dktX7_keep_0 : List UInt8 := dkwX7_keep_0 ++ dktX7_keep_1
theorem dksX7_keep_0 : cX7_keep.data.toList.drop 0 = dktX7_keep_0 := by decide +kernel
theorem dksX7_keep_1 : cX7_keep.data.toList.drop 22 = dktX7_keep_1 := dk_seg dksX7_keep_0 22 rfl rfl
theorem dX7_keep_0 : decode cX7_keep 0 = .ok (.aload_n 0, 1) := dk_42 (dk_at dksX7_keep_0 0 rfl rfl)
theorem dX7_keep_1 : decode cX7_keep 1 = .ok (.iconst 0, 1) := dk_3 (dk_at dksX7_keep_0 1 rfl rfl)
theorem dX7_keep_2 : decode cX7_keep 2 = .ok (.putfield 190, 3) := dk_181 0 190 (dk_at dksX7_keep_0 2 rfl rfl)
theorem dX7_keep_5 : decode cX7_keep 5 = .ok (.iload_n 1, 1) := dk_27 (dk_at dksX7_keep_0 5 rfl rfl)
theorem dX7_keep_6 : decode cX7_keep 6 = .ok (.iconst 0, 1) := dk_3 (dk_at dksX7_keep_0 6 rfl rfl)
theorem dX7_keep_7 : decode cX7_keep 7 = .ok (.bipush 7, 2) := dk_16 7 (dk_at dksX7_keep_0 7 rfl rfl)
theorem dX7_keep_9 : decode cX7_keep 9 = .ok (.invokestatic 207, 3) := dk_184 0 207 (dk_at dksX7_keep_0 9 rfl rfl)
theorem dX7_keep_12 : decode cX7_keep 12 = .ok (.ifCond .ne 5, 3) := dk_154 0 5 (dk_at dksX7_keep_0 12 rfl rfl)
theorem dX7_keep_15 : decode cX7_keep 15 = .ok (.iconst 0, 1) := dk_3 (dk_at dksX7_keep_0 15 rfl rfl)
theorem dX7_keep_16 : decode cX7_keep 16 = .ok (.ireturn, 1) := dk_172 (dk_at dksX7_keep_0 16 rfl rfl)
theorem dX7_keep_17 : decode cX7_keep 17 = .ok (.aload_n 0, 1) := dk_42 (dk_at dksX7_keep_0 17 rfl rfl)
theorem dX7_keep_18 : decode cX7_keep 18 = .ok (.iconst 0, 1) := dk_3 (dk_at dksX7_keep_0 18 rfl rfl)
theorem dX7_keep_19 : decode cX7_keep 19 = .ok (.iconst 2, 1) := dk_5 (dk_at dksX7_keep_0 19 rfl rfl)
theorem dX7_keep_20 : decode cX7_keep 20 = .ok (.iload_n 1, 1) := dk_27 (dk_at dksX7_keep_0 20 rfl rfl)
theorem dX7_keep_21 : decode cX7_keep 21 = .ok (.iadd, 1) := dk_96 (dk_at dksX7_keep_0 21 rfl rfl)
theorem dX7_keep_22 : decode cX7_keep 22 = .ok (.invokevirtual 346, 3) := dk_182 1 90 (dk_at dksX7_keep_1 0 rfl rfl)
theorem dX7_keep_25 : decode cX7_keep 25 = .ok (.aload_n 0, 1) := dk_42 (dk_at dksX7_keep_1 3 rfl rfl)
theorem dX7_keep_26 : decode cX7_keep 26 = .ok (.getfield 32, 3) := dk_180 0 32 (dk_at dksX7_keep_1 4 rfl rfl)
theorem dX7_keep_29 : decode cX7_keep 29 = .ok (.iload_n 1, 1) := dk_27 (dk_at dksX7_keep_1 7 rfl rfl)
theorem dX7_keep_30 : decode cX7_keep 30 = .ok (.iconst 1, 1) := dk_4 (dk_at dksX7_keep_1 8 rfl rfl)
theorem dX7_keep_31 : decode cX7_keep 31 = .ok (.bastore, 1) := dk_84 (dk_at dksX7_keep_1 9 rfl rfl)
theorem dX7_keep_32 : decode cX7_keep 32 = .ok (.iconst 1, 1) := dk_4 (dk_at dksX7_keep_1 10 rfl rfl)
theorem dX7_keep_33 : decode cX7_keep 33 = .ok (.ireturn, 1) := dk_172 (dk_at dksX7_keep_1 11 rfl rfl)
abbrev cX7_use : ByteArray := prog_14_method_94_code
def yX7_use : MethodName := ⟨RX7, "use", "(I)I"⟩
def dkwX7_use_1 : List UInt8 := [180, 0, 26, 3, 46, 172]
abbrev dktX7_use_1 : List UInt8 := dkwX7_use_1 ++ []
def dkwX7_use_0 : List UInt8 := [42, 3, 181, 0, 190, 42, 27, 182, 2, 24, 154, 0, 5, 2, 172, 42, 5, 27, 96, 3, 182, 1, 90, 42]
abbrev dktX7_use_0 : List UInt8 := dkwX7_use_0 ++ dktX7_use_1
theorem dksX7_use_0 : cX7_use.data.toList.drop 0 = dktX7_use_0 := by decide +kernel
theorem dksX7_use_1 : cX7_use.data.toList.drop 24 = dktX7_use_1 := dk_seg dksX7_use_0 24 rfl rfl
theorem dX7_use_0 : decode cX7_use 0 = .ok (.aload_n 0, 1) := dk_42 (dk_at dksX7_use_0 0 rfl rfl)
theorem dX7_use_1 : decode cX7_use 1 = .ok (.iconst 0, 1) := dk_3 (dk_at dksX7_use_0 1 rfl rfl)
theorem dX7_use_2 : decode cX7_use 2 = .ok (.putfield 190, 3) := dk_181 0 190 (dk_at dksX7_use_0 2 rfl rfl)
theorem dX7_use_5 : decode cX7_use 5 = .ok (.aload_n 0, 1) := dk_42 (dk_at dksX7_use_0 5 rfl rfl)
theorem dX7_use_6 : decode cX7_use 6 = .ok (.iload_n 1, 1) := dk_27 (dk_at dksX7_use_0 6 rfl rfl)
theorem dX7_use_7 : decode cX7_use 7 = .ok (.invokevirtual 536, 3) := dk_182 2 24 (dk_at dksX7_use_0 7 rfl rfl)
theorem dX7_use_10 : decode cX7_use 10 = .ok (.ifCond .ne 5, 3) := dk_154 0 5 (dk_at dksX7_use_0 10 rfl rfl)
theorem dX7_use_13 : decode cX7_use 13 = .ok (.iconst (-1), 1) := dk_2 (dk_at dksX7_use_0 13 rfl rfl)
theorem dX7_use_14 : decode cX7_use 14 = .ok (.ireturn, 1) := dk_172 (dk_at dksX7_use_0 14 rfl rfl)
theorem dX7_use_15 : decode cX7_use 15 = .ok (.aload_n 0, 1) := dk_42 (dk_at dksX7_use_0 15 rfl rfl)
theorem dX7_use_16 : decode cX7_use 16 = .ok (.iconst 2, 1) := dk_5 (dk_at dksX7_use_0 16 rfl rfl)
theorem dX7_use_17 : decode cX7_use 17 = .ok (.iload_n 1, 1) := dk_27 (dk_at dksX7_use_0 17 rfl rfl)
theorem dX7_use_18 : decode cX7_use 18 = .ok (.iadd, 1) := dk_96 (dk_at dksX7_use_0 18 rfl rfl)
theorem dX7_use_19 : decode cX7_use 19 = .ok (.iconst 0, 1) := dk_3 (dk_at dksX7_use_0 19 rfl rfl)
theorem dX7_use_20 : decode cX7_use 20 = .ok (.invokevirtual 346, 3) := dk_182 1 90 (dk_at dksX7_use_0 20 rfl rfl)
theorem dX7_use_23 : decode cX7_use 23 = .ok (.aload_n 0, 1) := dk_42 (dk_at dksX7_use_0 23 rfl rfl)
theorem dX7_use_24 : decode cX7_use 24 = .ok (.getfield 26, 3) := dk_180 0 26 (dk_at dksX7_use_1 0 rfl rfl)
theorem dX7_use_27 : decode cX7_use 27 = .ok (.iconst 0, 1) := dk_3 (dk_at dksX7_use_1 3 rfl rfl)
theorem dX7_use_28 : decode cX7_use 28 = .ok (.iaload, 1) := dk_46 (dk_at dksX7_use_1 4 rfl rfl)
theorem dX7_use_29 : decode cX7_use 29 = .ok (.ireturn, 1) := dk_172 (dk_at dksX7_use_1 5 rfl rfl)
abbrev cX7_isThere : ByteArray := prog_14_method_93_code
def yX7_isThere : MethodName := ⟨RX7, "isThere", "(I)Z"⟩
def dkwX7_isThere_1 : List UInt8 := [172]
abbrev dktX7_isThere_1 : List UInt8 := dkwX7_isThere_1 ++ []
def dkwX7_isThere_0 : List UInt8 := [27, 3, 16, 7, 184, 0, 207, 153, 0, 16, 42, 180, 0, 32, 27, 51, 153, 0, 7, 4, 167, 0, 4, 3]
abbrev dktX7_isThere_0 : List UInt8 := dkwX7_isThere_0 ++ dktX7_isThere_1
theorem dksX7_isThere_0 : cX7_isThere.data.toList.drop 0 = dktX7_isThere_0 := by decide +kernel
theorem dksX7_isThere_1 : cX7_isThere.data.toList.drop 24 = dktX7_isThere_1 := dk_seg dksX7_isThere_0 24 rfl rfl
theorem dX7_isThere_0 : decode cX7_isThere 0 = .ok (.iload_n 1, 1) := dk_27 (dk_at dksX7_isThere_0 0 rfl rfl)
theorem dX7_isThere_1 : decode cX7_isThere 1 = .ok (.iconst 0, 1) := dk_3 (dk_at dksX7_isThere_0 1 rfl rfl)
theorem dX7_isThere_2 : decode cX7_isThere 2 = .ok (.bipush 7, 2) := dk_16 7 (dk_at dksX7_isThere_0 2 rfl rfl)
theorem dX7_isThere_4 : decode cX7_isThere 4 = .ok (.invokestatic 207, 3) := dk_184 0 207 (dk_at dksX7_isThere_0 4 rfl rfl)
theorem dX7_isThere_7 : decode cX7_isThere 7 = .ok (.ifCond .eq 16, 3) := dk_153 0 16 (dk_at dksX7_isThere_0 7 rfl rfl)
theorem dX7_isThere_10 : decode cX7_isThere 10 = .ok (.aload_n 0, 1) := dk_42 (dk_at dksX7_isThere_0 10 rfl rfl)
theorem dX7_isThere_11 : decode cX7_isThere 11 = .ok (.getfield 32, 3) := dk_180 0 32 (dk_at dksX7_isThere_0 11 rfl rfl)
theorem dX7_isThere_14 : decode cX7_isThere 14 = .ok (.iload_n 1, 1) := dk_27 (dk_at dksX7_isThere_0 14 rfl rfl)
theorem dX7_isThere_15 : decode cX7_isThere 15 = .ok (.baload, 1) := dk_51 (dk_at dksX7_isThere_0 15 rfl rfl)
theorem dX7_isThere_16 : decode cX7_isThere 16 = .ok (.ifCond .eq 7, 3) := dk_153 0 7 (dk_at dksX7_isThere_0 16 rfl rfl)
theorem dX7_isThere_19 : decode cX7_isThere 19 = .ok (.iconst 1, 1) := dk_4 (dk_at dksX7_isThere_0 19 rfl rfl)
theorem dX7_isThere_20 : decode cX7_isThere 20 = .ok (.goto 4, 3) := dk_167 0 4 (dk_at dksX7_isThere_0 20 rfl rfl)
theorem dX7_isThere_23 : decode cX7_isThere 23 = .ok (.iconst 0, 1) := dk_3 (dk_at dksX7_isThere_0 23 rfl rfl)
theorem dX7_isThere_24 : decode cX7_isThere 24 = .ok (.ireturn, 1) := dk_172 (dk_at dksX7_isThere_1 0 rfl rfl)
abbrev cX7_apart : ByteArray := prog_14_method_97_code
def yX7_apart : MethodName := ⟨RX7, "apart", "(II)I"⟩
def dkwX7_apart_1 : List UInt8 := [96, 5, 28, 96, 182, 2, 30, 167, 0, 4, 2, 172]
abbrev dktX7_apart_1 : List UInt8 := dkwX7_apart_1 ++ []
def dkwX7_apart_0 : List UInt8 := [42, 3, 181, 0, 190, 42, 27, 182, 2, 24, 153, 0, 24, 42, 28, 182, 2, 24, 153, 0, 16, 42, 5, 27]
abbrev dktX7_apart_0 : List UInt8 := dkwX7_apart_0 ++ dktX7_apart_1
theorem dksX7_apart_0 : cX7_apart.data.toList.drop 0 = dktX7_apart_0 := by decide +kernel
theorem dksX7_apart_1 : cX7_apart.data.toList.drop 24 = dktX7_apart_1 := dk_seg dksX7_apart_0 24 rfl rfl
theorem dX7_apart_0 : decode cX7_apart 0 = .ok (.aload_n 0, 1) := dk_42 (dk_at dksX7_apart_0 0 rfl rfl)
theorem dX7_apart_1 : decode cX7_apart 1 = .ok (.iconst 0, 1) := dk_3 (dk_at dksX7_apart_0 1 rfl rfl)
theorem dX7_apart_2 : decode cX7_apart 2 = .ok (.putfield 190, 3) := dk_181 0 190 (dk_at dksX7_apart_0 2 rfl rfl)
theorem dX7_apart_5 : decode cX7_apart 5 = .ok (.aload_n 0, 1) := dk_42 (dk_at dksX7_apart_0 5 rfl rfl)
theorem dX7_apart_6 : decode cX7_apart 6 = .ok (.iload_n 1, 1) := dk_27 (dk_at dksX7_apart_0 6 rfl rfl)
theorem dX7_apart_7 : decode cX7_apart 7 = .ok (.invokevirtual 536, 3) := dk_182 2 24 (dk_at dksX7_apart_0 7 rfl rfl)
theorem dX7_apart_10 : decode cX7_apart 10 = .ok (.ifCond .eq 24, 3) := dk_153 0 24 (dk_at dksX7_apart_0 10 rfl rfl)
theorem dX7_apart_13 : decode cX7_apart 13 = .ok (.aload_n 0, 1) := dk_42 (dk_at dksX7_apart_0 13 rfl rfl)
theorem dX7_apart_14 : decode cX7_apart 14 = .ok (.iload_n 2, 1) := dk_28 (dk_at dksX7_apart_0 14 rfl rfl)
theorem dX7_apart_15 : decode cX7_apart 15 = .ok (.invokevirtual 536, 3) := dk_182 2 24 (dk_at dksX7_apart_0 15 rfl rfl)
theorem dX7_apart_18 : decode cX7_apart 18 = .ok (.ifCond .eq 16, 3) := dk_153 0 16 (dk_at dksX7_apart_0 18 rfl rfl)
theorem dX7_apart_21 : decode cX7_apart 21 = .ok (.aload_n 0, 1) := dk_42 (dk_at dksX7_apart_0 21 rfl rfl)
theorem dX7_apart_22 : decode cX7_apart 22 = .ok (.iconst 2, 1) := dk_5 (dk_at dksX7_apart_0 22 rfl rfl)
theorem dX7_apart_23 : decode cX7_apart 23 = .ok (.iload_n 1, 1) := dk_27 (dk_at dksX7_apart_0 23 rfl rfl)
theorem dX7_apart_24 : decode cX7_apart 24 = .ok (.iadd, 1) := dk_96 (dk_at dksX7_apart_1 0 rfl rfl)
theorem dX7_apart_25 : decode cX7_apart 25 = .ok (.iconst 2, 1) := dk_5 (dk_at dksX7_apart_1 1 rfl rfl)
theorem dX7_apart_26 : decode cX7_apart 26 = .ok (.iload_n 2, 1) := dk_28 (dk_at dksX7_apart_1 2 rfl rfl)
theorem dX7_apart_27 : decode cX7_apart 27 = .ok (.iadd, 1) := dk_96 (dk_at dksX7_apart_1 3 rfl rfl)
theorem dX7_apart_28 : decode cX7_apart 28 = .ok (.invokevirtual 542, 3) := dk_182 2 30 (dk_at dksX7_apart_1 4 rfl rfl)
theorem dX7_apart_31 : decode cX7_apart 31 = .ok (.goto 4, 3) := dk_167 0 4 (dk_at dksX7_apart_1 7 rfl rfl)
theorem dX7_apart_34 : decode cX7_apart 34 = .ok (.iconst (-1), 1) := dk_2 (dk_at dksX7_apart_1 10 rfl rfl)
theorem dX7_apart_35 : decode cX7_apart 35 = .ok (.ireturn, 1) := dk_172 (dk_at dksX7_apart_1 11 rfl rfl)
abbrev cX7_differ : ByteArray := prog_14_method_95_code
def yX7_differ : MethodName := ⟨RX7, "differ", "(II)I"⟩
def dkwX7_differ_7 : List UInt8 := [167, 255, 136, 29, 172]
abbrev dktX7_differ_7 : List UInt8 := dkwX7_differ_7 ++ []
def dkwX7_differ_6 : List UInt8 := [3, 84, 132, 6, 1, 167, 255, 172, 29, 21, 5, 153, 0, 7, 5, 167, 0, 4, 3, 100, 62, 132, 4, 1]
abbrev dktX7_differ_6 : List UInt8 := dkwX7_differ_6 ++ dktX7_differ_7
def dkwX7_differ_5 : List UInt8 := [180, 0, 187, 21, 6, 42, 180, 0, 187, 21, 6, 51, 154, 0, 8, 21, 5, 153, 0, 7, 4, 167, 0, 4]
abbrev dktX7_differ_5 : List UInt8 := dkwX7_differ_5 ++ dktX7_differ_6
def dkwX7_differ_4 : List UInt8 := [21, 4, 96, 16, 60, 28, 104, 21, 6, 96, 182, 2, 27, 153, 0, 7, 4, 167, 0, 4, 3, 54, 5, 42]
abbrev dktX7_differ_4 : List UInt8 := dkwX7_differ_4 ++ dktX7_differ_5
def dkwX7_differ_3 : List UInt8 := [162, 0, 79, 21, 5, 154, 0, 74, 42, 180, 0, 187, 21, 6, 51, 154, 0, 28, 42, 16, 60, 27, 104]
abbrev dktX7_differ_3 : List UInt8 := dkwX7_differ_3 ++ dktX7_differ_4
def dkwX7_differ_2 : List UInt8 := [180, 0, 26, 27, 46, 162, 0, 115, 3, 54, 5, 3, 54, 6, 21, 6, 42, 180, 0, 26, 28, 46]
abbrev dktX7_differ_2 : List UInt8 := dkwX7_differ_2 ++ dktX7_differ_3
def dkwX7_differ_1 : List UInt8 := [46, 162, 0, 17, 42, 180, 0, 187, 21, 4, 3, 84, 132, 4, 1, 167, 255, 234, 3, 54, 4, 21, 4, 42]
abbrev dktX7_differ_1 : List UInt8 := dkwX7_differ_1 ++ dktX7_differ_2
def dkwX7_differ_0 : List UInt8 := [42, 180, 0, 26, 27, 46, 42, 180, 0, 26, 28, 46, 96, 62, 3, 54, 4, 21, 4, 42, 180, 0, 26, 28]
abbrev dktX7_differ_0 : List UInt8 := dkwX7_differ_0 ++ dktX7_differ_1
theorem dksX7_differ_0 : cX7_differ.data.toList.drop 0 = dktX7_differ_0 := by decide +kernel
theorem dksX7_differ_1 : cX7_differ.data.toList.drop 24 = dktX7_differ_1 := dk_seg dksX7_differ_0 24 rfl rfl
theorem dksX7_differ_2 : cX7_differ.data.toList.drop 48 = dktX7_differ_2 := dk_seg dksX7_differ_1 24 rfl rfl
theorem dksX7_differ_3 : cX7_differ.data.toList.drop 70 = dktX7_differ_3 := dk_seg dksX7_differ_2 22 rfl rfl
theorem dksX7_differ_4 : cX7_differ.data.toList.drop 93 = dktX7_differ_4 := dk_seg dksX7_differ_3 23 rfl rfl
theorem dksX7_differ_5 : cX7_differ.data.toList.drop 117 = dktX7_differ_5 := dk_seg dksX7_differ_4 24 rfl rfl
theorem dksX7_differ_6 : cX7_differ.data.toList.drop 141 = dktX7_differ_6 := dk_seg dksX7_differ_5 24 rfl rfl
theorem dksX7_differ_7 : cX7_differ.data.toList.drop 165 = dktX7_differ_7 := dk_seg dksX7_differ_6 24 rfl rfl
theorem dX7_differ_0 : decode cX7_differ 0 = .ok (.aload_n 0, 1) := dk_42 (dk_at dksX7_differ_0 0 rfl rfl)
theorem dX7_differ_1 : decode cX7_differ 1 = .ok (.getfield 26, 3) := dk_180 0 26 (dk_at dksX7_differ_0 1 rfl rfl)
theorem dX7_differ_4 : decode cX7_differ 4 = .ok (.iload_n 1, 1) := dk_27 (dk_at dksX7_differ_0 4 rfl rfl)
theorem dX7_differ_5 : decode cX7_differ 5 = .ok (.iaload, 1) := dk_46 (dk_at dksX7_differ_0 5 rfl rfl)
theorem dX7_differ_6 : decode cX7_differ 6 = .ok (.aload_n 0, 1) := dk_42 (dk_at dksX7_differ_0 6 rfl rfl)
theorem dX7_differ_7 : decode cX7_differ 7 = .ok (.getfield 26, 3) := dk_180 0 26 (dk_at dksX7_differ_0 7 rfl rfl)
theorem dX7_differ_10 : decode cX7_differ 10 = .ok (.iload_n 2, 1) := dk_28 (dk_at dksX7_differ_0 10 rfl rfl)
theorem dX7_differ_11 : decode cX7_differ 11 = .ok (.iaload, 1) := dk_46 (dk_at dksX7_differ_0 11 rfl rfl)
theorem dX7_differ_12 : decode cX7_differ 12 = .ok (.iadd, 1) := dk_96 (dk_at dksX7_differ_0 12 rfl rfl)
theorem dX7_differ_13 : decode cX7_differ 13 = .ok (.istore_n 3, 1) := dk_62 (dk_at dksX7_differ_0 13 rfl rfl)
theorem dX7_differ_14 : decode cX7_differ 14 = .ok (.iconst 0, 1) := dk_3 (dk_at dksX7_differ_0 14 rfl rfl)
theorem dX7_differ_15 : decode cX7_differ 15 = .ok (.istore 4, 2) := dk_54 4 (dk_at dksX7_differ_0 15 rfl rfl)
theorem dX7_differ_17 : decode cX7_differ 17 = .ok (.iload 4, 2) := dk_21 4 (dk_at dksX7_differ_0 17 rfl rfl)
theorem dX7_differ_19 : decode cX7_differ 19 = .ok (.aload_n 0, 1) := dk_42 (dk_at dksX7_differ_0 19 rfl rfl)
theorem dX7_differ_20 : decode cX7_differ 20 = .ok (.getfield 26, 3) := dk_180 0 26 (dk_at dksX7_differ_0 20 rfl rfl)
theorem dX7_differ_23 : decode cX7_differ 23 = .ok (.iload_n 2, 1) := dk_28 (dk_at dksX7_differ_0 23 rfl rfl)
theorem dX7_differ_24 : decode cX7_differ 24 = .ok (.iaload, 1) := dk_46 (dk_at dksX7_differ_1 0 rfl rfl)
theorem dX7_differ_25 : decode cX7_differ 25 = .ok (.if_icmp .ge 17, 3) := dk_162 0 17 (dk_at dksX7_differ_1 1 rfl rfl)
theorem dX7_differ_28 : decode cX7_differ 28 = .ok (.aload_n 0, 1) := dk_42 (dk_at dksX7_differ_1 4 rfl rfl)
theorem dX7_differ_29 : decode cX7_differ 29 = .ok (.getfield 187, 3) := dk_180 0 187 (dk_at dksX7_differ_1 5 rfl rfl)
theorem dX7_differ_32 : decode cX7_differ 32 = .ok (.iload 4, 2) := dk_21 4 (dk_at dksX7_differ_1 8 rfl rfl)
theorem dX7_differ_34 : decode cX7_differ 34 = .ok (.iconst 0, 1) := dk_3 (dk_at dksX7_differ_1 10 rfl rfl)
theorem dX7_differ_35 : decode cX7_differ 35 = .ok (.bastore, 1) := dk_84 (dk_at dksX7_differ_1 11 rfl rfl)
theorem dX7_differ_36 : decode cX7_differ 36 = .ok (.iinc 4 1, 3) := dk_132 4 1 (dk_at dksX7_differ_1 12 rfl rfl)
theorem dX7_differ_39 : decode cX7_differ 39 = .ok (.goto (-22), 3) := dk_167 255 234 (dk_at dksX7_differ_1 15 rfl rfl)
theorem dX7_differ_42 : decode cX7_differ 42 = .ok (.iconst 0, 1) := dk_3 (dk_at dksX7_differ_1 18 rfl rfl)
theorem dX7_differ_43 : decode cX7_differ 43 = .ok (.istore 4, 2) := dk_54 4 (dk_at dksX7_differ_1 19 rfl rfl)
theorem dX7_differ_45 : decode cX7_differ 45 = .ok (.iload 4, 2) := dk_21 4 (dk_at dksX7_differ_1 21 rfl rfl)
theorem dX7_differ_47 : decode cX7_differ 47 = .ok (.aload_n 0, 1) := dk_42 (dk_at dksX7_differ_1 23 rfl rfl)
theorem dX7_differ_48 : decode cX7_differ 48 = .ok (.getfield 26, 3) := dk_180 0 26 (dk_at dksX7_differ_2 0 rfl rfl)
theorem dX7_differ_51 : decode cX7_differ 51 = .ok (.iload_n 1, 1) := dk_27 (dk_at dksX7_differ_2 3 rfl rfl)
theorem dX7_differ_52 : decode cX7_differ 52 = .ok (.iaload, 1) := dk_46 (dk_at dksX7_differ_2 4 rfl rfl)
theorem dX7_differ_53 : decode cX7_differ 53 = .ok (.if_icmp .ge 115, 3) := dk_162 0 115 (dk_at dksX7_differ_2 5 rfl rfl)
theorem dX7_differ_56 : decode cX7_differ 56 = .ok (.iconst 0, 1) := dk_3 (dk_at dksX7_differ_2 8 rfl rfl)
theorem dX7_differ_57 : decode cX7_differ 57 = .ok (.istore 5, 2) := dk_54 5 (dk_at dksX7_differ_2 9 rfl rfl)
theorem dX7_differ_59 : decode cX7_differ 59 = .ok (.iconst 0, 1) := dk_3 (dk_at dksX7_differ_2 11 rfl rfl)
theorem dX7_differ_60 : decode cX7_differ 60 = .ok (.istore 6, 2) := dk_54 6 (dk_at dksX7_differ_2 12 rfl rfl)
theorem dX7_differ_62 : decode cX7_differ 62 = .ok (.iload 6, 2) := dk_21 6 (dk_at dksX7_differ_2 14 rfl rfl)
theorem dX7_differ_64 : decode cX7_differ 64 = .ok (.aload_n 0, 1) := dk_42 (dk_at dksX7_differ_2 16 rfl rfl)
theorem dX7_differ_65 : decode cX7_differ 65 = .ok (.getfield 26, 3) := dk_180 0 26 (dk_at dksX7_differ_2 17 rfl rfl)
theorem dX7_differ_68 : decode cX7_differ 68 = .ok (.iload_n 2, 1) := dk_28 (dk_at dksX7_differ_2 20 rfl rfl)
theorem dX7_differ_69 : decode cX7_differ 69 = .ok (.iaload, 1) := dk_46 (dk_at dksX7_differ_2 21 rfl rfl)
theorem dX7_differ_70 : decode cX7_differ 70 = .ok (.if_icmp .ge 79, 3) := dk_162 0 79 (dk_at dksX7_differ_3 0 rfl rfl)
theorem dX7_differ_73 : decode cX7_differ 73 = .ok (.iload 5, 2) := dk_21 5 (dk_at dksX7_differ_3 3 rfl rfl)
theorem dX7_differ_75 : decode cX7_differ 75 = .ok (.ifCond .ne 74, 3) := dk_154 0 74 (dk_at dksX7_differ_3 5 rfl rfl)
theorem dX7_differ_78 : decode cX7_differ 78 = .ok (.aload_n 0, 1) := dk_42 (dk_at dksX7_differ_3 8 rfl rfl)
theorem dX7_differ_79 : decode cX7_differ 79 = .ok (.getfield 187, 3) := dk_180 0 187 (dk_at dksX7_differ_3 9 rfl rfl)
theorem dX7_differ_82 : decode cX7_differ 82 = .ok (.iload 6, 2) := dk_21 6 (dk_at dksX7_differ_3 12 rfl rfl)
theorem dX7_differ_84 : decode cX7_differ 84 = .ok (.baload, 1) := dk_51 (dk_at dksX7_differ_3 14 rfl rfl)
theorem dX7_differ_85 : decode cX7_differ 85 = .ok (.ifCond .ne 28, 3) := dk_154 0 28 (dk_at dksX7_differ_3 15 rfl rfl)
theorem dX7_differ_88 : decode cX7_differ 88 = .ok (.aload_n 0, 1) := dk_42 (dk_at dksX7_differ_3 18 rfl rfl)
theorem dX7_differ_89 : decode cX7_differ 89 = .ok (.bipush 60, 2) := dk_16 60 (dk_at dksX7_differ_3 19 rfl rfl)
theorem dX7_differ_91 : decode cX7_differ 91 = .ok (.iload_n 1, 1) := dk_27 (dk_at dksX7_differ_3 21 rfl rfl)
theorem dX7_differ_92 : decode cX7_differ 92 = .ok (.imul, 1) := dk_104 (dk_at dksX7_differ_3 22 rfl rfl)
theorem dX7_differ_93 : decode cX7_differ 93 = .ok (.iload 4, 2) := dk_21 4 (dk_at dksX7_differ_4 0 rfl rfl)
theorem dX7_differ_95 : decode cX7_differ 95 = .ok (.iadd, 1) := dk_96 (dk_at dksX7_differ_4 2 rfl rfl)
theorem dX7_differ_96 : decode cX7_differ 96 = .ok (.bipush 60, 2) := dk_16 60 (dk_at dksX7_differ_4 3 rfl rfl)
theorem dX7_differ_98 : decode cX7_differ 98 = .ok (.iload_n 2, 1) := dk_28 (dk_at dksX7_differ_4 5 rfl rfl)
theorem dX7_differ_99 : decode cX7_differ 99 = .ok (.imul, 1) := dk_104 (dk_at dksX7_differ_4 6 rfl rfl)
theorem dX7_differ_100 : decode cX7_differ 100 = .ok (.iload 6, 2) := dk_21 6 (dk_at dksX7_differ_4 7 rfl rfl)
theorem dX7_differ_102 : decode cX7_differ 102 = .ok (.iadd, 1) := dk_96 (dk_at dksX7_differ_4 9 rfl rfl)
theorem dX7_differ_103 : decode cX7_differ 103 = .ok (.invokevirtual 539, 3) := dk_182 2 27 (dk_at dksX7_differ_4 10 rfl rfl)
theorem dX7_differ_106 : decode cX7_differ 106 = .ok (.ifCond .eq 7, 3) := dk_153 0 7 (dk_at dksX7_differ_4 13 rfl rfl)
theorem dX7_differ_109 : decode cX7_differ 109 = .ok (.iconst 1, 1) := dk_4 (dk_at dksX7_differ_4 16 rfl rfl)
theorem dX7_differ_110 : decode cX7_differ 110 = .ok (.goto 4, 3) := dk_167 0 4 (dk_at dksX7_differ_4 17 rfl rfl)
theorem dX7_differ_113 : decode cX7_differ 113 = .ok (.iconst 0, 1) := dk_3 (dk_at dksX7_differ_4 20 rfl rfl)
theorem dX7_differ_114 : decode cX7_differ 114 = .ok (.istore 5, 2) := dk_54 5 (dk_at dksX7_differ_4 21 rfl rfl)
theorem dX7_differ_116 : decode cX7_differ 116 = .ok (.aload_n 0, 1) := dk_42 (dk_at dksX7_differ_4 23 rfl rfl)
theorem dX7_differ_117 : decode cX7_differ 117 = .ok (.getfield 187, 3) := dk_180 0 187 (dk_at dksX7_differ_5 0 rfl rfl)
theorem dX7_differ_120 : decode cX7_differ 120 = .ok (.iload 6, 2) := dk_21 6 (dk_at dksX7_differ_5 3 rfl rfl)
theorem dX7_differ_122 : decode cX7_differ 122 = .ok (.aload_n 0, 1) := dk_42 (dk_at dksX7_differ_5 5 rfl rfl)
theorem dX7_differ_123 : decode cX7_differ 123 = .ok (.getfield 187, 3) := dk_180 0 187 (dk_at dksX7_differ_5 6 rfl rfl)
theorem dX7_differ_126 : decode cX7_differ 126 = .ok (.iload 6, 2) := dk_21 6 (dk_at dksX7_differ_5 9 rfl rfl)
theorem dX7_differ_128 : decode cX7_differ 128 = .ok (.baload, 1) := dk_51 (dk_at dksX7_differ_5 11 rfl rfl)
theorem dX7_differ_129 : decode cX7_differ 129 = .ok (.ifCond .ne 8, 3) := dk_154 0 8 (dk_at dksX7_differ_5 12 rfl rfl)
theorem dX7_differ_132 : decode cX7_differ 132 = .ok (.iload 5, 2) := dk_21 5 (dk_at dksX7_differ_5 15 rfl rfl)
theorem dX7_differ_134 : decode cX7_differ 134 = .ok (.ifCond .eq 7, 3) := dk_153 0 7 (dk_at dksX7_differ_5 17 rfl rfl)
theorem dX7_differ_137 : decode cX7_differ 137 = .ok (.iconst 1, 1) := dk_4 (dk_at dksX7_differ_5 20 rfl rfl)
theorem dX7_differ_138 : decode cX7_differ 138 = .ok (.goto 4, 3) := dk_167 0 4 (dk_at dksX7_differ_5 21 rfl rfl)
theorem dX7_differ_141 : decode cX7_differ 141 = .ok (.iconst 0, 1) := dk_3 (dk_at dksX7_differ_6 0 rfl rfl)
theorem dX7_differ_142 : decode cX7_differ 142 = .ok (.bastore, 1) := dk_84 (dk_at dksX7_differ_6 1 rfl rfl)
theorem dX7_differ_143 : decode cX7_differ 143 = .ok (.iinc 6 1, 3) := dk_132 6 1 (dk_at dksX7_differ_6 2 rfl rfl)
theorem dX7_differ_146 : decode cX7_differ 146 = .ok (.goto (-84), 3) := dk_167 255 172 (dk_at dksX7_differ_6 5 rfl rfl)
theorem dX7_differ_149 : decode cX7_differ 149 = .ok (.iload_n 3, 1) := dk_29 (dk_at dksX7_differ_6 8 rfl rfl)
theorem dX7_differ_150 : decode cX7_differ 150 = .ok (.iload 5, 2) := dk_21 5 (dk_at dksX7_differ_6 9 rfl rfl)
theorem dX7_differ_152 : decode cX7_differ 152 = .ok (.ifCond .eq 7, 3) := dk_153 0 7 (dk_at dksX7_differ_6 11 rfl rfl)
theorem dX7_differ_155 : decode cX7_differ 155 = .ok (.iconst 2, 1) := dk_5 (dk_at dksX7_differ_6 14 rfl rfl)
theorem dX7_differ_156 : decode cX7_differ 156 = .ok (.goto 4, 3) := dk_167 0 4 (dk_at dksX7_differ_6 15 rfl rfl)
theorem dX7_differ_159 : decode cX7_differ 159 = .ok (.iconst 0, 1) := dk_3 (dk_at dksX7_differ_6 18 rfl rfl)
theorem dX7_differ_160 : decode cX7_differ 160 = .ok (.isub, 1) := dk_100 (dk_at dksX7_differ_6 19 rfl rfl)
theorem dX7_differ_161 : decode cX7_differ 161 = .ok (.istore_n 3, 1) := dk_62 (dk_at dksX7_differ_6 20 rfl rfl)
theorem dX7_differ_162 : decode cX7_differ 162 = .ok (.iinc 4 1, 3) := dk_132 4 1 (dk_at dksX7_differ_6 21 rfl rfl)
theorem dX7_differ_165 : decode cX7_differ 165 = .ok (.goto (-120), 3) := dk_167 255 136 (dk_at dksX7_differ_7 0 rfl rfl)
theorem dX7_differ_168 : decode cX7_differ 168 = .ok (.iload_n 3, 1) := dk_29 (dk_at dksX7_differ_7 3 rfl rfl)
theorem dX7_differ_169 : decode cX7_differ 169 = .ok (.ireturn, 1) := dk_172 (dk_at dksX7_differ_7 4 rfl rfl)
abbrev cX7_isOne : ByteArray := prog_14_method_96_code
def yX7_isOne : MethodName := ⟨RX7, "isOne", "(II)Z"⟩
def dkwX7_isOne_2 : List UInt8 := [180, 0, 23, 27, 46, 42, 180, 0, 20, 28, 46, 160, 0, 7, 4, 167, 0, 4, 3, 172]
abbrev dktX7_isOne_2 : List UInt8 := dkwX7_isOne_2 ++ []
def dkwX7_isOne_1 : List UInt8 := [180, 0, 23, 28, 46, 159, 0, 33, 42, 180, 0, 20, 27, 46, 42, 180, 0, 23, 28, 46, 160, 0, 22, 42]
abbrev dktX7_isOne_1 : List UInt8 := dkwX7_isOne_1 ++ dktX7_isOne_2
def dkwX7_isOne_0 : List UInt8 := [42, 180, 0, 20, 27, 46, 42, 180, 0, 20, 28, 46, 160, 0, 18, 42, 180, 0, 23, 27, 46, 42]
abbrev dktX7_isOne_0 : List UInt8 := dkwX7_isOne_0 ++ dktX7_isOne_1
theorem dksX7_isOne_0 : cX7_isOne.data.toList.drop 0 = dktX7_isOne_0 := by decide +kernel
theorem dksX7_isOne_1 : cX7_isOne.data.toList.drop 22 = dktX7_isOne_1 := dk_seg dksX7_isOne_0 22 rfl rfl
theorem dksX7_isOne_2 : cX7_isOne.data.toList.drop 46 = dktX7_isOne_2 := dk_seg dksX7_isOne_1 24 rfl rfl
theorem dX7_isOne_0 : decode cX7_isOne 0 = .ok (.aload_n 0, 1) := dk_42 (dk_at dksX7_isOne_0 0 rfl rfl)
theorem dX7_isOne_1 : decode cX7_isOne 1 = .ok (.getfield 20, 3) := dk_180 0 20 (dk_at dksX7_isOne_0 1 rfl rfl)
theorem dX7_isOne_4 : decode cX7_isOne 4 = .ok (.iload_n 1, 1) := dk_27 (dk_at dksX7_isOne_0 4 rfl rfl)
theorem dX7_isOne_5 : decode cX7_isOne 5 = .ok (.iaload, 1) := dk_46 (dk_at dksX7_isOne_0 5 rfl rfl)
theorem dX7_isOne_6 : decode cX7_isOne 6 = .ok (.aload_n 0, 1) := dk_42 (dk_at dksX7_isOne_0 6 rfl rfl)
theorem dX7_isOne_7 : decode cX7_isOne 7 = .ok (.getfield 20, 3) := dk_180 0 20 (dk_at dksX7_isOne_0 7 rfl rfl)
theorem dX7_isOne_10 : decode cX7_isOne 10 = .ok (.iload_n 2, 1) := dk_28 (dk_at dksX7_isOne_0 10 rfl rfl)
theorem dX7_isOne_11 : decode cX7_isOne 11 = .ok (.iaload, 1) := dk_46 (dk_at dksX7_isOne_0 11 rfl rfl)
theorem dX7_isOne_12 : decode cX7_isOne 12 = .ok (.if_icmp .ne 18, 3) := dk_160 0 18 (dk_at dksX7_isOne_0 12 rfl rfl)
theorem dX7_isOne_15 : decode cX7_isOne 15 = .ok (.aload_n 0, 1) := dk_42 (dk_at dksX7_isOne_0 15 rfl rfl)
theorem dX7_isOne_16 : decode cX7_isOne 16 = .ok (.getfield 23, 3) := dk_180 0 23 (dk_at dksX7_isOne_0 16 rfl rfl)
theorem dX7_isOne_19 : decode cX7_isOne 19 = .ok (.iload_n 1, 1) := dk_27 (dk_at dksX7_isOne_0 19 rfl rfl)
theorem dX7_isOne_20 : decode cX7_isOne 20 = .ok (.iaload, 1) := dk_46 (dk_at dksX7_isOne_0 20 rfl rfl)
theorem dX7_isOne_21 : decode cX7_isOne 21 = .ok (.aload_n 0, 1) := dk_42 (dk_at dksX7_isOne_0 21 rfl rfl)
theorem dX7_isOne_22 : decode cX7_isOne 22 = .ok (.getfield 23, 3) := dk_180 0 23 (dk_at dksX7_isOne_1 0 rfl rfl)
theorem dX7_isOne_25 : decode cX7_isOne 25 = .ok (.iload_n 2, 1) := dk_28 (dk_at dksX7_isOne_1 3 rfl rfl)
theorem dX7_isOne_26 : decode cX7_isOne 26 = .ok (.iaload, 1) := dk_46 (dk_at dksX7_isOne_1 4 rfl rfl)
theorem dX7_isOne_27 : decode cX7_isOne 27 = .ok (.if_icmp .eq 33, 3) := dk_159 0 33 (dk_at dksX7_isOne_1 5 rfl rfl)
theorem dX7_isOne_30 : decode cX7_isOne 30 = .ok (.aload_n 0, 1) := dk_42 (dk_at dksX7_isOne_1 8 rfl rfl)
theorem dX7_isOne_31 : decode cX7_isOne 31 = .ok (.getfield 20, 3) := dk_180 0 20 (dk_at dksX7_isOne_1 9 rfl rfl)
theorem dX7_isOne_34 : decode cX7_isOne 34 = .ok (.iload_n 1, 1) := dk_27 (dk_at dksX7_isOne_1 12 rfl rfl)
theorem dX7_isOne_35 : decode cX7_isOne 35 = .ok (.iaload, 1) := dk_46 (dk_at dksX7_isOne_1 13 rfl rfl)
theorem dX7_isOne_36 : decode cX7_isOne 36 = .ok (.aload_n 0, 1) := dk_42 (dk_at dksX7_isOne_1 14 rfl rfl)
theorem dX7_isOne_37 : decode cX7_isOne 37 = .ok (.getfield 23, 3) := dk_180 0 23 (dk_at dksX7_isOne_1 15 rfl rfl)
theorem dX7_isOne_40 : decode cX7_isOne 40 = .ok (.iload_n 2, 1) := dk_28 (dk_at dksX7_isOne_1 18 rfl rfl)
theorem dX7_isOne_41 : decode cX7_isOne 41 = .ok (.iaload, 1) := dk_46 (dk_at dksX7_isOne_1 19 rfl rfl)
theorem dX7_isOne_42 : decode cX7_isOne 42 = .ok (.if_icmp .ne 22, 3) := dk_160 0 22 (dk_at dksX7_isOne_1 20 rfl rfl)
theorem dX7_isOne_45 : decode cX7_isOne 45 = .ok (.aload_n 0, 1) := dk_42 (dk_at dksX7_isOne_1 23 rfl rfl)
theorem dX7_isOne_46 : decode cX7_isOne 46 = .ok (.getfield 23, 3) := dk_180 0 23 (dk_at dksX7_isOne_2 0 rfl rfl)
theorem dX7_isOne_49 : decode cX7_isOne 49 = .ok (.iload_n 1, 1) := dk_27 (dk_at dksX7_isOne_2 3 rfl rfl)
theorem dX7_isOne_50 : decode cX7_isOne 50 = .ok (.iaload, 1) := dk_46 (dk_at dksX7_isOne_2 4 rfl rfl)
theorem dX7_isOne_51 : decode cX7_isOne 51 = .ok (.aload_n 0, 1) := dk_42 (dk_at dksX7_isOne_2 5 rfl rfl)
theorem dX7_isOne_52 : decode cX7_isOne 52 = .ok (.getfield 20, 3) := dk_180 0 20 (dk_at dksX7_isOne_2 6 rfl rfl)
theorem dX7_isOne_55 : decode cX7_isOne 55 = .ok (.iload_n 2, 1) := dk_28 (dk_at dksX7_isOne_2 9 rfl rfl)
theorem dX7_isOne_56 : decode cX7_isOne 56 = .ok (.iaload, 1) := dk_46 (dk_at dksX7_isOne_2 10 rfl rfl)
theorem dX7_isOne_57 : decode cX7_isOne 57 = .ok (.if_icmp .ne 7, 3) := dk_160 0 7 (dk_at dksX7_isOne_2 11 rfl rfl)
theorem dX7_isOne_60 : decode cX7_isOne 60 = .ok (.iconst 1, 1) := dk_4 (dk_at dksX7_isOne_2 14 rfl rfl)
theorem dX7_isOne_61 : decode cX7_isOne 61 = .ok (.goto 4, 3) := dk_167 0 4 (dk_at dksX7_isOne_2 15 rfl rfl)
theorem dX7_isOne_64 : decode cX7_isOne 64 = .ok (.iconst 0, 1) := dk_3 (dk_at dksX7_isOne_2 18 rfl rfl)
theorem dX7_isOne_65 : decode cX7_isOne 65 = .ok (.ireturn, 1) := dk_172 (dk_at dksX7_isOne_2 19 rfl rfl)
abbrev cX7_friday : ByteArray := prog_14_method_98_code
def yX7_friday : MethodName := ⟨RX7, "friday", "()I"⟩
def dkwX7_friday_7 : List UInt8 := [46, 79, 132, 6, 1, 167, 255, 233, 132, 4, 1, 167, 255, 177, 28, 172]
abbrev dktX7_friday_7 : List UInt8 := dkwX7_friday_7 ++ []
def dkwX7_friday_6 : List UInt8 := [181, 2, 38, 3, 54, 6, 21, 6, 27, 162, 0, 23, 42, 180, 0, 184, 21, 6, 42, 180, 0, 181, 21, 6]
abbrev dktX7_friday_6 : List UInt8 := dkwX7_friday_6 ++ dktX7_friday_7
def dkwX7_friday_5 : List UInt8 := [21, 5, 155, 0, 53, 28, 155, 0, 12, 21, 5, 28, 161, 0, 6, 167, 0, 40, 21, 5, 61, 42, 27]
abbrev dktX7_friday_5 : List UInt8 := dkwX7_friday_5 ++ dktX7_friday_6
def dkwX7_friday_4 : List UInt8 := [54, 4, 21, 4, 29, 162, 0, 79, 42, 21, 4, 27, 29, 182, 2, 33, 42, 27, 182, 2, 36, 54, 5]
abbrev dktX7_friday_4 : List UInt8 := dkwX7_friday_4 ++ dktX7_friday_5
def dkwX7_friday_3 : List UInt8 := [4, 62, 5, 54, 4, 21, 4, 27, 163, 0, 14, 29, 21, 4, 104, 62, 132, 4, 1, 167, 255, 242, 3]
abbrev dktX7_friday_3 : List UInt8 := dkwX7_friday_3 ++ dktX7_friday_4
def dkwX7_friday_2 : List UInt8 := [42, 8, 28, 104, 182, 0, 218, 182, 2, 24, 154, 0, 6, 16, 254, 172, 132, 2, 1, 167, 255, 231, 2, 61]
abbrev dktX7_friday_2 : List UInt8 := dkwX7_friday_2 ++ dktX7_friday_3
def dkwX7_friday_1 : List UInt8 := [154, 0, 13, 27, 4, 16, 6, 184, 0, 207, 154, 0, 6, 16, 254, 172, 3, 61, 28, 27, 162, 0, 26, 42]
abbrev dktX7_friday_1 : List UInt8 := dkwX7_friday_1 ++ dktX7_friday_2
def dkwX7_friday_0 : List UInt8 := [42, 3, 181, 0, 190, 42, 182, 0, 211, 42, 180, 0, 201, 8, 108, 60, 42, 180, 0, 201, 8, 112]
abbrev dktX7_friday_0 : List UInt8 := dkwX7_friday_0 ++ dktX7_friday_1
theorem dksX7_friday_0 : cX7_friday.data.toList.drop 0 = dktX7_friday_0 := by decide +kernel
theorem dksX7_friday_1 : cX7_friday.data.toList.drop 22 = dktX7_friday_1 := dk_seg dksX7_friday_0 22 rfl rfl
theorem dksX7_friday_2 : cX7_friday.data.toList.drop 46 = dktX7_friday_2 := dk_seg dksX7_friday_1 24 rfl rfl
theorem dksX7_friday_3 : cX7_friday.data.toList.drop 70 = dktX7_friday_3 := dk_seg dksX7_friday_2 24 rfl rfl
theorem dksX7_friday_4 : cX7_friday.data.toList.drop 93 = dktX7_friday_4 := dk_seg dksX7_friday_3 23 rfl rfl
theorem dksX7_friday_5 : cX7_friday.data.toList.drop 116 = dktX7_friday_5 := dk_seg dksX7_friday_4 23 rfl rfl
theorem dksX7_friday_6 : cX7_friday.data.toList.drop 139 = dktX7_friday_6 := dk_seg dksX7_friday_5 23 rfl rfl
theorem dksX7_friday_7 : cX7_friday.data.toList.drop 163 = dktX7_friday_7 := dk_seg dksX7_friday_6 24 rfl rfl
theorem dX7_friday_0 : decode cX7_friday 0 = .ok (.aload_n 0, 1) := dk_42 (dk_at dksX7_friday_0 0 rfl rfl)
theorem dX7_friday_1 : decode cX7_friday 1 = .ok (.iconst 0, 1) := dk_3 (dk_at dksX7_friday_0 1 rfl rfl)
theorem dX7_friday_2 : decode cX7_friday 2 = .ok (.putfield 190, 3) := dk_181 0 190 (dk_at dksX7_friday_0 2 rfl rfl)
theorem dX7_friday_5 : decode cX7_friday 5 = .ok (.aload_n 0, 1) := dk_42 (dk_at dksX7_friday_0 5 rfl rfl)
theorem dX7_friday_6 : decode cX7_friday 6 = .ok (.invokevirtual 211, 3) := dk_182 0 211 (dk_at dksX7_friday_0 6 rfl rfl)
theorem dX7_friday_9 : decode cX7_friday 9 = .ok (.aload_n 0, 1) := dk_42 (dk_at dksX7_friday_0 9 rfl rfl)
theorem dX7_friday_10 : decode cX7_friday 10 = .ok (.getfield 201, 3) := dk_180 0 201 (dk_at dksX7_friday_0 10 rfl rfl)
theorem dX7_friday_13 : decode cX7_friday 13 = .ok (.iconst 5, 1) := dk_8 (dk_at dksX7_friday_0 13 rfl rfl)
theorem dX7_friday_14 : decode cX7_friday 14 = .ok (.idiv, 1) := dk_108 (dk_at dksX7_friday_0 14 rfl rfl)
theorem dX7_friday_15 : decode cX7_friday 15 = .ok (.istore_n 1, 1) := dk_60 (dk_at dksX7_friday_0 15 rfl rfl)
theorem dX7_friday_16 : decode cX7_friday 16 = .ok (.aload_n 0, 1) := dk_42 (dk_at dksX7_friday_0 16 rfl rfl)
theorem dX7_friday_17 : decode cX7_friday 17 = .ok (.getfield 201, 3) := dk_180 0 201 (dk_at dksX7_friday_0 17 rfl rfl)
theorem dX7_friday_20 : decode cX7_friday 20 = .ok (.iconst 5, 1) := dk_8 (dk_at dksX7_friday_0 20 rfl rfl)
theorem dX7_friday_21 : decode cX7_friday 21 = .ok (.irem, 1) := dk_112 (dk_at dksX7_friday_0 21 rfl rfl)
theorem dX7_friday_22 : decode cX7_friday 22 = .ok (.ifCond .ne 13, 3) := dk_154 0 13 (dk_at dksX7_friday_1 0 rfl rfl)
theorem dX7_friday_25 : decode cX7_friday 25 = .ok (.iload_n 1, 1) := dk_27 (dk_at dksX7_friday_1 3 rfl rfl)
theorem dX7_friday_26 : decode cX7_friday 26 = .ok (.iconst 1, 1) := dk_4 (dk_at dksX7_friday_1 4 rfl rfl)
theorem dX7_friday_27 : decode cX7_friday 27 = .ok (.bipush 6, 2) := dk_16 6 (dk_at dksX7_friday_1 5 rfl rfl)
theorem dX7_friday_29 : decode cX7_friday 29 = .ok (.invokestatic 207, 3) := dk_184 0 207 (dk_at dksX7_friday_1 7 rfl rfl)
theorem dX7_friday_32 : decode cX7_friday 32 = .ok (.ifCond .ne 6, 3) := dk_154 0 6 (dk_at dksX7_friday_1 10 rfl rfl)
theorem dX7_friday_35 : decode cX7_friday 35 = .ok (.bipush (-2), 2) := dk_16 254 (dk_at dksX7_friday_1 13 rfl rfl)
theorem dX7_friday_37 : decode cX7_friday 37 = .ok (.ireturn, 1) := dk_172 (dk_at dksX7_friday_1 15 rfl rfl)
theorem dX7_friday_38 : decode cX7_friday 38 = .ok (.iconst 0, 1) := dk_3 (dk_at dksX7_friday_1 16 rfl rfl)
theorem dX7_friday_39 : decode cX7_friday 39 = .ok (.istore_n 2, 1) := dk_61 (dk_at dksX7_friday_1 17 rfl rfl)
theorem dX7_friday_40 : decode cX7_friday 40 = .ok (.iload_n 2, 1) := dk_28 (dk_at dksX7_friday_1 18 rfl rfl)
theorem dX7_friday_41 : decode cX7_friday 41 = .ok (.iload_n 1, 1) := dk_27 (dk_at dksX7_friday_1 19 rfl rfl)
theorem dX7_friday_42 : decode cX7_friday 42 = .ok (.if_icmp .ge 26, 3) := dk_162 0 26 (dk_at dksX7_friday_1 20 rfl rfl)
theorem dX7_friday_45 : decode cX7_friday 45 = .ok (.aload_n 0, 1) := dk_42 (dk_at dksX7_friday_1 23 rfl rfl)
theorem dX7_friday_46 : decode cX7_friday 46 = .ok (.aload_n 0, 1) := dk_42 (dk_at dksX7_friday_2 0 rfl rfl)
theorem dX7_friday_47 : decode cX7_friday 47 = .ok (.iconst 5, 1) := dk_8 (dk_at dksX7_friday_2 1 rfl rfl)
theorem dX7_friday_48 : decode cX7_friday 48 = .ok (.iload_n 2, 1) := dk_28 (dk_at dksX7_friday_2 2 rfl rfl)
theorem dX7_friday_49 : decode cX7_friday 49 = .ok (.imul, 1) := dk_104 (dk_at dksX7_friday_2 3 rfl rfl)
theorem dX7_friday_50 : decode cX7_friday 50 = .ok (.invokevirtual 218, 3) := dk_182 0 218 (dk_at dksX7_friday_2 4 rfl rfl)
theorem dX7_friday_53 : decode cX7_friday 53 = .ok (.invokevirtual 536, 3) := dk_182 2 24 (dk_at dksX7_friday_2 7 rfl rfl)
theorem dX7_friday_56 : decode cX7_friday 56 = .ok (.ifCond .ne 6, 3) := dk_154 0 6 (dk_at dksX7_friday_2 10 rfl rfl)
theorem dX7_friday_59 : decode cX7_friday 59 = .ok (.bipush (-2), 2) := dk_16 254 (dk_at dksX7_friday_2 13 rfl rfl)
theorem dX7_friday_61 : decode cX7_friday 61 = .ok (.ireturn, 1) := dk_172 (dk_at dksX7_friday_2 15 rfl rfl)
theorem dX7_friday_62 : decode cX7_friday 62 = .ok (.iinc 2 1, 3) := dk_132 2 1 (dk_at dksX7_friday_2 16 rfl rfl)
theorem dX7_friday_65 : decode cX7_friday 65 = .ok (.goto (-25), 3) := dk_167 255 231 (dk_at dksX7_friday_2 19 rfl rfl)
theorem dX7_friday_68 : decode cX7_friday 68 = .ok (.iconst (-1), 1) := dk_2 (dk_at dksX7_friday_2 22 rfl rfl)
theorem dX7_friday_69 : decode cX7_friday 69 = .ok (.istore_n 2, 1) := dk_61 (dk_at dksX7_friday_2 23 rfl rfl)
theorem dX7_friday_70 : decode cX7_friday 70 = .ok (.iconst 1, 1) := dk_4 (dk_at dksX7_friday_3 0 rfl rfl)
theorem dX7_friday_71 : decode cX7_friday 71 = .ok (.istore_n 3, 1) := dk_62 (dk_at dksX7_friday_3 1 rfl rfl)
theorem dX7_friday_72 : decode cX7_friday 72 = .ok (.iconst 2, 1) := dk_5 (dk_at dksX7_friday_3 2 rfl rfl)
theorem dX7_friday_73 : decode cX7_friday 73 = .ok (.istore 4, 2) := dk_54 4 (dk_at dksX7_friday_3 3 rfl rfl)
theorem dX7_friday_75 : decode cX7_friday 75 = .ok (.iload 4, 2) := dk_21 4 (dk_at dksX7_friday_3 5 rfl rfl)
theorem dX7_friday_77 : decode cX7_friday 77 = .ok (.iload_n 1, 1) := dk_27 (dk_at dksX7_friday_3 7 rfl rfl)
theorem dX7_friday_78 : decode cX7_friday 78 = .ok (.if_icmp .gt 14, 3) := dk_163 0 14 (dk_at dksX7_friday_3 8 rfl rfl)
theorem dX7_friday_81 : decode cX7_friday 81 = .ok (.iload_n 3, 1) := dk_29 (dk_at dksX7_friday_3 11 rfl rfl)
theorem dX7_friday_82 : decode cX7_friday 82 = .ok (.iload 4, 2) := dk_21 4 (dk_at dksX7_friday_3 12 rfl rfl)
theorem dX7_friday_84 : decode cX7_friday 84 = .ok (.imul, 1) := dk_104 (dk_at dksX7_friday_3 14 rfl rfl)
theorem dX7_friday_85 : decode cX7_friday 85 = .ok (.istore_n 3, 1) := dk_62 (dk_at dksX7_friday_3 15 rfl rfl)
theorem dX7_friday_86 : decode cX7_friday 86 = .ok (.iinc 4 1, 3) := dk_132 4 1 (dk_at dksX7_friday_3 16 rfl rfl)
theorem dX7_friday_89 : decode cX7_friday 89 = .ok (.goto (-14), 3) := dk_167 255 242 (dk_at dksX7_friday_3 19 rfl rfl)
theorem dX7_friday_92 : decode cX7_friday 92 = .ok (.iconst 0, 1) := dk_3 (dk_at dksX7_friday_3 22 rfl rfl)
theorem dX7_friday_93 : decode cX7_friday 93 = .ok (.istore 4, 2) := dk_54 4 (dk_at dksX7_friday_4 0 rfl rfl)
theorem dX7_friday_95 : decode cX7_friday 95 = .ok (.iload 4, 2) := dk_21 4 (dk_at dksX7_friday_4 2 rfl rfl)
theorem dX7_friday_97 : decode cX7_friday 97 = .ok (.iload_n 3, 1) := dk_29 (dk_at dksX7_friday_4 4 rfl rfl)
theorem dX7_friday_98 : decode cX7_friday 98 = .ok (.if_icmp .ge 79, 3) := dk_162 0 79 (dk_at dksX7_friday_4 5 rfl rfl)
theorem dX7_friday_101 : decode cX7_friday 101 = .ok (.aload_n 0, 1) := dk_42 (dk_at dksX7_friday_4 8 rfl rfl)
theorem dX7_friday_102 : decode cX7_friday 102 = .ok (.iload 4, 2) := dk_21 4 (dk_at dksX7_friday_4 9 rfl rfl)
theorem dX7_friday_104 : decode cX7_friday 104 = .ok (.iload_n 1, 1) := dk_27 (dk_at dksX7_friday_4 11 rfl rfl)
theorem dX7_friday_105 : decode cX7_friday 105 = .ok (.iload_n 3, 1) := dk_29 (dk_at dksX7_friday_4 12 rfl rfl)
theorem dX7_friday_106 : decode cX7_friday 106 = .ok (.invokevirtual 545, 3) := dk_182 2 33 (dk_at dksX7_friday_4 13 rfl rfl)
theorem dX7_friday_109 : decode cX7_friday 109 = .ok (.aload_n 0, 1) := dk_42 (dk_at dksX7_friday_4 16 rfl rfl)
theorem dX7_friday_110 : decode cX7_friday 110 = .ok (.iload_n 1, 1) := dk_27 (dk_at dksX7_friday_4 17 rfl rfl)
theorem dX7_friday_111 : decode cX7_friday 111 = .ok (.invokevirtual 548, 3) := dk_182 2 36 (dk_at dksX7_friday_4 18 rfl rfl)
theorem dX7_friday_114 : decode cX7_friday 114 = .ok (.istore 5, 2) := dk_54 5 (dk_at dksX7_friday_4 21 rfl rfl)
theorem dX7_friday_116 : decode cX7_friday 116 = .ok (.iload 5, 2) := dk_21 5 (dk_at dksX7_friday_5 0 rfl rfl)
theorem dX7_friday_118 : decode cX7_friday 118 = .ok (.ifCond .lt 53, 3) := dk_155 0 53 (dk_at dksX7_friday_5 2 rfl rfl)
theorem dX7_friday_121 : decode cX7_friday 121 = .ok (.iload_n 2, 1) := dk_28 (dk_at dksX7_friday_5 5 rfl rfl)
theorem dX7_friday_122 : decode cX7_friday 122 = .ok (.ifCond .lt 12, 3) := dk_155 0 12 (dk_at dksX7_friday_5 6 rfl rfl)
theorem dX7_friday_125 : decode cX7_friday 125 = .ok (.iload 5, 2) := dk_21 5 (dk_at dksX7_friday_5 9 rfl rfl)
theorem dX7_friday_127 : decode cX7_friday 127 = .ok (.iload_n 2, 1) := dk_28 (dk_at dksX7_friday_5 11 rfl rfl)
theorem dX7_friday_128 : decode cX7_friday 128 = .ok (.if_icmp .lt 6, 3) := dk_161 0 6 (dk_at dksX7_friday_5 12 rfl rfl)
theorem dX7_friday_131 : decode cX7_friday 131 = .ok (.goto 40, 3) := dk_167 0 40 (dk_at dksX7_friday_5 15 rfl rfl)
theorem dX7_friday_134 : decode cX7_friday 134 = .ok (.iload 5, 2) := dk_21 5 (dk_at dksX7_friday_5 18 rfl rfl)
theorem dX7_friday_136 : decode cX7_friday 136 = .ok (.istore_n 2, 1) := dk_61 (dk_at dksX7_friday_5 20 rfl rfl)
theorem dX7_friday_137 : decode cX7_friday 137 = .ok (.aload_n 0, 1) := dk_42 (dk_at dksX7_friday_5 21 rfl rfl)
theorem dX7_friday_138 : decode cX7_friday 138 = .ok (.iload_n 1, 1) := dk_27 (dk_at dksX7_friday_5 22 rfl rfl)
theorem dX7_friday_139 : decode cX7_friday 139 = .ok (.putfield 550, 3) := dk_181 2 38 (dk_at dksX7_friday_6 0 rfl rfl)
theorem dX7_friday_142 : decode cX7_friday 142 = .ok (.iconst 0, 1) := dk_3 (dk_at dksX7_friday_6 3 rfl rfl)
theorem dX7_friday_143 : decode cX7_friday 143 = .ok (.istore 6, 2) := dk_54 6 (dk_at dksX7_friday_6 4 rfl rfl)
theorem dX7_friday_145 : decode cX7_friday 145 = .ok (.iload 6, 2) := dk_21 6 (dk_at dksX7_friday_6 6 rfl rfl)
theorem dX7_friday_147 : decode cX7_friday 147 = .ok (.iload_n 1, 1) := dk_27 (dk_at dksX7_friday_6 8 rfl rfl)
theorem dX7_friday_148 : decode cX7_friday 148 = .ok (.if_icmp .ge 23, 3) := dk_162 0 23 (dk_at dksX7_friday_6 9 rfl rfl)
theorem dX7_friday_151 : decode cX7_friday 151 = .ok (.aload_n 0, 1) := dk_42 (dk_at dksX7_friday_6 12 rfl rfl)
theorem dX7_friday_152 : decode cX7_friday 152 = .ok (.getfield 184, 3) := dk_180 0 184 (dk_at dksX7_friday_6 13 rfl rfl)
theorem dX7_friday_155 : decode cX7_friday 155 = .ok (.iload 6, 2) := dk_21 6 (dk_at dksX7_friday_6 16 rfl rfl)
theorem dX7_friday_157 : decode cX7_friday 157 = .ok (.aload_n 0, 1) := dk_42 (dk_at dksX7_friday_6 18 rfl rfl)
theorem dX7_friday_158 : decode cX7_friday 158 = .ok (.getfield 181, 3) := dk_180 0 181 (dk_at dksX7_friday_6 19 rfl rfl)
theorem dX7_friday_161 : decode cX7_friday 161 = .ok (.iload 6, 2) := dk_21 6 (dk_at dksX7_friday_6 22 rfl rfl)
theorem dX7_friday_163 : decode cX7_friday 163 = .ok (.iaload, 1) := dk_46 (dk_at dksX7_friday_7 0 rfl rfl)
theorem dX7_friday_164 : decode cX7_friday 164 = .ok (.iastore, 1) := dk_79 (dk_at dksX7_friday_7 1 rfl rfl)
theorem dX7_friday_165 : decode cX7_friday 165 = .ok (.iinc 6 1, 3) := dk_132 6 1 (dk_at dksX7_friday_7 2 rfl rfl)
theorem dX7_friday_168 : decode cX7_friday 168 = .ok (.goto (-23), 3) := dk_167 255 233 (dk_at dksX7_friday_7 5 rfl rfl)
theorem dX7_friday_171 : decode cX7_friday 171 = .ok (.iinc 4 1, 3) := dk_132 4 1 (dk_at dksX7_friday_7 8 rfl rfl)
theorem dX7_friday_174 : decode cX7_friday 174 = .ok (.goto (-79), 3) := dk_167 255 177 (dk_at dksX7_friday_7 11 rfl rfl)
theorem dX7_friday_177 : decode cX7_friday 177 = .ok (.iload_n 2, 1) := dk_28 (dk_at dksX7_friday_7 14 rfl rfl)
theorem dX7_friday_178 : decode cX7_friday 178 = .ok (.ireturn, 1) := dk_172 (dk_at dksX7_friday_7 15 rfl rfl)
abbrev cX7_spell : ByteArray := prog_14_method_99_code
def yX7_spell : MethodName := ⟨RX7, "spell", "(III)V"⟩
def dkwX7_spell_4 : List UInt8 := [21, 9, 79, 21, 4, 4, 21, 9, 120, 128, 54, 4, 132, 7, 1, 167, 255, 160, 177]
abbrev dktX7_spell_4 : List UInt8 := dkwX7_spell_4 ++ []
def dkwX7_spell_3 : List UInt8 := [160, 0, 7, 3, 167, 0, 4, 4, 100, 54, 8, 132, 9, 1, 167, 255, 216, 42, 180, 0, 181, 21, 7]
abbrev dktX7_spell_3 : List UInt8 := dkwX7_spell_3 ++ dktX7_spell_4
def dkwX7_spell_2 : List UInt8 := [122, 4, 126, 4, 159, 0, 8, 21, 8, 158, 0, 30, 21, 8, 21, 4, 21, 9, 122, 4, 126, 4]
abbrev dktX7_spell_2 : List UInt8 := dkwX7_spell_2 ++ dktX7_spell_3
def dkwX7_spell_1 : List UInt8 := [108, 54, 6, 21, 5, 21, 6, 108, 54, 8, 21, 5, 21, 6, 112, 54, 5, 3, 54, 9, 21, 4, 21, 9]
abbrev dktX7_spell_1 : List UInt8 := dkwX7_spell_1 ++ dktX7_spell_2
def dkwX7_spell_0 : List UInt8 := [3, 54, 4, 27, 54, 5, 29, 54, 6, 3, 54, 7, 21, 7, 28, 162, 0, 96, 21, 6, 28, 21, 7, 100]
abbrev dktX7_spell_0 : List UInt8 := dkwX7_spell_0 ++ dktX7_spell_1
theorem dksX7_spell_0 : cX7_spell.data.toList.drop 0 = dktX7_spell_0 := by decide +kernel
theorem dksX7_spell_1 : cX7_spell.data.toList.drop 24 = dktX7_spell_1 := dk_seg dksX7_spell_0 24 rfl rfl
theorem dksX7_spell_2 : cX7_spell.data.toList.drop 48 = dktX7_spell_2 := dk_seg dksX7_spell_1 24 rfl rfl
theorem dksX7_spell_3 : cX7_spell.data.toList.drop 70 = dktX7_spell_3 := dk_seg dksX7_spell_2 22 rfl rfl
theorem dksX7_spell_4 : cX7_spell.data.toList.drop 93 = dktX7_spell_4 := dk_seg dksX7_spell_3 23 rfl rfl
theorem dX7_spell_0 : decode cX7_spell 0 = .ok (.iconst 0, 1) := dk_3 (dk_at dksX7_spell_0 0 rfl rfl)
theorem dX7_spell_1 : decode cX7_spell 1 = .ok (.istore 4, 2) := dk_54 4 (dk_at dksX7_spell_0 1 rfl rfl)
theorem dX7_spell_3 : decode cX7_spell 3 = .ok (.iload_n 1, 1) := dk_27 (dk_at dksX7_spell_0 3 rfl rfl)
theorem dX7_spell_4 : decode cX7_spell 4 = .ok (.istore 5, 2) := dk_54 5 (dk_at dksX7_spell_0 4 rfl rfl)
theorem dX7_spell_6 : decode cX7_spell 6 = .ok (.iload_n 3, 1) := dk_29 (dk_at dksX7_spell_0 6 rfl rfl)
theorem dX7_spell_7 : decode cX7_spell 7 = .ok (.istore 6, 2) := dk_54 6 (dk_at dksX7_spell_0 7 rfl rfl)
theorem dX7_spell_9 : decode cX7_spell 9 = .ok (.iconst 0, 1) := dk_3 (dk_at dksX7_spell_0 9 rfl rfl)
theorem dX7_spell_10 : decode cX7_spell 10 = .ok (.istore 7, 2) := dk_54 7 (dk_at dksX7_spell_0 10 rfl rfl)
theorem dX7_spell_12 : decode cX7_spell 12 = .ok (.iload 7, 2) := dk_21 7 (dk_at dksX7_spell_0 12 rfl rfl)
theorem dX7_spell_14 : decode cX7_spell 14 = .ok (.iload_n 2, 1) := dk_28 (dk_at dksX7_spell_0 14 rfl rfl)
theorem dX7_spell_15 : decode cX7_spell 15 = .ok (.if_icmp .ge 96, 3) := dk_162 0 96 (dk_at dksX7_spell_0 15 rfl rfl)
theorem dX7_spell_18 : decode cX7_spell 18 = .ok (.iload 6, 2) := dk_21 6 (dk_at dksX7_spell_0 18 rfl rfl)
theorem dX7_spell_20 : decode cX7_spell 20 = .ok (.iload_n 2, 1) := dk_28 (dk_at dksX7_spell_0 20 rfl rfl)
theorem dX7_spell_21 : decode cX7_spell 21 = .ok (.iload 7, 2) := dk_21 7 (dk_at dksX7_spell_0 21 rfl rfl)
theorem dX7_spell_23 : decode cX7_spell 23 = .ok (.isub, 1) := dk_100 (dk_at dksX7_spell_0 23 rfl rfl)
theorem dX7_spell_24 : decode cX7_spell 24 = .ok (.idiv, 1) := dk_108 (dk_at dksX7_spell_1 0 rfl rfl)
theorem dX7_spell_25 : decode cX7_spell 25 = .ok (.istore 6, 2) := dk_54 6 (dk_at dksX7_spell_1 1 rfl rfl)
theorem dX7_spell_27 : decode cX7_spell 27 = .ok (.iload 5, 2) := dk_21 5 (dk_at dksX7_spell_1 3 rfl rfl)
theorem dX7_spell_29 : decode cX7_spell 29 = .ok (.iload 6, 2) := dk_21 6 (dk_at dksX7_spell_1 5 rfl rfl)
theorem dX7_spell_31 : decode cX7_spell 31 = .ok (.idiv, 1) := dk_108 (dk_at dksX7_spell_1 7 rfl rfl)
theorem dX7_spell_32 : decode cX7_spell 32 = .ok (.istore 8, 2) := dk_54 8 (dk_at dksX7_spell_1 8 rfl rfl)
theorem dX7_spell_34 : decode cX7_spell 34 = .ok (.iload 5, 2) := dk_21 5 (dk_at dksX7_spell_1 10 rfl rfl)
theorem dX7_spell_36 : decode cX7_spell 36 = .ok (.iload 6, 2) := dk_21 6 (dk_at dksX7_spell_1 12 rfl rfl)
theorem dX7_spell_38 : decode cX7_spell 38 = .ok (.irem, 1) := dk_112 (dk_at dksX7_spell_1 14 rfl rfl)
theorem dX7_spell_39 : decode cX7_spell 39 = .ok (.istore 5, 2) := dk_54 5 (dk_at dksX7_spell_1 15 rfl rfl)
theorem dX7_spell_41 : decode cX7_spell 41 = .ok (.iconst 0, 1) := dk_3 (dk_at dksX7_spell_1 17 rfl rfl)
theorem dX7_spell_42 : decode cX7_spell 42 = .ok (.istore 9, 2) := dk_54 9 (dk_at dksX7_spell_1 18 rfl rfl)
theorem dX7_spell_44 : decode cX7_spell 44 = .ok (.iload 4, 2) := dk_21 4 (dk_at dksX7_spell_1 20 rfl rfl)
theorem dX7_spell_46 : decode cX7_spell 46 = .ok (.iload 9, 2) := dk_21 9 (dk_at dksX7_spell_1 22 rfl rfl)
theorem dX7_spell_48 : decode cX7_spell 48 = .ok (.ishr, 1) := dk_122 (dk_at dksX7_spell_2 0 rfl rfl)
theorem dX7_spell_49 : decode cX7_spell 49 = .ok (.iconst 1, 1) := dk_4 (dk_at dksX7_spell_2 1 rfl rfl)
theorem dX7_spell_50 : decode cX7_spell 50 = .ok (.iand, 1) := dk_126 (dk_at dksX7_spell_2 2 rfl rfl)
theorem dX7_spell_51 : decode cX7_spell 51 = .ok (.iconst 1, 1) := dk_4 (dk_at dksX7_spell_2 3 rfl rfl)
theorem dX7_spell_52 : decode cX7_spell 52 = .ok (.if_icmp .eq 8, 3) := dk_159 0 8 (dk_at dksX7_spell_2 4 rfl rfl)
theorem dX7_spell_55 : decode cX7_spell 55 = .ok (.iload 8, 2) := dk_21 8 (dk_at dksX7_spell_2 7 rfl rfl)
theorem dX7_spell_57 : decode cX7_spell 57 = .ok (.ifCond .le 30, 3) := dk_158 0 30 (dk_at dksX7_spell_2 9 rfl rfl)
theorem dX7_spell_60 : decode cX7_spell 60 = .ok (.iload 8, 2) := dk_21 8 (dk_at dksX7_spell_2 12 rfl rfl)
theorem dX7_spell_62 : decode cX7_spell 62 = .ok (.iload 4, 2) := dk_21 4 (dk_at dksX7_spell_2 14 rfl rfl)
theorem dX7_spell_64 : decode cX7_spell 64 = .ok (.iload 9, 2) := dk_21 9 (dk_at dksX7_spell_2 16 rfl rfl)
theorem dX7_spell_66 : decode cX7_spell 66 = .ok (.ishr, 1) := dk_122 (dk_at dksX7_spell_2 18 rfl rfl)
theorem dX7_spell_67 : decode cX7_spell 67 = .ok (.iconst 1, 1) := dk_4 (dk_at dksX7_spell_2 19 rfl rfl)
theorem dX7_spell_68 : decode cX7_spell 68 = .ok (.iand, 1) := dk_126 (dk_at dksX7_spell_2 20 rfl rfl)
theorem dX7_spell_69 : decode cX7_spell 69 = .ok (.iconst 1, 1) := dk_4 (dk_at dksX7_spell_2 21 rfl rfl)
theorem dX7_spell_70 : decode cX7_spell 70 = .ok (.if_icmp .ne 7, 3) := dk_160 0 7 (dk_at dksX7_spell_3 0 rfl rfl)
theorem dX7_spell_73 : decode cX7_spell 73 = .ok (.iconst 0, 1) := dk_3 (dk_at dksX7_spell_3 3 rfl rfl)
theorem dX7_spell_74 : decode cX7_spell 74 = .ok (.goto 4, 3) := dk_167 0 4 (dk_at dksX7_spell_3 4 rfl rfl)
theorem dX7_spell_77 : decode cX7_spell 77 = .ok (.iconst 1, 1) := dk_4 (dk_at dksX7_spell_3 7 rfl rfl)
theorem dX7_spell_78 : decode cX7_spell 78 = .ok (.isub, 1) := dk_100 (dk_at dksX7_spell_3 8 rfl rfl)
theorem dX7_spell_79 : decode cX7_spell 79 = .ok (.istore 8, 2) := dk_54 8 (dk_at dksX7_spell_3 9 rfl rfl)
theorem dX7_spell_81 : decode cX7_spell 81 = .ok (.iinc 9 1, 3) := dk_132 9 1 (dk_at dksX7_spell_3 11 rfl rfl)
theorem dX7_spell_84 : decode cX7_spell 84 = .ok (.goto (-40), 3) := dk_167 255 216 (dk_at dksX7_spell_3 14 rfl rfl)
theorem dX7_spell_87 : decode cX7_spell 87 = .ok (.aload_n 0, 1) := dk_42 (dk_at dksX7_spell_3 17 rfl rfl)
theorem dX7_spell_88 : decode cX7_spell 88 = .ok (.getfield 181, 3) := dk_180 0 181 (dk_at dksX7_spell_3 18 rfl rfl)
theorem dX7_spell_91 : decode cX7_spell 91 = .ok (.iload 7, 2) := dk_21 7 (dk_at dksX7_spell_3 21 rfl rfl)
theorem dX7_spell_93 : decode cX7_spell 93 = .ok (.iload 9, 2) := dk_21 9 (dk_at dksX7_spell_4 0 rfl rfl)
theorem dX7_spell_95 : decode cX7_spell 95 = .ok (.iastore, 1) := dk_79 (dk_at dksX7_spell_4 2 rfl rfl)
theorem dX7_spell_96 : decode cX7_spell 96 = .ok (.iload 4, 2) := dk_21 4 (dk_at dksX7_spell_4 3 rfl rfl)
theorem dX7_spell_98 : decode cX7_spell 98 = .ok (.iconst 1, 1) := dk_4 (dk_at dksX7_spell_4 5 rfl rfl)
theorem dX7_spell_99 : decode cX7_spell 99 = .ok (.iload 9, 2) := dk_21 9 (dk_at dksX7_spell_4 6 rfl rfl)
theorem dX7_spell_101 : decode cX7_spell 101 = .ok (.ishl, 1) := dk_120 (dk_at dksX7_spell_4 8 rfl rfl)
theorem dX7_spell_102 : decode cX7_spell 102 = .ok (.ior, 1) := dk_128 (dk_at dksX7_spell_4 9 rfl rfl)
theorem dX7_spell_103 : decode cX7_spell 103 = .ok (.istore 4, 2) := dk_54 4 (dk_at dksX7_spell_4 10 rfl rfl)
theorem dX7_spell_105 : decode cX7_spell 105 = .ok (.iinc 7 1, 3) := dk_132 7 1 (dk_at dksX7_spell_4 12 rfl rfl)
theorem dX7_spell_108 : decode cX7_spell 108 = .ok (.goto (-96), 3) := dk_167 255 160 (dk_at dksX7_spell_4 15 rfl rfl)
theorem dX7_spell_111 : decode cX7_spell 111 = .ok (.return_, 1) := dk_177 (dk_at dksX7_spell_4 18 rfl rfl)
abbrev cX7_ends : ByteArray := prog_14_method_100_code
def yX7_ends : MethodName := ⟨RX7, "ends", "(I)I"⟩
def dkwX7_ends_5 : List UInt8 := [164, 0, 5, 2, 172, 132, 3, 1, 167, 255, 134, 28, 172]
abbrev dktX7_ends_5 : List UInt8 := dkwX7_ends_5 ++ []
def dkwX7_ends_4 : List UInt8 := [96, 61, 28, 42, 21, 4, 6, 96, 182, 0, 218, 17, 1, 0, 104, 42, 21, 4, 7, 96, 182, 0, 218, 96]
abbrev dktX7_ends_4 : List UInt8 := dkwX7_ends_4 ++ dktX7_ends_5
def dkwX7_ends_3 : List UInt8 := [96, 61, 28, 42, 21, 4, 4, 96, 182, 0, 218, 17, 1, 0, 104, 42, 21, 4, 5, 96, 182, 0, 218, 96]
abbrev dktX7_ends_3 : List UInt8 := dkwX7_ends_3 ++ dktX7_ends_4
def dkwX7_ends_2 : List UInt8 := [180, 0, 181, 29, 4, 100, 46, 104, 182, 0, 218, 96, 5, 42, 21, 4, 182, 0, 218, 96, 182, 2, 30, 104]
abbrev dktX7_ends_2 : List UInt8 := dkwX7_ends_2 ++ dktX7_ends_3
def dkwX7_ends_1 : List UInt8 := [154, 0, 19, 42, 180, 0, 26, 5, 42, 21, 4, 182, 0, 218, 96, 46, 167, 0, 31, 42, 5, 42, 8, 42]
abbrev dktX7_ends_1 : List UInt8 := dkwX7_ends_1 ++ dktX7_ends_2
def dkwX7_ends_0 : List UInt8 := [3, 61, 3, 62, 29, 27, 162, 0, 123, 8, 42, 180, 0, 181, 29, 46, 104, 54, 4, 28, 5, 29]
abbrev dktX7_ends_0 : List UInt8 := dkwX7_ends_0 ++ dktX7_ends_1
theorem dksX7_ends_0 : cX7_ends.data.toList.drop 0 = dktX7_ends_0 := by decide +kernel
theorem dksX7_ends_1 : cX7_ends.data.toList.drop 22 = dktX7_ends_1 := dk_seg dksX7_ends_0 22 rfl rfl
theorem dksX7_ends_2 : cX7_ends.data.toList.drop 46 = dktX7_ends_2 := dk_seg dksX7_ends_1 24 rfl rfl
theorem dksX7_ends_3 : cX7_ends.data.toList.drop 70 = dktX7_ends_3 := dk_seg dksX7_ends_2 24 rfl rfl
theorem dksX7_ends_4 : cX7_ends.data.toList.drop 94 = dktX7_ends_4 := dk_seg dksX7_ends_3 24 rfl rfl
theorem dksX7_ends_5 : cX7_ends.data.toList.drop 118 = dktX7_ends_5 := dk_seg dksX7_ends_4 24 rfl rfl
theorem dX7_ends_0 : decode cX7_ends 0 = .ok (.iconst 0, 1) := dk_3 (dk_at dksX7_ends_0 0 rfl rfl)
theorem dX7_ends_1 : decode cX7_ends 1 = .ok (.istore_n 2, 1) := dk_61 (dk_at dksX7_ends_0 1 rfl rfl)
theorem dX7_ends_2 : decode cX7_ends 2 = .ok (.iconst 0, 1) := dk_3 (dk_at dksX7_ends_0 2 rfl rfl)
theorem dX7_ends_3 : decode cX7_ends 3 = .ok (.istore_n 3, 1) := dk_62 (dk_at dksX7_ends_0 3 rfl rfl)
theorem dX7_ends_4 : decode cX7_ends 4 = .ok (.iload_n 3, 1) := dk_29 (dk_at dksX7_ends_0 4 rfl rfl)
theorem dX7_ends_5 : decode cX7_ends 5 = .ok (.iload_n 1, 1) := dk_27 (dk_at dksX7_ends_0 5 rfl rfl)
theorem dX7_ends_6 : decode cX7_ends 6 = .ok (.if_icmp .ge 123, 3) := dk_162 0 123 (dk_at dksX7_ends_0 6 rfl rfl)
theorem dX7_ends_9 : decode cX7_ends 9 = .ok (.iconst 5, 1) := dk_8 (dk_at dksX7_ends_0 9 rfl rfl)
theorem dX7_ends_10 : decode cX7_ends 10 = .ok (.aload_n 0, 1) := dk_42 (dk_at dksX7_ends_0 10 rfl rfl)
theorem dX7_ends_11 : decode cX7_ends 11 = .ok (.getfield 181, 3) := dk_180 0 181 (dk_at dksX7_ends_0 11 rfl rfl)
theorem dX7_ends_14 : decode cX7_ends 14 = .ok (.iload_n 3, 1) := dk_29 (dk_at dksX7_ends_0 14 rfl rfl)
theorem dX7_ends_15 : decode cX7_ends 15 = .ok (.iaload, 1) := dk_46 (dk_at dksX7_ends_0 15 rfl rfl)
theorem dX7_ends_16 : decode cX7_ends 16 = .ok (.imul, 1) := dk_104 (dk_at dksX7_ends_0 16 rfl rfl)
theorem dX7_ends_17 : decode cX7_ends 17 = .ok (.istore 4, 2) := dk_54 4 (dk_at dksX7_ends_0 17 rfl rfl)
theorem dX7_ends_19 : decode cX7_ends 19 = .ok (.iload_n 2, 1) := dk_28 (dk_at dksX7_ends_0 19 rfl rfl)
theorem dX7_ends_20 : decode cX7_ends 20 = .ok (.iconst 2, 1) := dk_5 (dk_at dksX7_ends_0 20 rfl rfl)
theorem dX7_ends_21 : decode cX7_ends 21 = .ok (.iload_n 3, 1) := dk_29 (dk_at dksX7_ends_0 21 rfl rfl)
theorem dX7_ends_22 : decode cX7_ends 22 = .ok (.ifCond .ne 19, 3) := dk_154 0 19 (dk_at dksX7_ends_1 0 rfl rfl)
theorem dX7_ends_25 : decode cX7_ends 25 = .ok (.aload_n 0, 1) := dk_42 (dk_at dksX7_ends_1 3 rfl rfl)
theorem dX7_ends_26 : decode cX7_ends 26 = .ok (.getfield 26, 3) := dk_180 0 26 (dk_at dksX7_ends_1 4 rfl rfl)
theorem dX7_ends_29 : decode cX7_ends 29 = .ok (.iconst 2, 1) := dk_5 (dk_at dksX7_ends_1 7 rfl rfl)
theorem dX7_ends_30 : decode cX7_ends 30 = .ok (.aload_n 0, 1) := dk_42 (dk_at dksX7_ends_1 8 rfl rfl)
theorem dX7_ends_31 : decode cX7_ends 31 = .ok (.iload 4, 2) := dk_21 4 (dk_at dksX7_ends_1 9 rfl rfl)
theorem dX7_ends_33 : decode cX7_ends 33 = .ok (.invokevirtual 218, 3) := dk_182 0 218 (dk_at dksX7_ends_1 11 rfl rfl)
theorem dX7_ends_36 : decode cX7_ends 36 = .ok (.iadd, 1) := dk_96 (dk_at dksX7_ends_1 14 rfl rfl)
theorem dX7_ends_37 : decode cX7_ends 37 = .ok (.iaload, 1) := dk_46 (dk_at dksX7_ends_1 15 rfl rfl)
theorem dX7_ends_38 : decode cX7_ends 38 = .ok (.goto 31, 3) := dk_167 0 31 (dk_at dksX7_ends_1 16 rfl rfl)
theorem dX7_ends_41 : decode cX7_ends 41 = .ok (.aload_n 0, 1) := dk_42 (dk_at dksX7_ends_1 19 rfl rfl)
theorem dX7_ends_42 : decode cX7_ends 42 = .ok (.iconst 2, 1) := dk_5 (dk_at dksX7_ends_1 20 rfl rfl)
theorem dX7_ends_43 : decode cX7_ends 43 = .ok (.aload_n 0, 1) := dk_42 (dk_at dksX7_ends_1 21 rfl rfl)
theorem dX7_ends_44 : decode cX7_ends 44 = .ok (.iconst 5, 1) := dk_8 (dk_at dksX7_ends_1 22 rfl rfl)
theorem dX7_ends_45 : decode cX7_ends 45 = .ok (.aload_n 0, 1) := dk_42 (dk_at dksX7_ends_1 23 rfl rfl)
theorem dX7_ends_46 : decode cX7_ends 46 = .ok (.getfield 181, 3) := dk_180 0 181 (dk_at dksX7_ends_2 0 rfl rfl)
theorem dX7_ends_49 : decode cX7_ends 49 = .ok (.iload_n 3, 1) := dk_29 (dk_at dksX7_ends_2 3 rfl rfl)
theorem dX7_ends_50 : decode cX7_ends 50 = .ok (.iconst 1, 1) := dk_4 (dk_at dksX7_ends_2 4 rfl rfl)
theorem dX7_ends_51 : decode cX7_ends 51 = .ok (.isub, 1) := dk_100 (dk_at dksX7_ends_2 5 rfl rfl)
theorem dX7_ends_52 : decode cX7_ends 52 = .ok (.iaload, 1) := dk_46 (dk_at dksX7_ends_2 6 rfl rfl)
theorem dX7_ends_53 : decode cX7_ends 53 = .ok (.imul, 1) := dk_104 (dk_at dksX7_ends_2 7 rfl rfl)
theorem dX7_ends_54 : decode cX7_ends 54 = .ok (.invokevirtual 218, 3) := dk_182 0 218 (dk_at dksX7_ends_2 8 rfl rfl)
theorem dX7_ends_57 : decode cX7_ends 57 = .ok (.iadd, 1) := dk_96 (dk_at dksX7_ends_2 11 rfl rfl)
theorem dX7_ends_58 : decode cX7_ends 58 = .ok (.iconst 2, 1) := dk_5 (dk_at dksX7_ends_2 12 rfl rfl)
theorem dX7_ends_59 : decode cX7_ends 59 = .ok (.aload_n 0, 1) := dk_42 (dk_at dksX7_ends_2 13 rfl rfl)
theorem dX7_ends_60 : decode cX7_ends 60 = .ok (.iload 4, 2) := dk_21 4 (dk_at dksX7_ends_2 14 rfl rfl)
theorem dX7_ends_62 : decode cX7_ends 62 = .ok (.invokevirtual 218, 3) := dk_182 0 218 (dk_at dksX7_ends_2 16 rfl rfl)
theorem dX7_ends_65 : decode cX7_ends 65 = .ok (.iadd, 1) := dk_96 (dk_at dksX7_ends_2 19 rfl rfl)
theorem dX7_ends_66 : decode cX7_ends 66 = .ok (.invokevirtual 542, 3) := dk_182 2 30 (dk_at dksX7_ends_2 20 rfl rfl)
theorem dX7_ends_69 : decode cX7_ends 69 = .ok (.imul, 1) := dk_104 (dk_at dksX7_ends_2 23 rfl rfl)
theorem dX7_ends_70 : decode cX7_ends 70 = .ok (.iadd, 1) := dk_96 (dk_at dksX7_ends_3 0 rfl rfl)
theorem dX7_ends_71 : decode cX7_ends 71 = .ok (.istore_n 2, 1) := dk_61 (dk_at dksX7_ends_3 1 rfl rfl)
theorem dX7_ends_72 : decode cX7_ends 72 = .ok (.iload_n 2, 1) := dk_28 (dk_at dksX7_ends_3 2 rfl rfl)
theorem dX7_ends_73 : decode cX7_ends 73 = .ok (.aload_n 0, 1) := dk_42 (dk_at dksX7_ends_3 3 rfl rfl)
theorem dX7_ends_74 : decode cX7_ends 74 = .ok (.iload 4, 2) := dk_21 4 (dk_at dksX7_ends_3 4 rfl rfl)
theorem dX7_ends_76 : decode cX7_ends 76 = .ok (.iconst 1, 1) := dk_4 (dk_at dksX7_ends_3 6 rfl rfl)
theorem dX7_ends_77 : decode cX7_ends 77 = .ok (.iadd, 1) := dk_96 (dk_at dksX7_ends_3 7 rfl rfl)
theorem dX7_ends_78 : decode cX7_ends 78 = .ok (.invokevirtual 218, 3) := dk_182 0 218 (dk_at dksX7_ends_3 8 rfl rfl)
theorem dX7_ends_81 : decode cX7_ends 81 = .ok (.sipush 256, 3) := dk_17 1 0 (dk_at dksX7_ends_3 11 rfl rfl)
theorem dX7_ends_84 : decode cX7_ends 84 = .ok (.imul, 1) := dk_104 (dk_at dksX7_ends_3 14 rfl rfl)
theorem dX7_ends_85 : decode cX7_ends 85 = .ok (.aload_n 0, 1) := dk_42 (dk_at dksX7_ends_3 15 rfl rfl)
theorem dX7_ends_86 : decode cX7_ends 86 = .ok (.iload 4, 2) := dk_21 4 (dk_at dksX7_ends_3 16 rfl rfl)
theorem dX7_ends_88 : decode cX7_ends 88 = .ok (.iconst 2, 1) := dk_5 (dk_at dksX7_ends_3 18 rfl rfl)
theorem dX7_ends_89 : decode cX7_ends 89 = .ok (.iadd, 1) := dk_96 (dk_at dksX7_ends_3 19 rfl rfl)
theorem dX7_ends_90 : decode cX7_ends 90 = .ok (.invokevirtual 218, 3) := dk_182 0 218 (dk_at dksX7_ends_3 20 rfl rfl)
theorem dX7_ends_93 : decode cX7_ends 93 = .ok (.iadd, 1) := dk_96 (dk_at dksX7_ends_3 23 rfl rfl)
theorem dX7_ends_94 : decode cX7_ends 94 = .ok (.iadd, 1) := dk_96 (dk_at dksX7_ends_4 0 rfl rfl)
theorem dX7_ends_95 : decode cX7_ends 95 = .ok (.istore_n 2, 1) := dk_61 (dk_at dksX7_ends_4 1 rfl rfl)
theorem dX7_ends_96 : decode cX7_ends 96 = .ok (.iload_n 2, 1) := dk_28 (dk_at dksX7_ends_4 2 rfl rfl)
theorem dX7_ends_97 : decode cX7_ends 97 = .ok (.aload_n 0, 1) := dk_42 (dk_at dksX7_ends_4 3 rfl rfl)
theorem dX7_ends_98 : decode cX7_ends 98 = .ok (.iload 4, 2) := dk_21 4 (dk_at dksX7_ends_4 4 rfl rfl)
theorem dX7_ends_100 : decode cX7_ends 100 = .ok (.iconst 3, 1) := dk_6 (dk_at dksX7_ends_4 6 rfl rfl)
theorem dX7_ends_101 : decode cX7_ends 101 = .ok (.iadd, 1) := dk_96 (dk_at dksX7_ends_4 7 rfl rfl)
theorem dX7_ends_102 : decode cX7_ends 102 = .ok (.invokevirtual 218, 3) := dk_182 0 218 (dk_at dksX7_ends_4 8 rfl rfl)
theorem dX7_ends_105 : decode cX7_ends 105 = .ok (.sipush 256, 3) := dk_17 1 0 (dk_at dksX7_ends_4 11 rfl rfl)
theorem dX7_ends_108 : decode cX7_ends 108 = .ok (.imul, 1) := dk_104 (dk_at dksX7_ends_4 14 rfl rfl)
theorem dX7_ends_109 : decode cX7_ends 109 = .ok (.aload_n 0, 1) := dk_42 (dk_at dksX7_ends_4 15 rfl rfl)
theorem dX7_ends_110 : decode cX7_ends 110 = .ok (.iload 4, 2) := dk_21 4 (dk_at dksX7_ends_4 16 rfl rfl)
theorem dX7_ends_112 : decode cX7_ends 112 = .ok (.iconst 4, 1) := dk_7 (dk_at dksX7_ends_4 18 rfl rfl)
theorem dX7_ends_113 : decode cX7_ends 113 = .ok (.iadd, 1) := dk_96 (dk_at dksX7_ends_4 19 rfl rfl)
theorem dX7_ends_114 : decode cX7_ends 114 = .ok (.invokevirtual 218, 3) := dk_182 0 218 (dk_at dksX7_ends_4 20 rfl rfl)
theorem dX7_ends_117 : decode cX7_ends 117 = .ok (.iadd, 1) := dk_96 (dk_at dksX7_ends_4 23 rfl rfl)
theorem dX7_ends_118 : decode cX7_ends 118 = .ok (.if_icmp .le 5, 3) := dk_164 0 5 (dk_at dksX7_ends_5 0 rfl rfl)
theorem dX7_ends_121 : decode cX7_ends 121 = .ok (.iconst (-1), 1) := dk_2 (dk_at dksX7_ends_5 3 rfl rfl)
theorem dX7_ends_122 : decode cX7_ends 122 = .ok (.ireturn, 1) := dk_172 (dk_at dksX7_ends_5 4 rfl rfl)
theorem dX7_ends_123 : decode cX7_ends 123 = .ok (.iinc 3 1, 3) := dk_132 3 1 (dk_at dksX7_ends_5 5 rfl rfl)
theorem dX7_ends_126 : decode cX7_ends 126 = .ok (.goto (-122), 3) := dk_167 255 134 (dk_at dksX7_ends_5 8 rfl rfl)
theorem dX7_ends_129 : decode cX7_ends 129 = .ok (.iload_n 2, 1) := dk_28 (dk_at dksX7_ends_5 11 rfl rfl)
theorem dX7_ends_130 : decode cX7_ends 130 = .ok (.ireturn, 1) := dk_172 (dk_at dksX7_ends_5 12 rfl rfl)
abbrev cX7_fridayAt : ByteArray := prog_14_method_101_code
def yX7_fridayAt : MethodName := ⟨RX7, "fridayAt", "(I)I"⟩
def dkwX7_fridayAt_1 : List UInt8 := [46, 167, 0, 4, 2, 172]
abbrev dktX7_fridayAt_1 : List UInt8 := dkwX7_fridayAt_1 ++ []
def dkwX7_fridayAt_0 : List UInt8 := [42, 3, 181, 0, 190, 27, 3, 42, 180, 2, 38, 4, 100, 184, 0, 207, 153, 0, 12, 42, 180, 0, 184, 27]
abbrev dktX7_fridayAt_0 : List UInt8 := dkwX7_fridayAt_0 ++ dktX7_fridayAt_1
theorem dksX7_fridayAt_0 : cX7_fridayAt.data.toList.drop 0 = dktX7_fridayAt_0 := by decide +kernel
theorem dksX7_fridayAt_1 : cX7_fridayAt.data.toList.drop 24 = dktX7_fridayAt_1 := dk_seg dksX7_fridayAt_0 24 rfl rfl
theorem dX7_fridayAt_0 : decode cX7_fridayAt 0 = .ok (.aload_n 0, 1) := dk_42 (dk_at dksX7_fridayAt_0 0 rfl rfl)
theorem dX7_fridayAt_1 : decode cX7_fridayAt 1 = .ok (.iconst 0, 1) := dk_3 (dk_at dksX7_fridayAt_0 1 rfl rfl)
theorem dX7_fridayAt_2 : decode cX7_fridayAt 2 = .ok (.putfield 190, 3) := dk_181 0 190 (dk_at dksX7_fridayAt_0 2 rfl rfl)
theorem dX7_fridayAt_5 : decode cX7_fridayAt 5 = .ok (.iload_n 1, 1) := dk_27 (dk_at dksX7_fridayAt_0 5 rfl rfl)
theorem dX7_fridayAt_6 : decode cX7_fridayAt 6 = .ok (.iconst 0, 1) := dk_3 (dk_at dksX7_fridayAt_0 6 rfl rfl)
theorem dX7_fridayAt_7 : decode cX7_fridayAt 7 = .ok (.aload_n 0, 1) := dk_42 (dk_at dksX7_fridayAt_0 7 rfl rfl)
theorem dX7_fridayAt_8 : decode cX7_fridayAt 8 = .ok (.getfield 550, 3) := dk_180 2 38 (dk_at dksX7_fridayAt_0 8 rfl rfl)
theorem dX7_fridayAt_11 : decode cX7_fridayAt 11 = .ok (.iconst 1, 1) := dk_4 (dk_at dksX7_fridayAt_0 11 rfl rfl)
theorem dX7_fridayAt_12 : decode cX7_fridayAt 12 = .ok (.isub, 1) := dk_100 (dk_at dksX7_fridayAt_0 12 rfl rfl)
theorem dX7_fridayAt_13 : decode cX7_fridayAt 13 = .ok (.invokestatic 207, 3) := dk_184 0 207 (dk_at dksX7_fridayAt_0 13 rfl rfl)
theorem dX7_fridayAt_16 : decode cX7_fridayAt 16 = .ok (.ifCond .eq 12, 3) := dk_153 0 12 (dk_at dksX7_fridayAt_0 16 rfl rfl)
theorem dX7_fridayAt_19 : decode cX7_fridayAt 19 = .ok (.aload_n 0, 1) := dk_42 (dk_at dksX7_fridayAt_0 19 rfl rfl)
theorem dX7_fridayAt_20 : decode cX7_fridayAt 20 = .ok (.getfield 184, 3) := dk_180 0 184 (dk_at dksX7_fridayAt_0 20 rfl rfl)
theorem dX7_fridayAt_23 : decode cX7_fridayAt 23 = .ok (.iload_n 1, 1) := dk_27 (dk_at dksX7_fridayAt_0 23 rfl rfl)
theorem dX7_fridayAt_24 : decode cX7_fridayAt 24 = .ok (.iaload, 1) := dk_46 (dk_at dksX7_fridayAt_1 0 rfl rfl)
theorem dX7_fridayAt_25 : decode cX7_fridayAt 25 = .ok (.goto 4, 3) := dk_167 0 4 (dk_at dksX7_fridayAt_1 1 rfl rfl)
theorem dX7_fridayAt_28 : decode cX7_fridayAt 28 = .ok (.iconst (-1), 1) := dk_2 (dk_at dksX7_fridayAt_1 4 rfl rfl)
theorem dX7_fridayAt_29 : decode cX7_fridayAt 29 = .ok (.ireturn, 1) := dk_172 (dk_at dksX7_fridayAt_1 5 rfl rfl)
abbrev cX7_count : ByteArray := prog_14_method_102_code
def yX7_count : MethodName := ⟨RX7, "count", "(I)I"⟩
def dkwX7_count_2 : List UInt8 := [28, 167, 0, 16, 27, 5, 160, 0, 10, 42, 180, 0, 194, 167, 0, 4, 2, 172]
abbrev dktX7_count_2 : List UInt8 := dkwX7_count_2 ++ []
def dkwX7_count_1 : List UInt8 := [132, 3, 1, 167, 255, 238, 27, 154, 0, 12, 42, 180, 0, 26, 3, 46, 167, 0, 25, 27, 4, 160, 0, 7]
abbrev dktX7_count_1 : List UInt8 := dkwX7_count_1 ++ dktX7_count_2
def dkwX7_count_0 : List UInt8 := [42, 3, 181, 0, 190, 3, 61, 3, 62, 29, 16, 8, 162, 0, 18, 28, 42, 180, 0, 17, 29, 46, 96, 61]
abbrev dktX7_count_0 : List UInt8 := dkwX7_count_0 ++ dktX7_count_1
theorem dksX7_count_0 : cX7_count.data.toList.drop 0 = dktX7_count_0 := by decide +kernel
theorem dksX7_count_1 : cX7_count.data.toList.drop 24 = dktX7_count_1 := dk_seg dksX7_count_0 24 rfl rfl
theorem dksX7_count_2 : cX7_count.data.toList.drop 48 = dktX7_count_2 := dk_seg dksX7_count_1 24 rfl rfl
theorem dX7_count_0 : decode cX7_count 0 = .ok (.aload_n 0, 1) := dk_42 (dk_at dksX7_count_0 0 rfl rfl)
theorem dX7_count_1 : decode cX7_count 1 = .ok (.iconst 0, 1) := dk_3 (dk_at dksX7_count_0 1 rfl rfl)
theorem dX7_count_2 : decode cX7_count 2 = .ok (.putfield 190, 3) := dk_181 0 190 (dk_at dksX7_count_0 2 rfl rfl)
theorem dX7_count_5 : decode cX7_count 5 = .ok (.iconst 0, 1) := dk_3 (dk_at dksX7_count_0 5 rfl rfl)
theorem dX7_count_6 : decode cX7_count 6 = .ok (.istore_n 2, 1) := dk_61 (dk_at dksX7_count_0 6 rfl rfl)
theorem dX7_count_7 : decode cX7_count 7 = .ok (.iconst 0, 1) := dk_3 (dk_at dksX7_count_0 7 rfl rfl)
theorem dX7_count_8 : decode cX7_count 8 = .ok (.istore_n 3, 1) := dk_62 (dk_at dksX7_count_0 8 rfl rfl)
theorem dX7_count_9 : decode cX7_count 9 = .ok (.iload_n 3, 1) := dk_29 (dk_at dksX7_count_0 9 rfl rfl)
theorem dX7_count_10 : decode cX7_count 10 = .ok (.bipush 8, 2) := dk_16 8 (dk_at dksX7_count_0 10 rfl rfl)
theorem dX7_count_12 : decode cX7_count 12 = .ok (.if_icmp .ge 18, 3) := dk_162 0 18 (dk_at dksX7_count_0 12 rfl rfl)
theorem dX7_count_15 : decode cX7_count 15 = .ok (.iload_n 2, 1) := dk_28 (dk_at dksX7_count_0 15 rfl rfl)
theorem dX7_count_16 : decode cX7_count 16 = .ok (.aload_n 0, 1) := dk_42 (dk_at dksX7_count_0 16 rfl rfl)
theorem dX7_count_17 : decode cX7_count 17 = .ok (.getfield 17, 3) := dk_180 0 17 (dk_at dksX7_count_0 17 rfl rfl)
theorem dX7_count_20 : decode cX7_count 20 = .ok (.iload_n 3, 1) := dk_29 (dk_at dksX7_count_0 20 rfl rfl)
theorem dX7_count_21 : decode cX7_count 21 = .ok (.iaload, 1) := dk_46 (dk_at dksX7_count_0 21 rfl rfl)
theorem dX7_count_22 : decode cX7_count 22 = .ok (.iadd, 1) := dk_96 (dk_at dksX7_count_0 22 rfl rfl)
theorem dX7_count_23 : decode cX7_count 23 = .ok (.istore_n 2, 1) := dk_61 (dk_at dksX7_count_0 23 rfl rfl)
theorem dX7_count_24 : decode cX7_count 24 = .ok (.iinc 3 1, 3) := dk_132 3 1 (dk_at dksX7_count_1 0 rfl rfl)
theorem dX7_count_27 : decode cX7_count 27 = .ok (.goto (-18), 3) := dk_167 255 238 (dk_at dksX7_count_1 3 rfl rfl)
theorem dX7_count_30 : decode cX7_count 30 = .ok (.iload_n 1, 1) := dk_27 (dk_at dksX7_count_1 6 rfl rfl)
theorem dX7_count_31 : decode cX7_count 31 = .ok (.ifCond .ne 12, 3) := dk_154 0 12 (dk_at dksX7_count_1 7 rfl rfl)
theorem dX7_count_34 : decode cX7_count 34 = .ok (.aload_n 0, 1) := dk_42 (dk_at dksX7_count_1 10 rfl rfl)
theorem dX7_count_35 : decode cX7_count 35 = .ok (.getfield 26, 3) := dk_180 0 26 (dk_at dksX7_count_1 11 rfl rfl)
theorem dX7_count_38 : decode cX7_count 38 = .ok (.iconst 0, 1) := dk_3 (dk_at dksX7_count_1 14 rfl rfl)
theorem dX7_count_39 : decode cX7_count 39 = .ok (.iaload, 1) := dk_46 (dk_at dksX7_count_1 15 rfl rfl)
theorem dX7_count_40 : decode cX7_count 40 = .ok (.goto 25, 3) := dk_167 0 25 (dk_at dksX7_count_1 16 rfl rfl)
theorem dX7_count_43 : decode cX7_count 43 = .ok (.iload_n 1, 1) := dk_27 (dk_at dksX7_count_1 19 rfl rfl)
theorem dX7_count_44 : decode cX7_count 44 = .ok (.iconst 1, 1) := dk_4 (dk_at dksX7_count_1 20 rfl rfl)
theorem dX7_count_45 : decode cX7_count 45 = .ok (.if_icmp .ne 7, 3) := dk_160 0 7 (dk_at dksX7_count_1 21 rfl rfl)
theorem dX7_count_48 : decode cX7_count 48 = .ok (.iload_n 2, 1) := dk_28 (dk_at dksX7_count_2 0 rfl rfl)
theorem dX7_count_49 : decode cX7_count 49 = .ok (.goto 16, 3) := dk_167 0 16 (dk_at dksX7_count_2 1 rfl rfl)
theorem dX7_count_52 : decode cX7_count 52 = .ok (.iload_n 1, 1) := dk_27 (dk_at dksX7_count_2 4 rfl rfl)
theorem dX7_count_53 : decode cX7_count 53 = .ok (.iconst 2, 1) := dk_5 (dk_at dksX7_count_2 5 rfl rfl)
theorem dX7_count_54 : decode cX7_count 54 = .ok (.if_icmp .ne 10, 3) := dk_160 0 10 (dk_at dksX7_count_2 6 rfl rfl)
theorem dX7_count_57 : decode cX7_count 57 = .ok (.aload_n 0, 1) := dk_42 (dk_at dksX7_count_2 9 rfl rfl)
theorem dX7_count_58 : decode cX7_count 58 = .ok (.getfield 194, 3) := dk_180 0 194 (dk_at dksX7_count_2 10 rfl rfl)
theorem dX7_count_61 : decode cX7_count 61 = .ok (.goto 4, 3) := dk_167 0 4 (dk_at dksX7_count_2 13 rfl rfl)
theorem dX7_count_64 : decode cX7_count 64 = .ok (.iconst (-1), 1) := dk_2 (dk_at dksX7_count_2 16 rfl rfl)
theorem dX7_count_65 : decode cX7_count 65 = .ok (.ireturn, 1) := dk_172 (dk_at dksX7_count_2 17 rfl rfl)
