/-! the instructions by their places (by program) -/
set_option maxRecDepth 100000
theorem n_X1_init_0 : nth t_X1_init 0 = aLdA 0 1 := rfl
theorem n_X1_init_1 : nth t_X1_init 1 = aObjI 4 := rfl
theorem n_X1_init_4 : nth t_X1_init 4 = aLdA 0 5 := rfl
theorem n_X1_init_5 : nth t_X1_init 5 = aK (.int 740) 8 := rfl
theorem n_X1_init_8 : nth t_X1_init 8 = aNewA 101 10 := rfl
theorem n_X1_init_10 : nth t_X1_init 10 = aPutR 0 [0] 13 := rfl
theorem n_X1_init_13 : nth t_X1_init 13 = aLdA 0 14 := rfl
theorem n_X1_init_14 : nth t_X1_init 14 = aK (.int 8) 16 := rfl
theorem n_X1_init_16 : nth t_X1_init 16 = aNewA 112 19 := rfl
theorem n_X1_init_19 : nth t_X1_init 19 = aPutR 3 [0] 22 := rfl
theorem n_X1_init_22 : nth t_X1_init 22 = aLdA 0 23 := rfl
theorem n_X1_init_23 : nth t_X1_init 23 = aNew 1 3 26 := rfl
theorem y_X1_init_1 (n : Nat) : nth t_X1_init (n + 26) = nth t_X1_init_c1 n := rfl
theorem n_X1_init_26 : nth t_X1_init 26 = aDup 27 := (y_X1_init_1 0).trans rfl
theorem n_X1_init_27 : nth t_X1_init 27 = aCalI 114 0 30 none := (y_X1_init_1 1).trans rfl
theorem n_X1_init_30 : nth t_X1_init 30 = aPutR 4 [0] 33 := (y_X1_init_1 4).trans rfl
theorem n_X1_init_33 : nth t_X1_init 33 = aLdA 0 34 := (y_X1_init_1 7).trans rfl
theorem n_X1_init_34 : nth t_X1_init 34 = aNew 2 10 37 := (y_X1_init_1 8).trans rfl
theorem n_X1_init_37 : nth t_X1_init 37 = aDup 38 := (y_X1_init_1 11).trans rfl
theorem n_X1_init_38 : nth t_X1_init 38 = aCalI 120 0 41 none := (y_X1_init_1 12).trans rfl
theorem n_X1_init_41 : nth t_X1_init 41 = aPutR 5 [0] 44 := (y_X1_init_1 15).trans rfl
theorem n_X1_init_44 : nth t_X1_init 44 = aLdA 0 45 := (y_X1_init_1 18).trans rfl
theorem n_X1_init_45 : nth t_X1_init 45 = aNew 3 11 48 := (y_X1_init_1 19).trans rfl
theorem n_X1_init_48 : nth t_X1_init 48 = aDup 49 := (y_X1_init_1 22).trans rfl
theorem n_X1_init_49 : nth t_X1_init 49 = aCalI 136 0 52 none := (y_X1_init_1 23).trans rfl
theorem y_X1_init_2 (n : Nat) : nth t_X1_init (n + 52) = nth t_X1_init_c2 n := (y_X1_init_1 (n + 26)).trans rfl
theorem n_X1_init_52 : nth t_X1_init 52 = aPutR 6 [0] 55 := (y_X1_init_2 0).trans rfl
theorem n_X1_init_55 : nth t_X1_init 55 = aLdA 0 56 := (y_X1_init_2 3).trans rfl
theorem n_X1_init_56 : nth t_X1_init 56 = aNew 3 11 59 := (y_X1_init_2 4).trans rfl
theorem n_X1_init_59 : nth t_X1_init 59 = aDup 60 := (y_X1_init_2 7).trans rfl
theorem n_X1_init_60 : nth t_X1_init 60 = aCalI 136 0 63 none := (y_X1_init_2 8).trans rfl
theorem n_X1_init_63 : nth t_X1_init 63 = aPutR 7 [0] 66 := (y_X1_init_2 11).trans rfl
theorem n_X1_init_66 : nth t_X1_init 66 = aLdA 0 67 := (y_X1_init_2 14).trans rfl
theorem n_X1_init_67 : nth t_X1_init 67 = aNew 3 11 70 := (y_X1_init_2 15).trans rfl
theorem n_X1_init_70 : nth t_X1_init 70 = aDup 71 := (y_X1_init_2 18).trans rfl
theorem n_X1_init_71 : nth t_X1_init 71 = aCalI 136 0 74 none := (y_X1_init_2 19).trans rfl
theorem n_X1_init_74 : nth t_X1_init 74 = aPutR 8 [0] 77 := (y_X1_init_2 22).trans rfl
theorem n_X1_init_77 : nth t_X1_init 77 = aLdA 0 78 := (y_X1_init_2 25).trans rfl
theorem y_X1_init_3 (n : Nat) : nth t_X1_init (n + 78) = nth t_X1_init_c3 n := (y_X1_init_2 (n + 26)).trans rfl
theorem n_X1_init_78 : nth t_X1_init 78 = aK (.int 60) 80 := (y_X1_init_3 0).trans rfl
theorem n_X1_init_80 : nth t_X1_init 80 = aNewA 100 82 := (y_X1_init_3 2).trans rfl
theorem n_X1_init_82 : nth t_X1_init 82 = aPutR 10 [0] 85 := (y_X1_init_3 4).trans rfl
theorem n_X1_init_85 : nth t_X1_init 85 = aLdA 0 86 := (y_X1_init_3 7).trans rfl
theorem n_X1_init_86 : nth t_X1_init 86 = aNew 4 10 89 := (y_X1_init_3 8).trans rfl
theorem n_X1_init_89 : nth t_X1_init 89 = aDup 90 := (y_X1_init_3 11).trans rfl
theorem n_X1_init_90 : nth t_X1_init 90 = aCalI 141 0 93 none := (y_X1_init_3 12).trans rfl
theorem n_X1_init_93 : nth t_X1_init 93 = aPutR 14 [0] 96 := (y_X1_init_3 15).trans rfl
theorem n_X1_init_96 : nth t_X1_init 96 = aLdA 0 97 := (y_X1_init_3 18).trans rfl
theorem n_X1_init_97 : nth t_X1_init 97 = aK (.int 256) 100 := (y_X1_init_3 19).trans rfl
theorem n_X1_init_100 : nth t_X1_init 100 = aNewA 100 102 := (y_X1_init_3 22).trans rfl
theorem n_X1_init_102 : nth t_X1_init 102 = aPutR 15 [0] 105 := (y_X1_init_3 24).trans rfl
theorem y_X1_init_4 (n : Nat) : nth t_X1_init (n + 105) = nth t_X1_init_c4 n := (y_X1_init_3 (n + 27)).trans rfl
theorem n_X1_init_105 : nth t_X1_init 105 = aLdA 0 106 := (y_X1_init_4 0).trans rfl
theorem n_X1_init_106 : nth t_X1_init 106 = aK (.int 8) 108 := (y_X1_init_4 1).trans rfl
theorem n_X1_init_108 : nth t_X1_init 108 = aNewA 100 110 := (y_X1_init_4 3).trans rfl
theorem n_X1_init_110 : nth t_X1_init 110 = aPutR 16 [0] 113 := (y_X1_init_4 5).trans rfl
theorem n_X1_init_113 : nth t_X1_init 113 = aLdA 0 114 := (y_X1_init_4 8).trans rfl
theorem n_X1_init_114 : nth t_X1_init 114 = aK (.int 256) 117 := (y_X1_init_4 9).trans rfl
theorem n_X1_init_117 : nth t_X1_init 117 = aNewA 102 119 := (y_X1_init_4 12).trans rfl
theorem n_X1_init_119 : nth t_X1_init 119 = aPutR 17 [0] 122 := (y_X1_init_4 14).trans rfl
theorem n_X1_init_122 : nth t_X1_init 122 = aLdA 0 123 := (y_X1_init_4 17).trans rfl
theorem n_X1_init_123 : nth t_X1_init 123 = aNew 3 11 126 := (y_X1_init_4 18).trans rfl
theorem n_X1_init_126 : nth t_X1_init 126 = aDup 127 := (y_X1_init_4 21).trans rfl
theorem n_X1_init_127 : nth t_X1_init 127 = aCalI 136 0 130 none := (y_X1_init_4 22).trans rfl
theorem y_X1_init_5 (n : Nat) : nth t_X1_init (n + 130) = nth t_X1_init_c5 n := (y_X1_init_4 (n + 25)).trans rfl
theorem n_X1_init_130 : nth t_X1_init 130 = aPutR 19 [0] 133 := (y_X1_init_5 0).trans rfl
theorem n_X1_init_133 : nth t_X1_init 133 = aLdA 0 134 := (y_X1_init_5 3).trans rfl
theorem n_X1_init_134 : nth t_X1_init 134 = aK (.int (-1)) 135 := (y_X1_init_5 4).trans rfl
theorem n_X1_init_135 : nth t_X1_init 135 = aPutI 20 [0] 138 := (y_X1_init_5 5).trans rfl
theorem n_X1_init_138 : nth t_X1_init 138 = aLdA 0 139 := (y_X1_init_5 8).trans rfl
theorem n_X1_init_139 : nth t_X1_init 139 = aK (.int 40) 141 := (y_X1_init_5 9).trans rfl
theorem n_X1_init_141 : nth t_X1_init 141 = aNewA 100 143 := (y_X1_init_5 11).trans rfl
theorem n_X1_init_143 : nth t_X1_init 143 = aPutR 22 [0] 146 := (y_X1_init_5 13).trans rfl
theorem n_X1_init_146 : nth t_X1_init 146 = aLdA 0 147 := (y_X1_init_5 16).trans rfl
theorem n_X1_init_147 : nth t_X1_init 147 = aK (.int 100) 149 := (y_X1_init_5 17).trans rfl
theorem n_X1_init_149 : nth t_X1_init 149 = aNewA 100 151 := (y_X1_init_5 19).trans rfl
theorem n_X1_init_151 : nth t_X1_init 151 = aPutR 24 [0] 154 := (y_X1_init_5 21).trans rfl
theorem y_X1_init_6 (n : Nat) : nth t_X1_init (n + 154) = nth t_X1_init_c6 n := (y_X1_init_5 (n + 24)).trans rfl
theorem n_X1_init_154 : nth t_X1_init 154 = aLdA 0 155 := (y_X1_init_6 0).trans rfl
theorem n_X1_init_155 : nth t_X1_init 155 = aK (.int 100) 157 := (y_X1_init_6 1).trans rfl
theorem n_X1_init_157 : nth t_X1_init 157 = aNewA 100 159 := (y_X1_init_6 3).trans rfl
theorem n_X1_init_159 : nth t_X1_init 159 = aPutR 25 [0] 162 := (y_X1_init_6 5).trans rfl
theorem n_X1_init_162 : nth t_X1_init 162 = aLdA 0 163 := (y_X1_init_6 8).trans rfl
theorem n_X1_init_163 : nth t_X1_init 163 = aK (.int 100) 165 := (y_X1_init_6 9).trans rfl
theorem n_X1_init_165 : nth t_X1_init 165 = aNewA 100 167 := (y_X1_init_6 11).trans rfl
theorem n_X1_init_167 : nth t_X1_init 167 = aPutR 26 [0] 170 := (y_X1_init_6 13).trans rfl
theorem n_X1_init_170 : nth t_X1_init 170 = aLdA 0 171 := (y_X1_init_6 16).trans rfl
theorem n_X1_init_171 : nth t_X1_init 171 = aNew 1 3 174 := (y_X1_init_6 17).trans rfl
theorem n_X1_init_174 : nth t_X1_init 174 = aDup 175 := (y_X1_init_6 20).trans rfl
theorem n_X1_init_175 : nth t_X1_init 175 = aCalI 114 0 178 none := (y_X1_init_6 21).trans rfl
theorem y_X1_init_7 (n : Nat) : nth t_X1_init (n + 178) = nth t_X1_init_c7 n := (y_X1_init_6 (n + 24)).trans rfl
theorem n_X1_init_178 : nth t_X1_init 178 = aPutR 28 [0] 181 := (y_X1_init_7 0).trans rfl
theorem n_X1_init_181 : nth t_X1_init 181 = aLdA 0 182 := (y_X1_init_7 3).trans rfl
theorem n_X1_init_182 : nth t_X1_init 182 = aK (.int 8) 184 := (y_X1_init_7 4).trans rfl
theorem n_X1_init_184 : nth t_X1_init 184 = aNewA 113 187 := (y_X1_init_7 6).trans rfl
theorem n_X1_init_187 : nth t_X1_init 187 = aPutR 29 [0] 190 := (y_X1_init_7 9).trans rfl
theorem n_X1_init_190 : nth t_X1_init 190 = aLdA 0 191 := (y_X1_init_7 12).trans rfl
theorem n_X1_init_191 : nth t_X1_init 191 = aK (.int 6) 193 := (y_X1_init_7 13).trans rfl
theorem n_X1_init_193 : nth t_X1_init 193 = aNewA 100 195 := (y_X1_init_7 15).trans rfl
theorem n_X1_init_195 : nth t_X1_init 195 = aPutR 30 [0] 198 := (y_X1_init_7 17).trans rfl
theorem n_X1_init_198 : nth t_X1_init 198 = aLdA 0 199 := (y_X1_init_7 20).trans rfl
theorem n_X1_init_199 : nth t_X1_init 199 = aK (.int 6) 201 := (y_X1_init_7 21).trans rfl
theorem n_X1_init_201 : nth t_X1_init 201 = aNewA 100 203 := (y_X1_init_7 23).trans rfl
theorem y_X1_init_8 (n : Nat) : nth t_X1_init (n + 203) = nth t_X1_init_c8 n := (y_X1_init_7 (n + 25)).trans rfl
theorem n_X1_init_203 : nth t_X1_init 203 = aPutR 31 [0] 206 := (y_X1_init_8 0).trans rfl
theorem n_X1_init_206 : nth t_X1_init 206 = aLdA 0 207 := (y_X1_init_8 3).trans rfl
theorem n_X1_init_207 : nth t_X1_init 207 = aK (.int 6) 209 := (y_X1_init_8 4).trans rfl
theorem n_X1_init_209 : nth t_X1_init 209 = aNewA 100 211 := (y_X1_init_8 6).trans rfl
theorem n_X1_init_211 : nth t_X1_init 211 = aPutR 32 [0] 214 := (y_X1_init_8 8).trans rfl
theorem n_X1_init_214 : nth t_X1_init 214 = aLdA 0 215 := (y_X1_init_8 11).trans rfl
theorem n_X1_init_215 : nth t_X1_init 215 = aK (.int 7) 217 := (y_X1_init_8 12).trans rfl
theorem n_X1_init_217 : nth t_X1_init 217 = aK (.int 6) 219 := (y_X1_init_8 14).trans rfl
theorem n_X1_init_223 : nth t_X1_init 223 = aPutR 33 [0] 226 := (y_X1_init_8 20).trans rfl
theorem n_X1_init_226 : nth t_X1_init 226 = aK (.int 0) 227 := (y_X1_init_8 23).trans rfl
theorem n_X1_init_227 : nth t_X1_init 227 = aStI 1 228 := (y_X1_init_8 24).trans rfl
theorem y_X1_init_9 (n : Nat) : nth t_X1_init (n + 228) = nth t_X1_init_c9 n := (y_X1_init_8 (n + 25)).trans rfl
theorem n_X1_init_228 : nth t_X1_init 228 = aLdI 1 229 := (y_X1_init_9 0).trans rfl
theorem n_X1_init_229 : nth t_X1_init 229 = aK (.int 8) 231 := (y_X1_init_9 1).trans rfl
theorem n_X1_init_231 : nth t_X1_init 231 = aIcLt 234 253 := (y_X1_init_9 3).trans rfl
theorem n_X1_init_234 : nth t_X1_init 234 = aLdA 0 235 := (y_X1_init_9 6).trans rfl
theorem n_X1_init_235 : nth t_X1_init 235 = aGetR 3 [0] 238 := (y_X1_init_9 7).trans rfl
theorem n_X1_init_238 : nth t_X1_init 238 = aLdI 1 239 := (y_X1_init_9 10).trans rfl
theorem n_X1_init_239 : nth t_X1_init 239 = aNew 5 2 242 := (y_X1_init_9 11).trans rfl
theorem n_X1_init_242 : nth t_X1_init 242 = aDup 243 := (y_X1_init_9 14).trans rfl
theorem n_X1_init_243 : nth t_X1_init 243 = aCalI 145 0 246 none := (y_X1_init_9 15).trans rfl
theorem n_X1_init_246 : nth t_X1_init 246 = aAstA 247 := (y_X1_init_9 18).trans rfl
theorem n_X1_init_247 : nth t_X1_init 247 = aInc 1 1 250 := (y_X1_init_9 19).trans rfl
theorem n_X1_init_250 : nth t_X1_init 250 = aGoto 228 := (y_X1_init_9 22).trans rfl
theorem y_X1_init_10 (n : Nat) : nth t_X1_init (n + 253) = nth t_X1_init_c10 n := (y_X1_init_9 (n + 25)).trans rfl
theorem n_X1_init_253 : nth t_X1_init 253 = aRetV := (y_X1_init_10 0).trans rfl
theorem n_X1_feed_0 : nth t_X1_feed 0 = aLdA 0 1 := rfl
theorem n_X1_feed_1 : nth t_X1_feed 1 = aGetI 1 [0] 4 := rfl
theorem n_X1_feed_4 : nth t_X1_feed 4 = aK (.int 20) 6 := rfl
theorem n_X1_feed_6 : nth t_X1_feed 6 = aB (fun x y => x + y) 7 := rfl
theorem n_X1_feed_7 : nth t_X1_feed 7 = aK (.int 740) 10 := rfl
theorem n_X1_feed_10 : nth t_X1_feed 10 = aIcLe 15 13 := rfl
theorem n_X1_feed_13 : nth t_X1_feed 13 = aK (.int (-1)) 14 := rfl
theorem n_X1_feed_14 : nth t_X1_feed 14 = aRetI := rfl
theorem n_X1_feed_15 : nth t_X1_feed 15 = aLdA 0 16 := rfl
theorem n_X1_feed_16 : nth t_X1_feed 16 = aLdI 1 17 := rfl
theorem n_X1_feed_17 : nth t_X1_feed 17 = aCalV 38 1 20 [0] none := rfl
theorem n_X1_feed_20 : nth t_X1_feed 20 = aLdA 0 21 := rfl
theorem y_X1_feed_1 (n : Nat) : nth t_X1_feed (n + 21) = nth t_X1_feed_c1 n := rfl
theorem n_X1_feed_21 : nth t_X1_feed 21 = aLdI 2 22 := (y_X1_feed_1 0).trans rfl
theorem n_X1_feed_22 : nth t_X1_feed 22 = aCalV 38 1 25 [0] none := (y_X1_feed_1 1).trans rfl
theorem n_X1_feed_25 : nth t_X1_feed 25 = aLdA 0 26 := (y_X1_feed_1 4).trans rfl
theorem n_X1_feed_26 : nth t_X1_feed 26 = aLdI 3 27 := (y_X1_feed_1 5).trans rfl
theorem n_X1_feed_27 : nth t_X1_feed 27 = aCalV 38 1 30 [0] none := (y_X1_feed_1 6).trans rfl
theorem n_X1_feed_30 : nth t_X1_feed 30 = aLdA 0 31 := (y_X1_feed_1 9).trans rfl
theorem n_X1_feed_31 : nth t_X1_feed 31 = aLdI 4 33 := (y_X1_feed_1 10).trans rfl
theorem n_X1_feed_33 : nth t_X1_feed 33 = aCalV 38 1 36 [0] none := (y_X1_feed_1 12).trans rfl
theorem n_X1_feed_36 : nth t_X1_feed 36 = aLdA 0 37 := (y_X1_feed_1 15).trans rfl
theorem n_X1_feed_37 : nth t_X1_feed 37 = aLdI 5 39 := (y_X1_feed_1 16).trans rfl
theorem n_X1_feed_39 : nth t_X1_feed 39 = aCalV 38 1 42 [0] none := (y_X1_feed_1 18).trans rfl
theorem n_X1_feed_42 : nth t_X1_feed 42 = aLdA 0 43 := (y_X1_feed_1 21).trans rfl
theorem y_X1_feed_2 (n : Nat) : nth t_X1_feed (n + 43) = nth t_X1_feed_c2 n := (y_X1_feed_1 (n + 22)).trans rfl
theorem n_X1_feed_43 : nth t_X1_feed 43 = aGetI 1 [0] 46 := (y_X1_feed_2 0).trans rfl
theorem n_X1_feed_46 : nth t_X1_feed 46 = aRetI := (y_X1_feed_2 3).trans rfl
theorem n_X1_come_0 : nth t_X1_come 0 = aK (.int 24) 2 := rfl
theorem n_X1_come_2 : nth t_X1_come 2 = aStI 2 3 := rfl
theorem n_X1_come_3 : nth t_X1_come 3 = aLdI 2 4 := rfl
theorem n_X1_come_4 : nth t_X1_come 4 = aIfLt 36 7 := rfl
theorem n_X1_come_7 : nth t_X1_come 7 = aLdA 0 8 := rfl
theorem n_X1_come_8 : nth t_X1_come 8 = aGetR 0 [0] 11 := rfl
theorem n_X1_come_11 : nth t_X1_come 11 = aLdA 0 12 := rfl
theorem n_X1_come_12 : nth t_X1_come 12 = aGetI 1 [0] 15 := rfl
theorem n_X1_come_15 : nth t_X1_come 15 = aLdI 1 16 := rfl
theorem n_X1_come_16 : nth t_X1_come 16 = aLdI 2 17 := rfl
theorem n_X1_come_17 : nth t_X1_come 17 = aB (fun x y => x >>> (y &&& 31)) 18 := rfl
theorem n_X1_come_18 : nth t_X1_come 18 = aU (fun x => x.toInt8.toInt32) 19 := rfl
theorem y_X1_come_1 (n : Nat) : nth t_X1_come (n + 19) = nth t_X1_come_c1 n := rfl
theorem n_X1_come_19 : nth t_X1_come 19 = aAstB 20 := (y_X1_come_1 0).trans rfl
theorem n_X1_come_20 : nth t_X1_come 20 = aLdA 0 21 := (y_X1_come_1 1).trans rfl
theorem n_X1_come_21 : nth t_X1_come 21 = aDup 22 := (y_X1_come_1 2).trans rfl
theorem n_X1_come_22 : nth t_X1_come 22 = aGetI 1 [0] 25 := (y_X1_come_1 3).trans rfl
theorem n_X1_come_25 : nth t_X1_come 25 = aK (.int 1) 26 := (y_X1_come_1 6).trans rfl
theorem n_X1_come_26 : nth t_X1_come 26 = aB (fun x y => x + y) 27 := (y_X1_come_1 7).trans rfl
theorem n_X1_come_27 : nth t_X1_come 27 = aPutI 1 [0] 30 := (y_X1_come_1 8).trans rfl
theorem n_X1_come_30 : nth t_X1_come 30 = aInc 2 (-8) 33 := (y_X1_come_1 11).trans rfl
theorem n_X1_come_33 : nth t_X1_come 33 = aGoto 3 := (y_X1_come_1 14).trans rfl
theorem n_X1_come_36 : nth t_X1_come 36 = aRetV := (y_X1_come_1 17).trans rfl
theorem n_X1_end_0 : nth t_X1_end 0 = aLdI 1 1 := rfl
theorem n_X1_end_1 : nth t_X1_end 1 = aIfLt 12 4 := rfl
theorem n_X1_end_4 : nth t_X1_end 4 = aLdI 1 5 := rfl
theorem n_X1_end_5 : nth t_X1_end 5 = aLdA 0 6 := rfl
theorem n_X1_end_6 : nth t_X1_end 6 = aGetI 1 [0] 9 := rfl
theorem n_X1_end_9 : nth t_X1_end 9 = aIcLe 14 12 := rfl
theorem n_X1_end_12 : nth t_X1_end 12 = aK (.int 0) 13 := rfl
theorem n_X1_end_13 : nth t_X1_end 13 = aRetZ := rfl
theorem n_X1_end_14 : nth t_X1_end 14 = aLdA 0 15 := rfl
theorem n_X1_end_15 : nth t_X1_end 15 = aLdI 1 16 := rfl
theorem n_X1_end_16 : nth t_X1_end 16 = aPutI 1 [0] 19 := rfl
theorem n_X1_end_19 : nth t_X1_end 19 = aK (.int 1) 20 := rfl
theorem y_X1_end_1 (n : Nat) : nth t_X1_end (n + 20) = nth t_X1_end_c1 n := rfl
theorem n_X1_end_20 : nth t_X1_end 20 = aRetZ := (y_X1_end_1 0).trans rfl
theorem n_X1_card_0 : nth t_X1_card 0 = aLdA 0 1 := rfl
theorem n_X1_card_1 : nth t_X1_card 1 = aCalV 41 0 4 [0] none := rfl
theorem n_X1_card_4 : nth t_X1_card 4 = aStI 2 5 := rfl
theorem n_X1_card_5 : nth t_X1_card 5 = aLdI 1 6 := rfl
theorem n_X1_card_6 : nth t_X1_card 6 = aCalS 42 1 9 none := rfl
theorem n_X1_card_9 : nth t_X1_card 9 = aIfEq 32 12 := rfl
theorem n_X1_card_12 : nth t_X1_card 12 = aLdA 0 13 := rfl
theorem n_X1_card_13 : nth t_X1_card 13 = aGetR 3 [0] 16 := rfl
theorem n_X1_card_16 : nth t_X1_card 16 = aLdI 1 17 := rfl
theorem n_X1_card_17 : nth t_X1_card 17 = aAldA 18 := rfl
theorem n_X1_card_18 : nth t_X1_card 18 = aGetI 1 [5] 21 := rfl
theorem n_X1_card_21 : nth t_X1_card 21 = aK (.int 40) 23 := rfl
theorem y_X1_card_1 (n : Nat) : nth t_X1_card (n + 23) = nth t_X1_card_c1 n := rfl
theorem n_X1_card_23 : nth t_X1_card 23 = aIcEq 32 26 := (y_X1_card_1 0).trans rfl
theorem n_X1_card_26 : nth t_X1_card 26 = aLdI 2 27 := (y_X1_card_1 3).trans rfl
theorem n_X1_card_27 : nth t_X1_card 27 = aK (.int 20) 29 := (y_X1_card_1 4).trans rfl
theorem n_X1_card_29 : nth t_X1_card 29 = aIcEq 34 32 := (y_X1_card_1 6).trans rfl
theorem n_X1_card_32 : nth t_X1_card 32 = aK (.int (-1)) 33 := (y_X1_card_1 9).trans rfl
theorem n_X1_card_33 : nth t_X1_card 33 = aRetI := (y_X1_card_1 10).trans rfl
theorem n_X1_card_34 : nth t_X1_card 34 = aK (.int 0) 35 := (y_X1_card_1 11).trans rfl
theorem n_X1_card_35 : nth t_X1_card 35 = aStI 3 36 := (y_X1_card_1 12).trans rfl
theorem n_X1_card_36 : nth t_X1_card 36 = aLdI 3 37 := (y_X1_card_1 13).trans rfl
theorem n_X1_card_37 : nth t_X1_card 37 = aK (.int 20) 39 := (y_X1_card_1 14).trans rfl
theorem n_X1_card_39 : nth t_X1_card 39 = aIcLt 42 80 := (y_X1_card_1 16).trans rfl
theorem n_X1_card_42 : nth t_X1_card 42 = aLdA 0 43 := (y_X1_card_1 19).trans rfl
theorem y_X1_card_2 (n : Nat) : nth t_X1_card (n + 43) = nth t_X1_card_c2 n := (y_X1_card_1 (n + 20)).trans rfl
theorem n_X1_card_43 : nth t_X1_card 43 = aGetR 0 [0] 46 := (y_X1_card_2 0).trans rfl
theorem n_X1_card_46 : nth t_X1_card 46 = aLdI 3 47 := (y_X1_card_2 3).trans rfl
theorem n_X1_card_47 : nth t_X1_card 47 = aAldB 48 := (y_X1_card_2 4).trans rfl
theorem n_X1_card_48 : nth t_X1_card 48 = aK (.int 0) 49 := (y_X1_card_2 5).trans rfl
theorem n_X1_card_49 : nth t_X1_card 49 = aK (.int 31) 51 := (y_X1_card_2 6).trans rfl
theorem n_X1_card_51 : nth t_X1_card 51 = aCalS 43 3 54 none := (y_X1_card_2 8).trans rfl
theorem n_X1_card_54 : nth t_X1_card 54 = aIfEq 72 57 := (y_X1_card_2 11).trans rfl
theorem n_X1_card_57 : nth t_X1_card 57 = aLdA 0 58 := (y_X1_card_2 14).trans rfl
theorem n_X1_card_58 : nth t_X1_card 58 = aGetR 0 [0] 61 := (y_X1_card_2 15).trans rfl
theorem n_X1_card_61 : nth t_X1_card 61 = aLdI 3 62 := (y_X1_card_2 18).trans rfl
theorem n_X1_card_62 : nth t_X1_card 62 = aAldB 63 := (y_X1_card_2 19).trans rfl
theorem n_X1_card_63 : nth t_X1_card 63 = aK (.int 15) 65 := (y_X1_card_2 20).trans rfl
theorem y_X1_card_3 (n : Nat) : nth t_X1_card (n + 65) = nth t_X1_card_c3 n := (y_X1_card_2 (n + 22)).trans rfl
theorem n_X1_card_65 : nth t_X1_card 65 = aB (fun x y => x &&& y) 66 := (y_X1_card_3 0).trans rfl
theorem n_X1_card_66 : nth t_X1_card 66 = aCalS 44 1 69 none := (y_X1_card_3 1).trans rfl
theorem n_X1_card_69 : nth t_X1_card 69 = aIfEq 72 74 := (y_X1_card_3 4).trans rfl
theorem n_X1_card_72 : nth t_X1_card 72 = aK (.int (-1)) 73 := (y_X1_card_3 7).trans rfl
theorem n_X1_card_73 : nth t_X1_card 73 = aRetI := (y_X1_card_3 8).trans rfl
theorem n_X1_card_74 : nth t_X1_card 74 = aInc 3 1 77 := (y_X1_card_3 9).trans rfl
theorem n_X1_card_77 : nth t_X1_card 77 = aGoto 36 := (y_X1_card_3 12).trans rfl
theorem n_X1_card_80 : nth t_X1_card 80 = aLdA 0 81 := (y_X1_card_3 15).trans rfl
theorem n_X1_card_81 : nth t_X1_card 81 = aGetR 3 [0] 84 := (y_X1_card_3 16).trans rfl
theorem n_X1_card_84 : nth t_X1_card 84 = aLdI 1 85 := (y_X1_card_3 19).trans rfl
theorem n_X1_card_85 : nth t_X1_card 85 = aAldA 86 := (y_X1_card_3 20).trans rfl
theorem n_X1_card_86 : nth t_X1_card 86 = aGetR 0 [5] 89 := (y_X1_card_3 21).trans rfl
theorem y_X1_card_4 (n : Nat) : nth t_X1_card (n + 89) = nth t_X1_card_c4 n := (y_X1_card_3 (n + 24)).trans rfl
theorem n_X1_card_89 : nth t_X1_card 89 = aLdA 0 90 := (y_X1_card_4 0).trans rfl
theorem n_X1_card_90 : nth t_X1_card 90 = aGetR 3 [0] 93 := (y_X1_card_4 1).trans rfl
theorem n_X1_card_93 : nth t_X1_card 93 = aLdI 1 94 := (y_X1_card_4 4).trans rfl
theorem n_X1_card_94 : nth t_X1_card 94 = aAldA 95 := (y_X1_card_4 5).trans rfl
theorem n_X1_card_95 : nth t_X1_card 95 = aGetI 1 [5] 98 := (y_X1_card_4 6).trans rfl
theorem n_X1_card_98 : nth t_X1_card 98 = aLdA 0 99 := (y_X1_card_4 9).trans rfl
theorem n_X1_card_99 : nth t_X1_card 99 = aGetR 0 [0] 102 := (y_X1_card_4 10).trans rfl
theorem n_X1_card_102 : nth t_X1_card 102 = aK (.int 20) 104 := (y_X1_card_4 13).trans rfl
theorem n_X1_card_104 : nth t_X1_card 104 = aCalS 0 2 107 none := (y_X1_card_4 15).trans rfl
theorem n_X1_card_107 : nth t_X1_card 107 = aAstA 108 := (y_X1_card_4 18).trans rfl
theorem n_X1_card_108 : nth t_X1_card 108 = aLdA 0 109 := (y_X1_card_4 19).trans rfl
theorem n_X1_card_109 : nth t_X1_card 109 = aGetR 3 [0] 112 := (y_X1_card_4 20).trans rfl
theorem y_X1_card_5 (n : Nat) : nth t_X1_card (n + 112) = nth t_X1_card_c5 n := (y_X1_card_4 (n + 23)).trans rfl
theorem n_X1_card_112 : nth t_X1_card 112 = aLdI 1 113 := (y_X1_card_5 0).trans rfl
theorem n_X1_card_113 : nth t_X1_card 113 = aAldA 114 := (y_X1_card_5 1).trans rfl
theorem n_X1_card_114 : nth t_X1_card 114 = aDup 115 := (y_X1_card_5 2).trans rfl
theorem n_X1_card_115 : nth t_X1_card 115 = aGetI 1 [5] 118 := (y_X1_card_5 3).trans rfl
theorem n_X1_card_118 : nth t_X1_card 118 = aK (.int 1) 119 := (y_X1_card_5 6).trans rfl
theorem n_X1_card_119 : nth t_X1_card 119 = aB (fun x y => x + y) 120 := (y_X1_card_5 7).trans rfl
theorem n_X1_card_120 : nth t_X1_card 120 = aPutI 1 [5] 123 := (y_X1_card_5 8).trans rfl
theorem n_X1_card_123 : nth t_X1_card 123 = aLdA 0 124 := (y_X1_card_5 11).trans rfl
theorem n_X1_card_124 : nth t_X1_card 124 = aGetR 3 [0] 127 := (y_X1_card_5 12).trans rfl
theorem n_X1_card_127 : nth t_X1_card 127 = aLdI 1 128 := (y_X1_card_5 15).trans rfl
theorem n_X1_card_128 : nth t_X1_card 128 = aAldA 129 := (y_X1_card_5 16).trans rfl
theorem n_X1_card_129 : nth t_X1_card 129 = aGetI 1 [5] 132 := (y_X1_card_5 17).trans rfl
theorem y_X1_card_6 (n : Nat) : nth t_X1_card (n + 132) = nth t_X1_card_c6 n := (y_X1_card_5 (n + 20)).trans rfl
theorem n_X1_card_132 : nth t_X1_card 132 = aRetI := (y_X1_card_6 0).trans rfl
theorem n_X1_take_0 : nth t_X1_take 0 = aLdA 0 1 := rfl
theorem n_X1_take_1 : nth t_X1_take 1 = aGetI 1 [0] 4 := rfl
theorem n_X1_take_4 : nth t_X1_take 4 = aStI 1 5 := rfl
theorem n_X1_take_5 : nth t_X1_take 5 = aLdA 0 6 := rfl
theorem n_X1_take_6 : nth t_X1_take 6 = aK (.int 0) 7 := rfl
theorem n_X1_take_7 : nth t_X1_take 7 = aPutI 1 [0] 10 := rfl
theorem n_X1_take_10 : nth t_X1_take 10 = aLdI 1 11 := rfl
theorem n_X1_take_11 : nth t_X1_take 11 = aRetI := rfl
theorem n_X1_isBox_0 : nth t_X1_isBox 0 = aLdI 0 1 := rfl
theorem n_X1_isBox_1 : nth t_X1_isBox 1 = aK (.int 0) 2 := rfl
theorem n_X1_isBox_2 : nth t_X1_isBox 2 = aK (.int 7) 4 := rfl
theorem n_X1_isBox_4 : nth t_X1_isBox 4 = aCalS 43 3 7 none := rfl
theorem n_X1_isBox_7 : nth t_X1_isBox 7 = aRetZ := rfl
theorem n_X1_isIn_0 : nth t_X1_isIn 0 = aLdI 0 1 := rfl
theorem n_X1_isIn_1 : nth t_X1_isIn 1 = aLdI 1 2 := rfl
theorem n_X1_isIn_2 : nth t_X1_isIn 2 = aIcLt 14 5 := rfl
theorem n_X1_isIn_5 : nth t_X1_isIn 5 = aLdI 0 6 := rfl
theorem n_X1_isIn_6 : nth t_X1_isIn 6 = aLdI 2 7 := rfl
theorem n_X1_isIn_7 : nth t_X1_isIn 7 = aIcLe 10 14 := rfl
theorem n_X1_isIn_10 : nth t_X1_isIn 10 = aK (.int 1) 11 := rfl
theorem n_X1_isIn_11 : nth t_X1_isIn 11 = aGoto 15 := rfl
theorem n_X1_isIn_14 : nth t_X1_isIn 14 = aK (.int 0) 15 := rfl
theorem n_X1_isIn_15 : nth t_X1_isIn 15 = aRetZ := rfl
theorem n_X1_isDigit_0 : nth t_X1_isDigit 0 = aLdI 0 1 := rfl
theorem n_X1_isDigit_1 : nth t_X1_isDigit 1 = aK (.int 0) 2 := rfl
theorem n_X1_isDigit_2 : nth t_X1_isDigit 2 = aK (.int 9) 4 := rfl
theorem n_X1_isDigit_4 : nth t_X1_isDigit 4 = aCalS 43 3 7 none := rfl
theorem n_X1_isDigit_7 : nth t_X1_isDigit 7 = aIfEq 10 16 := rfl
theorem n_X1_isDigit_10 : nth t_X1_isDigit 10 = aLdI 0 11 := rfl
theorem n_X1_isDigit_11 : nth t_X1_isDigit 11 = aK (.int 15) 13 := rfl
theorem n_X1_isDigit_13 : nth t_X1_isDigit 13 = aIcEq 16 20 := rfl
theorem n_X1_isDigit_16 : nth t_X1_isDigit 16 = aK (.int 1) 17 := rfl
theorem n_X1_isDigit_17 : nth t_X1_isDigit 17 = aGoto 21 := rfl
theorem n_X1_isDigit_20 : nth t_X1_isDigit 20 = aK (.int 0) 21 := rfl
theorem n_X1_isDigit_21 : nth t_X1_isDigit 21 = aRetZ := rfl
theorem n_X1_cards_0 : nth t_X1_cards 0 = aLdI 1 1 := rfl
theorem n_X1_cards_1 : nth t_X1_cards 1 = aCalS 42 1 4 none := rfl
theorem n_X1_cards_4 : nth t_X1_cards 4 = aIfEq 19 7 := rfl
theorem n_X1_cards_7 : nth t_X1_cards 7 = aLdA 0 8 := rfl
theorem n_X1_cards_8 : nth t_X1_cards 8 = aGetR 3 [0] 11 := rfl
theorem n_X1_cards_11 : nth t_X1_cards 11 = aLdI 1 12 := rfl
theorem n_X1_cards_12 : nth t_X1_cards 12 = aAldA 13 := rfl
theorem n_X1_cards_13 : nth t_X1_cards 13 = aGetI 1 [5] 16 := rfl
theorem n_X1_cards_16 : nth t_X1_cards 16 = aGoto 20 := rfl
theorem n_X1_cards_19 : nth t_X1_cards 19 = aK (.int (-1)) 20 := rfl
theorem n_X1_cards_20 : nth t_X1_cards 20 = aRetI := rfl
theorem n_X1_empty_0 : nth t_X1_empty 0 = aLdI 1 1 := rfl
theorem n_X1_empty_1 : nth t_X1_empty 1 = aCalS 42 1 4 none := rfl
theorem n_X1_empty_4 : nth t_X1_empty 4 = aIfEq 7 9 := rfl
theorem n_X1_empty_7 : nth t_X1_empty 7 = aK (.int (-1)) 8 := rfl
theorem n_X1_empty_8 : nth t_X1_empty 8 = aRetI := rfl
theorem n_X1_empty_9 : nth t_X1_empty 9 = aLdA 0 10 := rfl
theorem n_X1_empty_10 : nth t_X1_empty 10 = aGetR 3 [0] 13 := rfl
theorem n_X1_empty_13 : nth t_X1_empty 13 = aLdI 1 14 := rfl
theorem n_X1_empty_14 : nth t_X1_empty 14 = aAldA 15 := rfl
theorem n_X1_empty_15 : nth t_X1_empty 15 = aGetI 1 [5] 18 := rfl
theorem n_X1_empty_18 : nth t_X1_empty 18 = aStI 2 19 := rfl
theorem n_X1_empty_19 : nth t_X1_empty 19 = aLdA 0 20 := rfl
theorem y_X1_empty_1 (n : Nat) : nth t_X1_empty (n + 20) = nth t_X1_empty_c1 n := rfl
theorem n_X1_empty_20 : nth t_X1_empty 20 = aGetR 3 [0] 23 := (y_X1_empty_1 0).trans rfl
theorem n_X1_empty_23 : nth t_X1_empty 23 = aLdI 1 24 := (y_X1_empty_1 3).trans rfl
theorem n_X1_empty_24 : nth t_X1_empty 24 = aAldA 25 := (y_X1_empty_1 4).trans rfl
theorem n_X1_empty_25 : nth t_X1_empty 25 = aK (.int 0) 26 := (y_X1_empty_1 5).trans rfl
theorem n_X1_empty_26 : nth t_X1_empty 26 = aPutI 1 [5] 29 := (y_X1_empty_1 6).trans rfl
theorem n_X1_empty_29 : nth t_X1_empty 29 = aLdI 2 30 := (y_X1_empty_1 9).trans rfl
theorem n_X1_empty_30 : nth t_X1_empty 30 = aRetI := (y_X1_empty_1 10).trans rfl
theorem n_X1_board_0 : nth t_X1_board 0 = aLdA 0 1 := rfl
theorem n_X1_board_1 : nth t_X1_board 1 = aCalV 41 0 4 [0] none := rfl
theorem n_X1_board_4 : nth t_X1_board 4 = aStI 1 5 := rfl
theorem n_X1_board_5 : nth t_X1_board 5 = aLdA 0 6 := rfl
theorem n_X1_board_6 : nth t_X1_board 6 = aK (.int 0) 7 := rfl
theorem n_X1_board_7 : nth t_X1_board 7 = aPutI 2 [0] 10 := rfl
theorem n_X1_board_10 : nth t_X1_board 10 = aLdA 0 11 := rfl
theorem n_X1_board_11 : nth t_X1_board 11 = aNew 7 11 14 := rfl
theorem n_X1_board_14 : nth t_X1_board 14 = aDup 15 := rfl
theorem n_X1_board_15 : nth t_X1_board 15 = aLdA 0 16 := rfl
theorem n_X1_board_16 : nth t_X1_board 16 = aGetR 0 [0] 19 := rfl
theorem n_X1_board_19 : nth t_X1_board 19 = aLdI 1 20 := rfl
theorem y_X1_board_1 (n : Nat) : nth t_X1_board (n + 20) = nth t_X1_board_c1 n := rfl
theorem n_X1_board_20 : nth t_X1_board 20 = aCalI 259 2 23 (some (37, 8)) := (y_X1_board_1 0).trans rfl
theorem n_X1_board_23 : nth t_X1_board 23 = aCalV 260 0 26 [7] (some (37, 8)) := (y_X1_board_1 3).trans rfl
theorem n_X1_board_26 : nth t_X1_board 26 = aPutR 4 [0] 29 := (y_X1_board_1 6).trans rfl
theorem n_X1_board_29 : nth t_X1_board 29 = aLdA 0 30 := (y_X1_board_1 9).trans rfl
theorem n_X1_board_30 : nth t_X1_board 30 = aGetR 4 [0] 33 := (y_X1_board_1 10).trans rfl
theorem n_X1_board_33 : nth t_X1_board 33 = aGetI 2 [1] 36 := (y_X1_board_1 13).trans rfl
theorem n_X1_board_36 : nth t_X1_board 36 = aRetI := (y_X1_board_1 16).trans rfl
theorem n_X1_board_37 : nth t_X1_board 37 = aStA 2 38 := (y_X1_board_1 17).trans rfl
theorem n_X1_board_38 : nth t_X1_board 38 = aLdA 0 39 := (y_X1_board_1 18).trans rfl
theorem n_X1_board_39 : nth t_X1_board 39 = aLdA 2 40 := (y_X1_board_1 19).trans rfl
theorem n_X1_board_40 : nth t_X1_board 40 = aGetI 6 [8] 43 := (y_X1_board_1 20).trans rfl
theorem n_X1_board_43 : nth t_X1_board 43 = aPutI 2 [0] 46 := (y_X1_board_1 23).trans rfl
theorem y_X1_board_2 (n : Nat) : nth t_X1_board (n + 46) = nth t_X1_board_c2 n := (y_X1_board_1 (n + 26)).trans rfl
theorem n_X1_board_46 : nth t_X1_board 46 = aK (.int (-1)) 47 := (y_X1_board_2 0).trans rfl
theorem n_X1_board_47 : nth t_X1_board 47 = aLdA 2 48 := (y_X1_board_2 1).trans rfl
theorem n_X1_board_48 : nth t_X1_board 48 = aGetI 7 [8] 51 := (y_X1_board_2 2).trans rfl
theorem n_X1_board_51 : nth t_X1_board 51 = aB (fun x y => x - y) 52 := (y_X1_board_2 5).trans rfl
theorem n_X1_board_52 : nth t_X1_board 52 = aRetI := (y_X1_board_2 6).trans rfl
theorem n_X1_mostOf_0 : nth t_X1_mostOf 0 = aLdI 0 1 := rfl
theorem n_X1_mostOf_1 : nth t_X1_mostOf 1 = aK (.int 96) 3 := rfl
theorem n_X1_mostOf_3 : nth t_X1_mostOf 3 = aK (.int 180) 6 := rfl
theorem n_X1_mostOf_6 : nth t_X1_mostOf 6 = aCalS 43 3 9 none := rfl
theorem n_X1_mostOf_9 : nth t_X1_mostOf 9 = aIfEq 16 12 := rfl
theorem n_X1_mostOf_12 : nth t_X1_mostOf 12 = aK (.int 1) 13 := rfl
theorem n_X1_mostOf_13 : nth t_X1_mostOf 13 = aGoto 18 := rfl
theorem n_X1_mostOf_16 : nth t_X1_mostOf 16 = aK (.int 8) 18 := rfl
theorem n_X1_mostOf_18 : nth t_X1_mostOf 18 = aRetI := rfl
theorem n_X1_fault_0 : nth t_X1_fault 0 = aLdA 0 1 := rfl
theorem n_X1_fault_1 : nth t_X1_fault 1 = aGetI 2 [0] 4 := rfl
theorem n_X1_fault_4 : nth t_X1_fault 4 = aRetI := rfl
theorem n_X1_run_0 : nth t_X1_run 0 = aLdI 1 1 := rfl
theorem n_X1_run_1 : nth t_X1_run 1 = aCalS 42 1 4 none := rfl
theorem n_X1_run_4 : nth t_X1_run 4 = aIfEq 19 7 := rfl
theorem n_X1_run_7 : nth t_X1_run 7 = aLdI 2 8 := rfl
theorem n_X1_run_8 : nth t_X1_run 8 = aCalS 42 1 11 none := rfl
theorem n_X1_run_11 : nth t_X1_run 11 = aIfEq 19 14 := rfl
theorem n_X1_run_14 : nth t_X1_run 14 = aLdI 1 15 := rfl
theorem n_X1_run_15 : nth t_X1_run 15 = aLdI 2 16 := rfl
theorem n_X1_run_16 : nth t_X1_run 16 = aIcEq 19 21 := rfl
theorem n_X1_run_19 : nth t_X1_run 19 = aK (.int (-1)) 20 := rfl
theorem n_X1_run_20 : nth t_X1_run 20 = aRetI := rfl
theorem n_X1_run_21 : nth t_X1_run 21 = aLdA 0 22 := rfl
theorem y_X1_run_1 (n : Nat) : nth t_X1_run (n + 22) = nth t_X1_run_c1 n := rfl
theorem n_X1_run_22 : nth t_X1_run 22 = aGetR 3 [0] 25 := (y_X1_run_1 0).trans rfl
theorem n_X1_run_25 : nth t_X1_run 25 = aLdI 2 26 := (y_X1_run_1 3).trans rfl
theorem n_X1_run_26 : nth t_X1_run 26 = aAldA 27 := (y_X1_run_1 4).trans rfl
theorem n_X1_run_27 : nth t_X1_run 27 = aStA 3 28 := (y_X1_run_1 5).trans rfl
theorem n_X1_run_28 : nth t_X1_run 28 = aLdA 0 29 := (y_X1_run_1 6).trans rfl
theorem n_X1_run_29 : nth t_X1_run 29 = aGetR 5 [0] 32 := (y_X1_run_1 7).trans rfl
theorem n_X1_run_32 : nth t_X1_run 32 = aLdA 0 33 := (y_X1_run_1 10).trans rfl
theorem n_X1_run_33 : nth t_X1_run 33 = aGetR 4 [0] 36 := (y_X1_run_1 11).trans rfl
theorem n_X1_run_36 : nth t_X1_run 36 = aK (.int (-1)) 37 := (y_X1_run_1 14).trans rfl
theorem n_X1_run_37 : nth t_X1_run 37 = aLdA 0 38 := (y_X1_run_1 15).trans rfl
theorem n_X1_run_38 : nth t_X1_run 38 = aGetR 3 [0] 41 := (y_X1_run_1 16).trans rfl
theorem n_X1_run_41 : nth t_X1_run 41 = aLdI 1 42 := (y_X1_run_1 19).trans rfl
theorem y_X1_run_2 (n : Nat) : nth t_X1_run (n + 42) = nth t_X1_run_c2 n := (y_X1_run_1 (n + 20)).trans rfl
theorem n_X1_run_42 : nth t_X1_run 42 = aAldA 43 := (y_X1_run_2 0).trans rfl
theorem n_X1_run_43 : nth t_X1_run 43 = aGetR 0 [5] 46 := (y_X1_run_2 1).trans rfl
theorem n_X1_run_46 : nth t_X1_run 46 = aK (.int 0) 47 := (y_X1_run_2 4).trans rfl
theorem n_X1_run_47 : nth t_X1_run 47 = aLdA 0 48 := (y_X1_run_2 5).trans rfl
theorem n_X1_run_48 : nth t_X1_run 48 = aGetR 3 [0] 51 := (y_X1_run_2 6).trans rfl
theorem n_X1_run_51 : nth t_X1_run 51 = aLdI 1 52 := (y_X1_run_2 9).trans rfl
theorem n_X1_run_52 : nth t_X1_run 52 = aAldA 53 := (y_X1_run_2 10).trans rfl
theorem n_X1_run_53 : nth t_X1_run 53 = aGetI 1 [5] 56 := (y_X1_run_2 11).trans rfl
theorem n_X1_run_56 : nth t_X1_run 56 = aK (.int 40) 58 := (y_X1_run_2 14).trans rfl
theorem n_X1_run_58 : nth t_X1_run 58 = aLdA 3 59 := (y_X1_run_2 16).trans rfl
theorem n_X1_run_59 : nth t_X1_run 59 = aGetI 1 [5] 62 := (y_X1_run_2 17).trans rfl
theorem n_X1_run_62 : nth t_X1_run 62 = aB (fun x y => x - y) 63 := (y_X1_run_2 20).trans rfl
theorem y_X1_run_3 (n : Nat) : nth t_X1_run (n + 63) = nth t_X1_run_c3 n := (y_X1_run_2 (n + 21)).trans rfl
theorem n_X1_run_63 : nth t_X1_run 63 = aLdA 0 64 := (y_X1_run_3 0).trans rfl
theorem n_X1_run_64 : nth t_X1_run 64 = aGetR 6 [0] 67 := (y_X1_run_3 1).trans rfl
theorem n_X1_run_67 : nth t_X1_run 67 = aCalV 121 7 70 [2] none := (y_X1_run_3 4).trans rfl
theorem n_X1_run_70 : nth t_X1_run 70 = aLdA 0 71 := (y_X1_run_3 7).trans rfl
theorem n_X1_run_71 : nth t_X1_run 71 = aK (.int 1) 72 := (y_X1_run_3 8).trans rfl
theorem n_X1_run_72 : nth t_X1_run 72 = aPutZ 9 [0] 75 := (y_X1_run_3 9).trans rfl
theorem n_X1_run_75 : nth t_X1_run 75 = aK (.int 0) 76 := (y_X1_run_3 12).trans rfl
theorem n_X1_run_76 : nth t_X1_run 76 = aStI 4 78 := (y_X1_run_3 13).trans rfl
theorem n_X1_run_78 : nth t_X1_run 78 = aLdI 4 80 := (y_X1_run_3 15).trans rfl
theorem n_X1_run_80 : nth t_X1_run 80 = aLdA 0 81 := (y_X1_run_3 17).trans rfl
theorem n_X1_run_81 : nth t_X1_run 81 = aGetR 6 [0] 84 := (y_X1_run_3 18).trans rfl
theorem n_X1_run_84 : nth t_X1_run 84 = aGetI 4 [3] 87 := (y_X1_run_3 21).trans rfl
theorem y_X1_run_4 (n : Nat) : nth t_X1_run (n + 87) = nth t_X1_run_c4 n := (y_X1_run_3 (n + 24)).trans rfl
theorem n_X1_run_87 : nth t_X1_run 87 = aIcLt 90 130 := (y_X1_run_4 0).trans rfl
theorem n_X1_run_90 : nth t_X1_run 90 = aLdA 3 91 := (y_X1_run_4 3).trans rfl
theorem n_X1_run_91 : nth t_X1_run 91 = aGetR 0 [5] 94 := (y_X1_run_4 4).trans rfl
theorem n_X1_run_94 : nth t_X1_run 94 = aLdA 3 95 := (y_X1_run_4 7).trans rfl
theorem n_X1_run_95 : nth t_X1_run 95 = aGetI 1 [5] 98 := (y_X1_run_4 8).trans rfl
theorem n_X1_run_98 : nth t_X1_run 98 = aLdA 0 99 := (y_X1_run_4 11).trans rfl
theorem n_X1_run_99 : nth t_X1_run 99 = aGetR 6 [0] 102 := (y_X1_run_4 12).trans rfl
theorem n_X1_run_102 : nth t_X1_run 102 = aGetR 9 [3] 105 := (y_X1_run_4 15).trans rfl
theorem n_X1_run_105 : nth t_X1_run 105 = aLdI 4 107 := (y_X1_run_4 18).trans rfl
theorem n_X1_run_107 : nth t_X1_run 107 = aAldA 108 := (y_X1_run_4 20).trans rfl
theorem n_X1_run_108 : nth t_X1_run 108 = aK (.int 20) 110 := (y_X1_run_4 21).trans rfl
theorem n_X1_run_110 : nth t_X1_run 110 = aCalS 0 2 113 none := (y_X1_run_4 23).trans rfl
theorem y_X1_run_5 (n : Nat) : nth t_X1_run (n + 113) = nth t_X1_run_c5 n := (y_X1_run_4 (n + 26)).trans rfl
theorem n_X1_run_113 : nth t_X1_run 113 = aAstA 114 := (y_X1_run_5 0).trans rfl
theorem n_X1_run_114 : nth t_X1_run 114 = aLdA 3 115 := (y_X1_run_5 1).trans rfl
theorem n_X1_run_115 : nth t_X1_run 115 = aDup 116 := (y_X1_run_5 2).trans rfl
theorem n_X1_run_116 : nth t_X1_run 116 = aGetI 1 [5] 119 := (y_X1_run_5 3).trans rfl
theorem n_X1_run_119 : nth t_X1_run 119 = aK (.int 1) 120 := (y_X1_run_5 6).trans rfl
theorem n_X1_run_120 : nth t_X1_run 120 = aB (fun x y => x + y) 121 := (y_X1_run_5 7).trans rfl
theorem n_X1_run_121 : nth t_X1_run 121 = aPutI 1 [5] 124 := (y_X1_run_5 8).trans rfl
theorem n_X1_run_124 : nth t_X1_run 124 = aInc 4 1 127 := (y_X1_run_5 11).trans rfl
theorem n_X1_run_127 : nth t_X1_run 127 = aGoto 78 := (y_X1_run_5 14).trans rfl
theorem n_X1_run_130 : nth t_X1_run 130 = aLdA 0 131 := (y_X1_run_5 17).trans rfl
theorem n_X1_run_131 : nth t_X1_run 131 = aGetR 6 [0] 134 := (y_X1_run_5 18).trans rfl
theorem n_X1_run_134 : nth t_X1_run 134 = aGetI 0 [3] 137 := (y_X1_run_5 21).trans rfl
theorem y_X1_run_6 (n : Nat) : nth t_X1_run (n + 137) = nth t_X1_run_c6 n := (y_X1_run_5 (n + 24)).trans rfl
theorem n_X1_run_137 : nth t_X1_run 137 = aRetI := (y_X1_run_6 0).trans rfl
theorem n_X1_ran_0 : nth t_X1_ran 0 = aLdA 0 1 := rfl
theorem n_X1_ran_1 : nth t_X1_ran 1 = aGetI 9 [0] 4 := rfl
theorem n_X1_ran_4 : nth t_X1_ran 4 = aIfEq 7 9 := rfl
theorem n_X1_ran_7 : nth t_X1_ran 7 = aK (.int (-1)) 8 := rfl
theorem n_X1_ran_8 : nth t_X1_ran 8 = aRetI := rfl
theorem n_X1_ran_9 : nth t_X1_ran 9 = aLdI 1 10 := rfl
theorem n_X1_ran_10 : nth t_X1_ran 10 = aSw 0 [52, 60, 68, 76, 84, 92, 100] 108 := rfl
theorem n_X1_ran_52 : nth t_X1_ran 52 = aLdA 0 53 := rfl
theorem n_X1_ran_53 : nth t_X1_ran 53 = aGetR 6 [0] 56 := rfl
theorem n_X1_ran_56 : nth t_X1_ran 56 = aGetI 1 [3] 59 := rfl
theorem n_X1_ran_59 : nth t_X1_ran 59 = aRetI := rfl
theorem n_X1_ran_60 : nth t_X1_ran 60 = aLdA 0 61 := rfl
theorem y_X1_ran_1 (n : Nat) : nth t_X1_ran (n + 61) = nth t_X1_ran_c1 n := rfl
theorem n_X1_ran_61 : nth t_X1_ran 61 = aGetR 6 [0] 64 := (y_X1_ran_1 0).trans rfl
theorem n_X1_ran_64 : nth t_X1_ran 64 = aGetI 2 [3] 67 := (y_X1_ran_1 3).trans rfl
theorem n_X1_ran_67 : nth t_X1_ran 67 = aRetI := (y_X1_ran_1 6).trans rfl
theorem n_X1_ran_68 : nth t_X1_ran 68 = aLdA 0 69 := (y_X1_ran_1 7).trans rfl
theorem n_X1_ran_69 : nth t_X1_ran 69 = aGetR 6 [0] 72 := (y_X1_ran_1 8).trans rfl
theorem n_X1_ran_72 : nth t_X1_ran 72 = aGetI 3 [3] 75 := (y_X1_ran_1 11).trans rfl
theorem n_X1_ran_75 : nth t_X1_ran 75 = aRetI := (y_X1_ran_1 14).trans rfl
theorem n_X1_ran_76 : nth t_X1_ran 76 = aLdA 0 77 := (y_X1_ran_1 15).trans rfl
theorem n_X1_ran_77 : nth t_X1_ran 77 = aGetR 6 [0] 80 := (y_X1_ran_1 16).trans rfl
theorem n_X1_ran_80 : nth t_X1_ran 80 = aGetI 4 [3] 83 := (y_X1_ran_1 19).trans rfl
theorem n_X1_ran_83 : nth t_X1_ran 83 = aRetI := (y_X1_ran_1 22).trans rfl
theorem n_X1_ran_84 : nth t_X1_ran 84 = aLdA 0 85 := (y_X1_ran_1 23).trans rfl
theorem y_X1_ran_2 (n : Nat) : nth t_X1_ran (n + 85) = nth t_X1_ran_c2 n := (y_X1_ran_1 (n + 24)).trans rfl
theorem n_X1_ran_85 : nth t_X1_ran 85 = aGetR 6 [0] 88 := (y_X1_ran_2 0).trans rfl
theorem n_X1_ran_88 : nth t_X1_ran 88 = aGetI 5 [3] 91 := (y_X1_ran_2 3).trans rfl
theorem n_X1_ran_91 : nth t_X1_ran 91 = aRetI := (y_X1_ran_2 6).trans rfl
theorem n_X1_ran_92 : nth t_X1_ran 92 = aLdA 0 93 := (y_X1_ran_2 7).trans rfl
theorem n_X1_ran_93 : nth t_X1_ran 93 = aGetR 6 [0] 96 := (y_X1_ran_2 8).trans rfl
theorem n_X1_ran_96 : nth t_X1_ran 96 = aGetI 6 [3] 99 := (y_X1_ran_2 11).trans rfl
theorem n_X1_ran_99 : nth t_X1_ran 99 = aRetI := (y_X1_ran_2 14).trans rfl
theorem n_X1_ran_100 : nth t_X1_ran 100 = aLdA 0 101 := (y_X1_ran_2 15).trans rfl
theorem n_X1_ran_101 : nth t_X1_ran 101 = aGetR 6 [0] 104 := (y_X1_ran_2 16).trans rfl
theorem n_X1_ran_104 : nth t_X1_ran 104 = aGetI 7 [3] 107 := (y_X1_ran_2 19).trans rfl
theorem n_X1_ran_107 : nth t_X1_ran 107 = aRetI := (y_X1_ran_2 22).trans rfl
theorem n_X1_ran_108 : nth t_X1_ran 108 = aK (.int (-1)) 109 := (y_X1_ran_2 23).trans rfl
theorem y_X1_ran_3 (n : Nat) : nth t_X1_ran (n + 109) = nth t_X1_ran_c3 n := (y_X1_ran_2 (n + 24)).trans rfl
theorem n_X1_ran_109 : nth t_X1_ran 109 = aRetI := (y_X1_ran_3 0).trans rfl
theorem n_X1_pass_0 : nth t_X1_pass 0 = aLdI 1 1 := rfl
theorem n_X1_pass_1 : nth t_X1_pass 1 = aCalS 42 1 4 none := rfl
theorem n_X1_pass_4 : nth t_X1_pass 4 = aIfEq 17 7 := rfl
theorem n_X1_pass_7 : nth t_X1_pass 7 = aLdI 2 8 := rfl
theorem n_X1_pass_8 : nth t_X1_pass 8 = aK (.int 1) 9 := rfl
theorem n_X1_pass_9 : nth t_X1_pass 9 = aK (.int 20) 11 := rfl
theorem n_X1_pass_11 : nth t_X1_pass 11 = aCalS 43 3 14 none := rfl
theorem n_X1_pass_14 : nth t_X1_pass 14 = aIfEq 17 19 := rfl
theorem n_X1_pass_17 : nth t_X1_pass 17 = aK (.int 0) 18 := rfl
theorem n_X1_pass_18 : nth t_X1_pass 18 = aRetZ := rfl
theorem n_X1_pass_19 : nth t_X1_pass 19 = aLdA 0 20 := rfl
theorem n_X1_pass_20 : nth t_X1_pass 20 = aGetR 3 [0] 23 := rfl
theorem y_X1_pass_1 (n : Nat) : nth t_X1_pass (n + 23) = nth t_X1_pass_c1 n := rfl
theorem n_X1_pass_23 : nth t_X1_pass 23 = aLdI 1 24 := (y_X1_pass_1 0).trans rfl
theorem n_X1_pass_24 : nth t_X1_pass 24 = aAldA 25 := (y_X1_pass_1 1).trans rfl
theorem n_X1_pass_25 : nth t_X1_pass 25 = aLdI 2 26 := (y_X1_pass_1 2).trans rfl
theorem n_X1_pass_26 : nth t_X1_pass 26 = aCalS 53 2 29 none := (y_X1_pass_1 3).trans rfl
theorem n_X1_pass_29 : nth t_X1_pass 29 = aK (.int 1) 30 := (y_X1_pass_1 6).trans rfl
theorem n_X1_pass_30 : nth t_X1_pass 30 = aRetZ := (y_X1_pass_1 7).trans rfl
theorem n_X1_sort_0 : nth t_X1_sort 0 = aK (.int 1) 1 := rfl
theorem n_X1_sort_1 : nth t_X1_sort 1 = aStI 2 2 := rfl
theorem n_X1_sort_2 : nth t_X1_sort 2 = aLdI 2 3 := rfl
theorem n_X1_sort_3 : nth t_X1_sort 3 = aLdA 0 4 := rfl
theorem n_X1_sort_4 : nth t_X1_sort 4 = aGetI 1 [5] 7 := rfl
theorem n_X1_sort_7 : nth t_X1_sort 7 = aIcLt 10 82 := rfl
theorem n_X1_sort_10 : nth t_X1_sort 10 = aLdA 0 11 := rfl
theorem n_X1_sort_11 : nth t_X1_sort 11 = aGetR 0 [5] 14 := rfl
theorem n_X1_sort_14 : nth t_X1_sort 14 = aLdI 2 15 := rfl
theorem n_X1_sort_15 : nth t_X1_sort 15 = aAldA 16 := rfl
theorem n_X1_sort_16 : nth t_X1_sort 16 = aStA 3 17 := rfl
theorem n_X1_sort_17 : nth t_X1_sort 17 = aLdI 2 18 := rfl
theorem y_X1_sort_1 (n : Nat) : nth t_X1_sort (n + 18) = nth t_X1_sort_c1 n := rfl
theorem n_X1_sort_18 : nth t_X1_sort 18 = aStI 4 20 := (y_X1_sort_1 0).trans rfl
theorem n_X1_sort_20 : nth t_X1_sort 20 = aLdI 4 22 := (y_X1_sort_1 2).trans rfl
theorem n_X1_sort_22 : nth t_X1_sort 22 = aIfLe 68 25 := (y_X1_sort_1 4).trans rfl
theorem n_X1_sort_25 : nth t_X1_sort 25 = aLdA 0 26 := (y_X1_sort_1 7).trans rfl
theorem n_X1_sort_26 : nth t_X1_sort 26 = aGetR 0 [5] 29 := (y_X1_sort_1 8).trans rfl
theorem n_X1_sort_29 : nth t_X1_sort 29 = aLdI 4 31 := (y_X1_sort_1 11).trans rfl
theorem n_X1_sort_31 : nth t_X1_sort 31 = aK (.int 1) 32 := (y_X1_sort_1 13).trans rfl
theorem n_X1_sort_32 : nth t_X1_sort 32 = aB (fun x y => x - y) 33 := (y_X1_sort_1 14).trans rfl
theorem n_X1_sort_33 : nth t_X1_sort 33 = aAldA 34 := (y_X1_sort_1 15).trans rfl
theorem n_X1_sort_34 : nth t_X1_sort 34 = aLdI 1 35 := (y_X1_sort_1 16).trans rfl
theorem n_X1_sort_35 : nth t_X1_sort 35 = aCalS 54 2 38 none := (y_X1_sort_1 17).trans rfl
theorem n_X1_sort_38 : nth t_X1_sort 38 = aLdA 3 39 := (y_X1_sort_1 20).trans rfl
theorem y_X1_sort_2 (n : Nat) : nth t_X1_sort (n + 39) = nth t_X1_sort_c2 n := (y_X1_sort_1 (n + 21)).trans rfl
theorem n_X1_sort_39 : nth t_X1_sort 39 = aLdI 1 40 := (y_X1_sort_2 0).trans rfl
theorem n_X1_sort_40 : nth t_X1_sort 40 = aCalS 54 2 43 none := (y_X1_sort_2 1).trans rfl
theorem n_X1_sort_43 : nth t_X1_sort 43 = aIcLe 68 46 := (y_X1_sort_2 4).trans rfl
theorem n_X1_sort_46 : nth t_X1_sort 46 = aLdA 0 47 := (y_X1_sort_2 7).trans rfl
theorem n_X1_sort_47 : nth t_X1_sort 47 = aGetR 0 [5] 50 := (y_X1_sort_2 8).trans rfl
theorem n_X1_sort_50 : nth t_X1_sort 50 = aLdI 4 52 := (y_X1_sort_2 11).trans rfl
theorem n_X1_sort_52 : nth t_X1_sort 52 = aLdA 0 53 := (y_X1_sort_2 13).trans rfl
theorem n_X1_sort_53 : nth t_X1_sort 53 = aGetR 0 [5] 56 := (y_X1_sort_2 14).trans rfl
theorem n_X1_sort_56 : nth t_X1_sort 56 = aLdI 4 58 := (y_X1_sort_2 17).trans rfl
theorem n_X1_sort_58 : nth t_X1_sort 58 = aK (.int 1) 59 := (y_X1_sort_2 19).trans rfl
theorem n_X1_sort_59 : nth t_X1_sort 59 = aB (fun x y => x - y) 60 := (y_X1_sort_2 20).trans rfl
theorem n_X1_sort_60 : nth t_X1_sort 60 = aAldA 61 := (y_X1_sort_2 21).trans rfl
theorem y_X1_sort_3 (n : Nat) : nth t_X1_sort (n + 61) = nth t_X1_sort_c3 n := (y_X1_sort_2 (n + 22)).trans rfl
theorem n_X1_sort_61 : nth t_X1_sort 61 = aAstA 62 := (y_X1_sort_3 0).trans rfl
theorem n_X1_sort_62 : nth t_X1_sort 62 = aInc 4 (-1) 65 := (y_X1_sort_3 1).trans rfl
theorem n_X1_sort_65 : nth t_X1_sort 65 = aGoto 20 := (y_X1_sort_3 4).trans rfl
theorem n_X1_sort_68 : nth t_X1_sort 68 = aLdA 0 69 := (y_X1_sort_3 7).trans rfl
theorem n_X1_sort_69 : nth t_X1_sort 69 = aGetR 0 [5] 72 := (y_X1_sort_3 8).trans rfl
theorem n_X1_sort_72 : nth t_X1_sort 72 = aLdI 4 74 := (y_X1_sort_3 11).trans rfl
theorem n_X1_sort_74 : nth t_X1_sort 74 = aLdA 3 75 := (y_X1_sort_3 13).trans rfl
theorem n_X1_sort_75 : nth t_X1_sort 75 = aAstA 76 := (y_X1_sort_3 14).trans rfl
theorem n_X1_sort_76 : nth t_X1_sort 76 = aInc 2 1 79 := (y_X1_sort_3 15).trans rfl
theorem n_X1_sort_79 : nth t_X1_sort 79 = aGoto 2 := (y_X1_sort_3 18).trans rfl
theorem n_X1_sort_82 : nth t_X1_sort 82 = aRetV := (y_X1_sort_3 21).trans rfl
theorem n_X1_key_0 : nth t_X1_key 0 = aLdA 0 1 := rfl
theorem n_X1_key_1 : nth t_X1_key 1 = aLdI 1 2 := rfl
theorem n_X1_key_2 : nth t_X1_key 2 = aK (.int 1) 3 := rfl
theorem n_X1_key_3 : nth t_X1_key 3 = aB (fun x y => x - y) 4 := rfl
theorem n_X1_key_4 : nth t_X1_key 4 = aAldB 5 := rfl
theorem n_X1_key_5 : nth t_X1_key 5 = aK (.int 15) 7 := rfl
theorem n_X1_key_7 : nth t_X1_key 7 = aB (fun x y => x &&& y) 8 := rfl
theorem n_X1_key_8 : nth t_X1_key 8 = aK (.int 15) 10 := rfl
theorem n_X1_key_10 : nth t_X1_key 10 = aIcEq 13 17 := rfl
theorem n_X1_key_13 : nth t_X1_key 13 = aK (.int (-1)) 14 := rfl
theorem n_X1_key_14 : nth t_X1_key 14 = aGoto 25 := rfl
theorem n_X1_key_17 : nth t_X1_key 17 = aLdA 0 18 := rfl
theorem y_X1_key_1 (n : Nat) : nth t_X1_key (n + 18) = nth t_X1_key_c1 n := rfl
theorem n_X1_key_18 : nth t_X1_key 18 = aLdI 1 19 := (y_X1_key_1 0).trans rfl
theorem n_X1_key_19 : nth t_X1_key 19 = aK (.int 1) 20 := (y_X1_key_1 1).trans rfl
theorem n_X1_key_20 : nth t_X1_key 20 = aB (fun x y => x - y) 21 := (y_X1_key_1 2).trans rfl
theorem n_X1_key_21 : nth t_X1_key 21 = aAldB 22 := (y_X1_key_1 3).trans rfl
theorem n_X1_key_22 : nth t_X1_key 22 = aK (.int 15) 24 := (y_X1_key_1 4).trans rfl
theorem n_X1_key_24 : nth t_X1_key 24 = aB (fun x y => x &&& y) 25 := (y_X1_key_1 6).trans rfl
theorem n_X1_key_25 : nth t_X1_key 25 = aRetI := (y_X1_key_1 7).trans rfl
theorem n_X1_idle_0 : nth t_X1_idle 0 = aLdI 1 1 := rfl
theorem n_X1_idle_1 : nth t_X1_idle 1 = aCalS 42 1 4 none := rfl
theorem n_X1_idle_4 : nth t_X1_idle 4 = aIfEq 7 9 := rfl
theorem n_X1_idle_7 : nth t_X1_idle 7 = aK (.int (-1)) 8 := rfl
theorem n_X1_idle_8 : nth t_X1_idle 8 = aRetI := rfl
theorem n_X1_idle_9 : nth t_X1_idle 9 = aLdA 0 10 := rfl
theorem n_X1_idle_10 : nth t_X1_idle 10 = aLdA 0 11 := rfl
theorem n_X1_idle_11 : nth t_X1_idle 11 = aGetR 3 [0] 14 := rfl
theorem n_X1_idle_14 : nth t_X1_idle 14 = aLdI 1 15 := rfl
theorem n_X1_idle_15 : nth t_X1_idle 15 = aAldA 16 := rfl
theorem n_X1_idle_16 : nth t_X1_idle 16 = aK (.int (-1)) 17 := rfl
theorem n_X1_idle_17 : nth t_X1_idle 17 = aLdA 0 18 := rfl
theorem y_X1_idle_1 (n : Nat) : nth t_X1_idle (n + 18) = nth t_X1_idle_c1 n := rfl
theorem n_X1_idle_18 : nth t_X1_idle 18 = aGetR 7 [0] 21 := (y_X1_idle_1 0).trans rfl
theorem n_X1_idle_21 : nth t_X1_idle 21 = aCalV 56 3 24 [0] none := (y_X1_idle_1 3).trans rfl
theorem n_X1_idle_24 : nth t_X1_idle 24 = aLdA 0 25 := (y_X1_idle_1 6).trans rfl
theorem n_X1_idle_25 : nth t_X1_idle 25 = aK (.int 0) 26 := (y_X1_idle_1 7).trans rfl
theorem n_X1_idle_26 : nth t_X1_idle 26 = aPutI 11 [0] 29 := (y_X1_idle_1 8).trans rfl
theorem n_X1_idle_29 : nth t_X1_idle 29 = aK (.int 0) 30 := (y_X1_idle_1 11).trans rfl
theorem n_X1_idle_30 : nth t_X1_idle 30 = aStI 2 31 := (y_X1_idle_1 12).trans rfl
theorem n_X1_idle_31 : nth t_X1_idle 31 = aLdI 2 32 := (y_X1_idle_1 13).trans rfl
theorem n_X1_idle_32 : nth t_X1_idle 32 = aLdA 0 33 := (y_X1_idle_1 14).trans rfl
theorem n_X1_idle_33 : nth t_X1_idle 33 = aGetR 4 [0] 36 := (y_X1_idle_1 15).trans rfl
theorem n_X1_idle_36 : nth t_X1_idle 36 = aGetI 2 [1] 39 := (y_X1_idle_1 18).trans rfl
theorem n_X1_idle_39 : nth t_X1_idle 39 = aIcLt 42 82 := (y_X1_idle_1 21).trans rfl
theorem y_X1_idle_2 (n : Nat) : nth t_X1_idle (n + 42) = nth t_X1_idle_c2 n := (y_X1_idle_1 (n + 24)).trans rfl
theorem n_X1_idle_42 : nth t_X1_idle 42 = aLdA 0 43 := (y_X1_idle_2 0).trans rfl
theorem n_X1_idle_43 : nth t_X1_idle 43 = aLdA 0 44 := (y_X1_idle_2 1).trans rfl
theorem n_X1_idle_44 : nth t_X1_idle 44 = aGetR 3 [0] 47 := (y_X1_idle_2 2).trans rfl
theorem n_X1_idle_47 : nth t_X1_idle 47 = aLdI 1 48 := (y_X1_idle_2 5).trans rfl
theorem n_X1_idle_48 : nth t_X1_idle 48 = aAldA 49 := (y_X1_idle_2 6).trans rfl
theorem n_X1_idle_49 : nth t_X1_idle 49 = aLdI 2 50 := (y_X1_idle_2 7).trans rfl
theorem n_X1_idle_50 : nth t_X1_idle 50 = aLdA 0 51 := (y_X1_idle_2 8).trans rfl
theorem n_X1_idle_51 : nth t_X1_idle 51 = aGetR 8 [0] 54 := (y_X1_idle_2 9).trans rfl
theorem n_X1_idle_54 : nth t_X1_idle 54 = aCalV 56 3 57 [0] none := (y_X1_idle_2 12).trans rfl
theorem n_X1_idle_57 : nth t_X1_idle 57 = aLdA 0 58 := (y_X1_idle_2 15).trans rfl
theorem n_X1_idle_58 : nth t_X1_idle 58 = aGetR 8 [0] 61 := (y_X1_idle_2 16).trans rfl
theorem n_X1_idle_61 : nth t_X1_idle 61 = aLdA 0 62 := (y_X1_idle_2 19).trans rfl
theorem y_X1_idle_3 (n : Nat) : nth t_X1_idle (n + 62) = nth t_X1_idle_c3 n := (y_X1_idle_2 (n + 20)).trans rfl
theorem n_X1_idle_62 : nth t_X1_idle 62 = aGetR 7 [0] 65 := (y_X1_idle_3 0).trans rfl
theorem n_X1_idle_65 : nth t_X1_idle 65 = aCalV 138 1 68 [3] none := (y_X1_idle_3 3).trans rfl
theorem n_X1_idle_68 : nth t_X1_idle 68 = aIfEq 76 71 := (y_X1_idle_3 6).trans rfl
theorem n_X1_idle_71 : nth t_X1_idle 71 = aLdA 0 72 := (y_X1_idle_3 9).trans rfl
theorem n_X1_idle_72 : nth t_X1_idle 72 = aLdI 2 73 := (y_X1_idle_3 10).trans rfl
theorem n_X1_idle_73 : nth t_X1_idle 73 = aCalV 57 1 76 [0] none := (y_X1_idle_3 11).trans rfl
theorem n_X1_idle_76 : nth t_X1_idle 76 = aInc 2 1 79 := (y_X1_idle_3 14).trans rfl
theorem n_X1_idle_79 : nth t_X1_idle 79 = aGoto 31 := (y_X1_idle_3 17).trans rfl
theorem n_X1_idle_82 : nth t_X1_idle 82 = aLdA 0 83 := (y_X1_idle_3 20).trans rfl
theorem n_X1_idle_83 : nth t_X1_idle 83 = aGetI 11 [0] 86 := (y_X1_idle_3 21).trans rfl
theorem n_X1_idle_86 : nth t_X1_idle 86 = aRetI := (y_X1_idle_3 24).trans rfl
theorem n_X1_runWithout_0 : nth t_X1_runWithout 0 = aLdA 0 1 := rfl
theorem n_X1_runWithout_1 : nth t_X1_runWithout 1 = aGetR 5 [0] 4 := rfl
theorem n_X1_runWithout_4 : nth t_X1_runWithout 4 = aLdA 0 5 := rfl
theorem n_X1_runWithout_5 : nth t_X1_runWithout 5 = aGetR 4 [0] 8 := rfl
theorem n_X1_runWithout_8 : nth t_X1_runWithout 8 = aLdI 2 9 := rfl
theorem n_X1_runWithout_9 : nth t_X1_runWithout 9 = aLdA 1 10 := rfl
theorem n_X1_runWithout_10 : nth t_X1_runWithout 10 = aGetR 0 [5] 13 := rfl
theorem n_X1_runWithout_13 : nth t_X1_runWithout 13 = aK (.int 0) 14 := rfl
theorem n_X1_runWithout_14 : nth t_X1_runWithout 14 = aLdA 1 15 := rfl
theorem n_X1_runWithout_15 : nth t_X1_runWithout 15 = aGetI 1 [5] 18 := rfl
theorem n_X1_runWithout_18 : nth t_X1_runWithout 18 = aK (.int 40) 20 := rfl
theorem n_X1_runWithout_20 : nth t_X1_runWithout 20 = aLdA 3 21 := rfl
theorem y_X1_runWithout_1 (n : Nat) : nth t_X1_runWithout (n + 21) = nth t_X1_runWithout_c1 n := rfl
theorem n_X1_runWithout_21 : nth t_X1_runWithout 21 = aCalV 121 7 24 [2] none := (y_X1_runWithout_1 0).trans rfl
theorem n_X1_runWithout_24 : nth t_X1_runWithout 24 = aRetV := (y_X1_runWithout_1 3).trans rfl
theorem n_X1_find_0 : nth t_X1_find 0 = aLdA 0 1 := rfl
theorem n_X1_find_1 : nth t_X1_find 1 = aGetR 10 [0] 4 := rfl
theorem n_X1_find_4 : nth t_X1_find 4 = aLdA 0 5 := rfl
theorem n_X1_find_5 : nth t_X1_find 5 = aGetI 11 [0] 8 := rfl
theorem n_X1_find_8 : nth t_X1_find 8 = aLdI 1 9 := rfl
theorem n_X1_find_9 : nth t_X1_find 9 = aAstI 10 := rfl
theorem n_X1_find_10 : nth t_X1_find 10 = aLdA 0 11 := rfl
theorem n_X1_find_11 : nth t_X1_find 11 = aDup 12 := rfl
theorem n_X1_find_12 : nth t_X1_find 12 = aGetI 11 [0] 15 := rfl
theorem n_X1_find_15 : nth t_X1_find 15 = aK (.int 1) 16 := rfl
theorem n_X1_find_16 : nth t_X1_find 16 = aB (fun x y => x + y) 17 := rfl
theorem n_X1_find_17 : nth t_X1_find 17 = aPutI 11 [0] 20 := rfl
theorem y_X1_find_1 (n : Nat) : nth t_X1_find (n + 20) = nth t_X1_find_c1 n := rfl
theorem n_X1_find_20 : nth t_X1_find 20 = aRetV := (y_X1_find_1 0).trans rfl
theorem n_X1_missing_0 : nth t_X1_missing 0 = aLdA 0 1 := rfl
theorem n_X1_missing_1 : nth t_X1_missing 1 = aCalV 41 0 4 [0] none := rfl
theorem n_X1_missing_4 : nth t_X1_missing 4 = aStI 2 5 := rfl
theorem n_X1_missing_5 : nth t_X1_missing 5 = aLdI 1 6 := rfl
theorem n_X1_missing_6 : nth t_X1_missing 6 = aCalS 42 1 9 none := rfl
theorem n_X1_missing_9 : nth t_X1_missing 9 = aIfEq 20 12 := rfl
theorem n_X1_missing_12 : nth t_X1_missing 12 = aLdA 0 13 := rfl
theorem n_X1_missing_13 : nth t_X1_missing 13 = aLdI 2 14 := rfl
theorem n_X1_missing_14 : nth t_X1_missing 14 = aCalV 59 1 17 [0] none := rfl
theorem n_X1_missing_17 : nth t_X1_missing 17 = aIfEq 20 22 := rfl
theorem n_X1_missing_20 : nth t_X1_missing 20 = aK (.int (-1)) 21 := rfl
theorem n_X1_missing_21 : nth t_X1_missing 21 = aRetI := rfl
theorem y_X1_missing_1 (n : Nat) : nth t_X1_missing (n + 22) = nth t_X1_missing_c1 n := rfl
theorem n_X1_missing_22 : nth t_X1_missing 22 = aLdA 0 23 := (y_X1_missing_1 0).trans rfl
theorem n_X1_missing_23 : nth t_X1_missing 23 = aLdI 2 24 := (y_X1_missing_1 1).trans rfl
theorem n_X1_missing_24 : nth t_X1_missing 24 = aCalV 60 1 27 [0] none := (y_X1_missing_1 2).trans rfl
theorem n_X1_missing_27 : nth t_X1_missing 27 = aLdA 0 28 := (y_X1_missing_1 5).trans rfl
theorem n_X1_missing_28 : nth t_X1_missing 28 = aK (.int 0) 29 := (y_X1_missing_1 6).trans rfl
theorem n_X1_missing_29 : nth t_X1_missing 29 = aPutI 11 [0] 32 := (y_X1_missing_1 7).trans rfl
theorem n_X1_missing_32 : nth t_X1_missing 32 = aK (.int 0) 33 := (y_X1_missing_1 10).trans rfl
theorem n_X1_missing_33 : nth t_X1_missing 33 = aStI 3 34 := (y_X1_missing_1 11).trans rfl
theorem n_X1_missing_34 : nth t_X1_missing 34 = aLdI 3 35 := (y_X1_missing_1 12).trans rfl
theorem n_X1_missing_35 : nth t_X1_missing 35 = aLdA 0 36 := (y_X1_missing_1 13).trans rfl
theorem n_X1_missing_36 : nth t_X1_missing 36 = aGetR 4 [0] 39 := (y_X1_missing_1 14).trans rfl
theorem n_X1_missing_39 : nth t_X1_missing 39 = aGetI 2 [1] 42 := (y_X1_missing_1 17).trans rfl
theorem y_X1_missing_2 (n : Nat) : nth t_X1_missing (n + 42) = nth t_X1_missing_c2 n := (y_X1_missing_1 (n + 20)).trans rfl
theorem n_X1_missing_42 : nth t_X1_missing 42 = aIcLt 45 85 := (y_X1_missing_2 0).trans rfl
theorem n_X1_missing_45 : nth t_X1_missing 45 = aLdA 0 46 := (y_X1_missing_2 3).trans rfl
theorem n_X1_missing_46 : nth t_X1_missing 46 = aLdA 0 47 := (y_X1_missing_2 4).trans rfl
theorem n_X1_missing_47 : nth t_X1_missing 47 = aGetR 3 [0] 50 := (y_X1_missing_2 5).trans rfl
theorem n_X1_missing_50 : nth t_X1_missing 50 = aLdI 1 51 := (y_X1_missing_2 8).trans rfl
theorem n_X1_missing_51 : nth t_X1_missing 51 = aAldA 52 := (y_X1_missing_2 9).trans rfl
theorem n_X1_missing_52 : nth t_X1_missing 52 = aLdI 3 53 := (y_X1_missing_2 10).trans rfl
theorem n_X1_missing_53 : nth t_X1_missing 53 = aLdA 0 54 := (y_X1_missing_2 11).trans rfl
theorem n_X1_missing_54 : nth t_X1_missing 54 = aGetR 8 [0] 57 := (y_X1_missing_2 12).trans rfl
theorem n_X1_missing_57 : nth t_X1_missing 57 = aCalV 56 3 60 [0] none := (y_X1_missing_2 15).trans rfl
theorem n_X1_missing_60 : nth t_X1_missing 60 = aLdA 0 61 := (y_X1_missing_2 18).trans rfl
theorem n_X1_missing_61 : nth t_X1_missing 61 = aGetR 8 [0] 64 := (y_X1_missing_2 19).trans rfl
theorem y_X1_missing_3 (n : Nat) : nth t_X1_missing (n + 64) = nth t_X1_missing_c3 n := (y_X1_missing_2 (n + 22)).trans rfl
theorem n_X1_missing_64 : nth t_X1_missing 64 = aLdA 0 65 := (y_X1_missing_3 0).trans rfl
theorem n_X1_missing_65 : nth t_X1_missing 65 = aGetR 7 [0] 68 := (y_X1_missing_3 1).trans rfl
theorem n_X1_missing_68 : nth t_X1_missing 68 = aCalV 139 1 71 [3] none := (y_X1_missing_3 4).trans rfl
theorem n_X1_missing_71 : nth t_X1_missing 71 = aIfEq 79 74 := (y_X1_missing_3 7).trans rfl
theorem n_X1_missing_74 : nth t_X1_missing 74 = aLdA 0 75 := (y_X1_missing_3 10).trans rfl
theorem n_X1_missing_75 : nth t_X1_missing 75 = aLdI 3 76 := (y_X1_missing_3 11).trans rfl
theorem n_X1_missing_76 : nth t_X1_missing 76 = aCalV 57 1 79 [0] none := (y_X1_missing_3 12).trans rfl
theorem n_X1_missing_79 : nth t_X1_missing 79 = aInc 3 1 82 := (y_X1_missing_3 15).trans rfl
theorem n_X1_missing_82 : nth t_X1_missing 82 = aGoto 34 := (y_X1_missing_3 18).trans rfl
theorem n_X1_missing_85 : nth t_X1_missing 85 = aLdA 0 86 := (y_X1_missing_3 21).trans rfl
theorem n_X1_missing_86 : nth t_X1_missing 86 = aGetI 11 [0] 89 := (y_X1_missing_3 22).trans rfl
theorem n_X1_missing_89 : nth t_X1_missing 89 = aRetI := (y_X1_missing_3 25).trans rfl
theorem n_X1_areLines_0 : nth t_X1_areLines 0 = aLdI 1 1 := rfl
theorem n_X1_areLines_1 : nth t_X1_areLines 1 = aK (.int 12) 3 := rfl
theorem n_X1_areLines_3 : nth t_X1_areLines 3 = aRem 4 := rfl
theorem n_X1_areLines_4 : nth t_X1_areLines 4 = aIfEq 7 16 := rfl
theorem n_X1_areLines_7 : nth t_X1_areLines 7 = aLdI 1 8 := rfl
theorem n_X1_areLines_8 : nth t_X1_areLines 8 = aK (.int 12) 10 := rfl
theorem n_X1_areLines_10 : nth t_X1_areLines 10 = aDiv 11 := rfl
theorem n_X1_areLines_11 : nth t_X1_areLines 11 = aK (.int 60) 13 := rfl
theorem n_X1_areLines_13 : nth t_X1_areLines 13 = aIcLe 18 16 := rfl
theorem n_X1_areLines_16 : nth t_X1_areLines 16 = aK (.int 0) 17 := rfl
theorem n_X1_areLines_17 : nth t_X1_areLines 17 = aRetZ := rfl
theorem n_X1_areLines_18 : nth t_X1_areLines 18 = aK (.int 0) 19 := rfl
theorem y_X1_areLines_1 (n : Nat) : nth t_X1_areLines (n + 19) = nth t_X1_areLines_c1 n := rfl
theorem n_X1_areLines_19 : nth t_X1_areLines 19 = aStI 2 20 := (y_X1_areLines_1 0).trans rfl
theorem n_X1_areLines_20 : nth t_X1_areLines 20 = aLdI 2 21 := (y_X1_areLines_1 1).trans rfl
theorem n_X1_areLines_21 : nth t_X1_areLines 21 = aLdI 1 22 := (y_X1_areLines_1 2).trans rfl
theorem n_X1_areLines_22 : nth t_X1_areLines 22 = aIcLt 25 45 := (y_X1_areLines_1 3).trans rfl
theorem n_X1_areLines_25 : nth t_X1_areLines 25 = aLdA 0 26 := (y_X1_areLines_1 6).trans rfl
theorem n_X1_areLines_26 : nth t_X1_areLines 26 = aGetR 0 [0] 29 := (y_X1_areLines_1 7).trans rfl
theorem n_X1_areLines_29 : nth t_X1_areLines 29 = aLdI 2 30 := (y_X1_areLines_1 10).trans rfl
theorem n_X1_areLines_30 : nth t_X1_areLines 30 = aAldB 31 := (y_X1_areLines_1 11).trans rfl
theorem n_X1_areLines_31 : nth t_X1_areLines 31 = aCalS 44 1 34 none := (y_X1_areLines_1 12).trans rfl
theorem n_X1_areLines_34 : nth t_X1_areLines 34 = aIfEq 37 39 := (y_X1_areLines_1 15).trans rfl
theorem n_X1_areLines_37 : nth t_X1_areLines 37 = aK (.int 0) 38 := (y_X1_areLines_1 18).trans rfl
theorem n_X1_areLines_38 : nth t_X1_areLines 38 = aRetZ := (y_X1_areLines_1 19).trans rfl
theorem y_X1_areLines_2 (n : Nat) : nth t_X1_areLines (n + 39) = nth t_X1_areLines_c2 n := (y_X1_areLines_1 (n + 20)).trans rfl
theorem n_X1_areLines_39 : nth t_X1_areLines 39 = aInc 2 1 42 := (y_X1_areLines_2 0).trans rfl
theorem n_X1_areLines_42 : nth t_X1_areLines 42 = aGoto 20 := (y_X1_areLines_2 3).trans rfl
theorem n_X1_areLines_45 : nth t_X1_areLines 45 = aK (.int 1) 46 := (y_X1_areLines_2 6).trans rfl
theorem n_X1_areLines_46 : nth t_X1_areLines 46 = aRetZ := (y_X1_areLines_2 7).trans rfl
theorem n_X1_told_0 : nth t_X1_told 0 = aLdA 0 1 := rfl
theorem n_X1_told_1 : nth t_X1_told 1 = aGetR 7 [0] 4 := rfl
theorem n_X1_told_4 : nth t_X1_told 4 = aCalV 137 0 7 [3] none := rfl
theorem n_X1_told_7 : nth t_X1_told 7 = aLdA 0 8 := rfl
theorem n_X1_told_8 : nth t_X1_told 8 = aGetR 7 [0] 11 := rfl
theorem n_X1_told_11 : nth t_X1_told 11 = aLdI 1 12 := rfl
theorem n_X1_told_12 : nth t_X1_told 12 = aK (.int 12) 14 := rfl
theorem n_X1_told_14 : nth t_X1_told 14 = aDiv 15 := rfl
theorem n_X1_told_15 : nth t_X1_told 15 = aPutI 3 [3] 18 := rfl
theorem n_X1_told_18 : nth t_X1_told 18 = aK (.int 0) 19 := rfl
theorem n_X1_told_19 : nth t_X1_told 19 = aStI 2 20 := rfl
theorem n_X1_told_20 : nth t_X1_told 20 = aLdI 2 21 := rfl
theorem y_X1_told_1 (n : Nat) : nth t_X1_told (n + 21) = nth t_X1_told_c1 n := rfl
theorem n_X1_told_21 : nth t_X1_told 21 = aLdI 1 22 := (y_X1_told_1 0).trans rfl
theorem n_X1_told_22 : nth t_X1_told 22 = aIcLt 25 54 := (y_X1_told_1 1).trans rfl
theorem n_X1_told_25 : nth t_X1_told 25 = aLdA 0 26 := (y_X1_told_1 4).trans rfl
theorem n_X1_told_26 : nth t_X1_told 26 = aGetR 7 [0] 29 := (y_X1_told_1 5).trans rfl
theorem n_X1_told_29 : nth t_X1_told 29 = aGetR 8 [3] 32 := (y_X1_told_1 8).trans rfl
theorem n_X1_told_32 : nth t_X1_told 32 = aLdI 2 33 := (y_X1_told_1 11).trans rfl
theorem n_X1_told_33 : nth t_X1_told 33 = aK (.int 12) 35 := (y_X1_told_1 12).trans rfl
theorem n_X1_told_35 : nth t_X1_told 35 = aDiv 36 := (y_X1_told_1 14).trans rfl
theorem n_X1_told_36 : nth t_X1_told 36 = aAldA 37 := (y_X1_told_1 15).trans rfl
theorem n_X1_told_37 : nth t_X1_told 37 = aLdI 2 38 := (y_X1_told_1 16).trans rfl
theorem n_X1_told_38 : nth t_X1_told 38 = aK (.int 12) 40 := (y_X1_told_1 17).trans rfl
theorem n_X1_told_40 : nth t_X1_told 40 = aRem 41 := (y_X1_told_1 19).trans rfl
theorem y_X1_told_2 (n : Nat) : nth t_X1_told (n + 41) = nth t_X1_told_c2 n := (y_X1_told_1 (n + 20)).trans rfl
theorem n_X1_told_41 : nth t_X1_told 41 = aLdA 0 42 := (y_X1_told_2 0).trans rfl
theorem n_X1_told_42 : nth t_X1_told 42 = aGetR 0 [0] 45 := (y_X1_told_2 1).trans rfl
theorem n_X1_told_45 : nth t_X1_told 45 = aLdI 2 46 := (y_X1_told_2 4).trans rfl
theorem n_X1_told_46 : nth t_X1_told 46 = aAldB 47 := (y_X1_told_2 5).trans rfl
theorem n_X1_told_47 : nth t_X1_told 47 = aAstB 48 := (y_X1_told_2 6).trans rfl
theorem n_X1_told_48 : nth t_X1_told 48 = aInc 2 1 51 := (y_X1_told_2 7).trans rfl
theorem n_X1_told_51 : nth t_X1_told 51 = aGoto 20 := (y_X1_told_2 10).trans rfl
theorem n_X1_told_54 : nth t_X1_told 54 = aRetV := (y_X1_told_2 13).trans rfl
theorem n_X1_wire_0 : nth t_X1_wire 0 = aLdI 1 1 := rfl
theorem n_X1_wire_1 : nth t_X1_wire 1 = aK (.int 0) 2 := rfl
theorem n_X1_wire_2 : nth t_X1_wire 2 = aLdA 0 3 := rfl
theorem n_X1_wire_3 : nth t_X1_wire 3 = aGetI 11 [0] 6 := rfl
theorem n_X1_wire_6 : nth t_X1_wire 6 = aK (.int 1) 7 := rfl
theorem n_X1_wire_7 : nth t_X1_wire 7 = aB (fun x y => x - y) 8 := rfl
theorem n_X1_wire_8 : nth t_X1_wire 8 = aCalS 43 3 11 none := rfl
theorem n_X1_wire_11 : nth t_X1_wire 11 = aIfEq 23 14 := rfl
theorem n_X1_wire_14 : nth t_X1_wire 14 = aLdA 0 15 := rfl
theorem n_X1_wire_15 : nth t_X1_wire 15 = aGetR 10 [0] 18 := rfl
theorem n_X1_wire_18 : nth t_X1_wire 18 = aLdI 1 19 := rfl
theorem n_X1_wire_19 : nth t_X1_wire 19 = aAldI 20 := rfl
theorem y_X1_wire_1 (n : Nat) : nth t_X1_wire (n + 20) = nth t_X1_wire_c1 n := rfl
theorem n_X1_wire_20 : nth t_X1_wire 20 = aGoto 24 := (y_X1_wire_1 0).trans rfl
theorem n_X1_wire_23 : nth t_X1_wire 23 = aK (.int (-1)) 24 := (y_X1_wire_1 3).trans rfl
theorem n_X1_wire_24 : nth t_X1_wire 24 = aRetI := (y_X1_wire_1 4).trans rfl
theorem n_X1_tests_0 : nth t_X1_tests 0 = aLdI 1 1 := rfl
theorem n_X1_tests_1 : nth t_X1_tests 1 = aCalS 42 1 4 none := rfl
theorem n_X1_tests_4 : nth t_X1_tests 4 = aIfEq 7 9 := rfl
theorem n_X1_tests_7 : nth t_X1_tests 7 = aK (.int (-1)) 8 := rfl
theorem n_X1_tests_8 : nth t_X1_tests 8 = aRetI := rfl
theorem n_X1_tests_9 : nth t_X1_tests 9 = aLdA 0 10 := rfl
theorem n_X1_tests_10 : nth t_X1_tests 10 = aGetR 3 [0] 13 := rfl
theorem n_X1_tests_13 : nth t_X1_tests 13 = aLdI 1 14 := rfl
theorem n_X1_tests_14 : nth t_X1_tests 14 = aAldA 15 := rfl
theorem n_X1_tests_15 : nth t_X1_tests 15 = aStA 2 16 := rfl
theorem n_X1_tests_16 : nth t_X1_tests 16 = aK (.int 10) 18 := rfl
theorem n_X1_tests_18 : nth t_X1_tests 18 = aLdA 2 19 := rfl
theorem y_X1_tests_1 (n : Nat) : nth t_X1_tests (n + 19) = nth t_X1_tests_c1 n := rfl
theorem n_X1_tests_19 : nth t_X1_tests 19 = aGetI 1 [5] 22 := (y_X1_tests_1 0).trans rfl
theorem n_X1_tests_22 : nth t_X1_tests 22 = aMin 25 := (y_X1_tests_1 3).trans rfl
theorem n_X1_tests_25 : nth t_X1_tests 25 = aStI 3 26 := (y_X1_tests_1 6).trans rfl
theorem n_X1_tests_26 : nth t_X1_tests 26 = aK (.int 10) 28 := (y_X1_tests_1 7).trans rfl
theorem n_X1_tests_28 : nth t_X1_tests 28 = aNewA 103 30 := (y_X1_tests_1 9).trans rfl
theorem n_X1_tests_30 : nth t_X1_tests 30 = aStA 4 32 := (y_X1_tests_1 11).trans rfl
theorem n_X1_tests_32 : nth t_X1_tests 32 = aK (.long 0) 33 := (y_X1_tests_1 13).trans rfl
theorem n_X1_tests_33 : nth t_X1_tests 33 = aStL 5 35 := (y_X1_tests_1 14).trans rfl
theorem n_X1_tests_35 : nth t_X1_tests 35 = aK (.int 0) 36 := (y_X1_tests_1 16).trans rfl
theorem n_X1_tests_36 : nth t_X1_tests 36 = aStI 7 38 := (y_X1_tests_1 17).trans rfl
theorem n_X1_tests_38 : nth t_X1_tests 38 = aLdI 7 40 := (y_X1_tests_1 19).trans rfl
theorem n_X1_tests_40 : nth t_X1_tests 40 = aLdI 3 41 := (y_X1_tests_1 21).trans rfl
theorem y_X1_tests_2 (n : Nat) : nth t_X1_tests (n + 41) = nth t_X1_tests_c2 n := (y_X1_tests_1 (n + 22)).trans rfl
theorem n_X1_tests_41 : nth t_X1_tests 41 = aIcLt 44 164 := (y_X1_tests_2 0).trans rfl
theorem n_X1_tests_44 : nth t_X1_tests 44 = aLdA 0 45 := (y_X1_tests_2 3).trans rfl
theorem n_X1_tests_45 : nth t_X1_tests 45 = aGetR 5 [0] 48 := (y_X1_tests_2 4).trans rfl
theorem n_X1_tests_48 : nth t_X1_tests 48 = aLdA 0 49 := (y_X1_tests_2 7).trans rfl
theorem n_X1_tests_49 : nth t_X1_tests 49 = aGetR 4 [0] 52 := (y_X1_tests_2 8).trans rfl
theorem n_X1_tests_52 : nth t_X1_tests 52 = aK (.int (-1)) 53 := (y_X1_tests_2 11).trans rfl
theorem n_X1_tests_53 : nth t_X1_tests 53 = aLdA 2 54 := (y_X1_tests_2 12).trans rfl
theorem n_X1_tests_54 : nth t_X1_tests 54 = aGetR 0 [5] 57 := (y_X1_tests_2 13).trans rfl
theorem n_X1_tests_57 : nth t_X1_tests 57 = aLdI 7 59 := (y_X1_tests_2 16).trans rfl
theorem n_X1_tests_59 : nth t_X1_tests 59 = aLdI 7 61 := (y_X1_tests_2 18).trans rfl
theorem n_X1_tests_61 : nth t_X1_tests 61 = aK (.int 1) 62 := (y_X1_tests_2 20).trans rfl
theorem n_X1_tests_62 : nth t_X1_tests 62 = aB (fun x y => x + y) 63 := (y_X1_tests_2 21).trans rfl
theorem y_X1_tests_3 (n : Nat) : nth t_X1_tests (n + 63) = nth t_X1_tests_c3 n := (y_X1_tests_2 (n + 22)).trans rfl
theorem n_X1_tests_63 : nth t_X1_tests 63 = aK (.int 40) 65 := (y_X1_tests_3 0).trans rfl
theorem n_X1_tests_65 : nth t_X1_tests 65 = aLdA 0 66 := (y_X1_tests_3 2).trans rfl
theorem n_X1_tests_66 : nth t_X1_tests 66 = aGetR 7 [0] 69 := (y_X1_tests_3 3).trans rfl
theorem n_X1_tests_69 : nth t_X1_tests 69 = aCalV 121 7 72 [2] none := (y_X1_tests_3 6).trans rfl
theorem n_X1_tests_72 : nth t_X1_tests 72 = aK (.int 0) 73 := (y_X1_tests_3 9).trans rfl
theorem n_X1_tests_73 : nth t_X1_tests 73 = aStI 8 75 := (y_X1_tests_3 10).trans rfl
theorem n_X1_tests_75 : nth t_X1_tests 75 = aLdI 8 77 := (y_X1_tests_3 12).trans rfl
theorem n_X1_tests_77 : nth t_X1_tests 77 = aLdA 0 78 := (y_X1_tests_3 14).trans rfl
theorem n_X1_tests_78 : nth t_X1_tests 78 = aGetR 4 [0] 81 := (y_X1_tests_3 15).trans rfl
theorem n_X1_tests_81 : nth t_X1_tests 81 = aGetI 2 [1] 84 := (y_X1_tests_3 18).trans rfl
theorem n_X1_tests_84 : nth t_X1_tests 84 = aIcLt 87 148 := (y_X1_tests_3 21).trans rfl
theorem n_X1_tests_87 : nth t_X1_tests 87 = aLdA 0 88 := (y_X1_tests_3 24).trans rfl
theorem y_X1_tests_4 (n : Nat) : nth t_X1_tests (n + 88) = nth t_X1_tests_c4 n := (y_X1_tests_3 (n + 25)).trans rfl
theorem n_X1_tests_88 : nth t_X1_tests 88 = aGetR 5 [0] 91 := (y_X1_tests_4 0).trans rfl
theorem n_X1_tests_91 : nth t_X1_tests 91 = aLdA 0 92 := (y_X1_tests_4 3).trans rfl
theorem n_X1_tests_92 : nth t_X1_tests 92 = aGetR 4 [0] 95 := (y_X1_tests_4 4).trans rfl
theorem n_X1_tests_95 : nth t_X1_tests 95 = aLdI 8 97 := (y_X1_tests_4 7).trans rfl
theorem n_X1_tests_97 : nth t_X1_tests 97 = aLdA 2 98 := (y_X1_tests_4 9).trans rfl
theorem n_X1_tests_98 : nth t_X1_tests 98 = aGetR 0 [5] 101 := (y_X1_tests_4 10).trans rfl
theorem n_X1_tests_101 : nth t_X1_tests 101 = aLdI 7 103 := (y_X1_tests_4 13).trans rfl
theorem n_X1_tests_103 : nth t_X1_tests 103 = aLdI 7 105 := (y_X1_tests_4 15).trans rfl
theorem n_X1_tests_105 : nth t_X1_tests 105 = aK (.int 1) 106 := (y_X1_tests_4 17).trans rfl
theorem n_X1_tests_106 : nth t_X1_tests 106 = aB (fun x y => x + y) 107 := (y_X1_tests_4 18).trans rfl
theorem n_X1_tests_107 : nth t_X1_tests 107 = aK (.int 40) 109 := (y_X1_tests_4 19).trans rfl
theorem n_X1_tests_109 : nth t_X1_tests 109 = aLdA 0 110 := (y_X1_tests_4 21).trans rfl
theorem y_X1_tests_5 (n : Nat) : nth t_X1_tests (n + 110) = nth t_X1_tests_c5 n := (y_X1_tests_4 (n + 22)).trans rfl
theorem n_X1_tests_110 : nth t_X1_tests 110 = aGetR 8 [0] 113 := (y_X1_tests_5 0).trans rfl
theorem n_X1_tests_113 : nth t_X1_tests 113 = aCalV 121 7 116 [2] none := (y_X1_tests_5 3).trans rfl
theorem n_X1_tests_116 : nth t_X1_tests 116 = aLdA 0 117 := (y_X1_tests_5 6).trans rfl
theorem n_X1_tests_117 : nth t_X1_tests 117 = aGetR 8 [0] 120 := (y_X1_tests_5 7).trans rfl
theorem n_X1_tests_120 : nth t_X1_tests 120 = aLdA 0 121 := (y_X1_tests_5 10).trans rfl
theorem n_X1_tests_121 : nth t_X1_tests 121 = aGetR 7 [0] 124 := (y_X1_tests_5 11).trans rfl
theorem n_X1_tests_124 : nth t_X1_tests 124 = aCalV 138 1 127 [3] none := (y_X1_tests_5 14).trans rfl
theorem n_X1_tests_127 : nth t_X1_tests 127 = aIfEq 130 142 := (y_X1_tests_5 17).trans rfl
theorem n_X1_tests_130 : nth t_X1_tests 130 = aLdA 4 132 := (y_X1_tests_5 20).trans rfl
theorem n_X1_tests_132 : nth t_X1_tests 132 = aLdI 7 134 := (y_X1_tests_5 22).trans rfl
theorem n_X1_tests_134 : nth t_X1_tests 134 = aDup2 135 := (y_X1_tests_5 24).trans rfl
theorem n_X1_tests_135 : nth t_X1_tests 135 = aAldL 136 := (y_X1_tests_5 25).trans rfl
theorem y_X1_tests_6 (n : Nat) : nth t_X1_tests (n + 136) = nth t_X1_tests_c6 n := (y_X1_tests_5 (n + 26)).trans rfl
theorem n_X1_tests_136 : nth t_X1_tests 136 = aK (.long 1) 137 := (y_X1_tests_6 0).trans rfl
theorem n_X1_tests_137 : nth t_X1_tests 137 = aLdI 8 139 := (y_X1_tests_6 1).trans rfl
theorem n_X1_tests_139 : nth t_X1_tests 139 = aLS (fun x y => x <<< (y.toInt64 &&& 63)) 140 := (y_X1_tests_6 3).trans rfl
theorem n_X1_tests_140 : nth t_X1_tests 140 = aLB (fun x y => x ||| y) 141 := (y_X1_tests_6 4).trans rfl
theorem n_X1_tests_141 : nth t_X1_tests 141 = aAstL 142 := (y_X1_tests_6 5).trans rfl
theorem n_X1_tests_142 : nth t_X1_tests 142 = aInc 8 1 145 := (y_X1_tests_6 6).trans rfl
theorem n_X1_tests_145 : nth t_X1_tests 145 = aGoto 75 := (y_X1_tests_6 9).trans rfl
theorem n_X1_tests_148 : nth t_X1_tests 148 = aLdL 5 150 := (y_X1_tests_6 12).trans rfl
theorem n_X1_tests_150 : nth t_X1_tests 150 = aLdA 4 152 := (y_X1_tests_6 14).trans rfl
theorem n_X1_tests_152 : nth t_X1_tests 152 = aLdI 7 154 := (y_X1_tests_6 16).trans rfl
theorem n_X1_tests_154 : nth t_X1_tests 154 = aAldL 155 := (y_X1_tests_6 18).trans rfl
theorem n_X1_tests_155 : nth t_X1_tests 155 = aLB (fun x y => x ||| y) 156 := (y_X1_tests_6 19).trans rfl
theorem y_X1_tests_7 (n : Nat) : nth t_X1_tests (n + 156) = nth t_X1_tests_c7 n := (y_X1_tests_6 (n + 20)).trans rfl
theorem n_X1_tests_156 : nth t_X1_tests 156 = aStL 5 158 := (y_X1_tests_7 0).trans rfl
theorem n_X1_tests_158 : nth t_X1_tests 158 = aInc 7 1 161 := (y_X1_tests_7 2).trans rfl
theorem n_X1_tests_161 : nth t_X1_tests 161 = aGoto 38 := (y_X1_tests_7 5).trans rfl
theorem n_X1_tests_164 : nth t_X1_tests 164 = aK (.int 11) 166 := (y_X1_tests_7 8).trans rfl
theorem n_X1_tests_166 : nth t_X1_tests 166 = aStI 7 168 := (y_X1_tests_7 10).trans rfl
theorem n_X1_tests_168 : nth t_X1_tests 168 = aK (.int 0) 169 := (y_X1_tests_7 12).trans rfl
theorem n_X1_tests_169 : nth t_X1_tests 169 = aStI 8 171 := (y_X1_tests_7 13).trans rfl
theorem n_X1_tests_171 : nth t_X1_tests 171 = aLdI 8 173 := (y_X1_tests_7 15).trans rfl
theorem n_X1_tests_173 : nth t_X1_tests 173 = aK (.int 1) 174 := (y_X1_tests_7 17).trans rfl
theorem n_X1_tests_174 : nth t_X1_tests 174 = aLdI 3 175 := (y_X1_tests_7 18).trans rfl
theorem n_X1_tests_175 : nth t_X1_tests 175 = aB (fun x y => x <<< (y &&& 31)) 176 := (y_X1_tests_7 19).trans rfl
theorem n_X1_tests_176 : nth t_X1_tests 176 = aIcLt 179 260 := (y_X1_tests_7 20).trans rfl
theorem y_X1_tests_8 (n : Nat) : nth t_X1_tests (n + 179) = nth t_X1_tests_c8 n := (y_X1_tests_7 (n + 23)).trans rfl
theorem n_X1_tests_179 : nth t_X1_tests 179 = aK (.long 0) 180 := (y_X1_tests_8 0).trans rfl
theorem n_X1_tests_180 : nth t_X1_tests 180 = aStL 9 182 := (y_X1_tests_8 1).trans rfl
theorem n_X1_tests_182 : nth t_X1_tests 182 = aK (.int 0) 183 := (y_X1_tests_8 3).trans rfl
theorem n_X1_tests_183 : nth t_X1_tests 183 = aStI 11 185 := (y_X1_tests_8 4).trans rfl
theorem n_X1_tests_185 : nth t_X1_tests 185 = aK (.int 0) 186 := (y_X1_tests_8 6).trans rfl
theorem n_X1_tests_186 : nth t_X1_tests 186 = aStI 12 188 := (y_X1_tests_8 7).trans rfl
theorem n_X1_tests_188 : nth t_X1_tests 188 = aLdI 12 190 := (y_X1_tests_8 9).trans rfl
theorem n_X1_tests_190 : nth t_X1_tests 190 = aLdI 3 191 := (y_X1_tests_8 11).trans rfl
theorem n_X1_tests_191 : nth t_X1_tests 191 = aIcLt 194 226 := (y_X1_tests_8 12).trans rfl
theorem n_X1_tests_194 : nth t_X1_tests 194 = aLdI 8 196 := (y_X1_tests_8 15).trans rfl
theorem n_X1_tests_196 : nth t_X1_tests 196 = aLdI 12 198 := (y_X1_tests_8 17).trans rfl
theorem n_X1_tests_198 : nth t_X1_tests 198 = aB (fun x y => x >>> (y &&& 31)) 199 := (y_X1_tests_8 19).trans rfl
theorem y_X1_tests_9 (n : Nat) : nth t_X1_tests (n + 199) = nth t_X1_tests_c9 n := (y_X1_tests_8 (n + 20)).trans rfl
theorem n_X1_tests_199 : nth t_X1_tests 199 = aK (.int 1) 200 := (y_X1_tests_9 0).trans rfl
theorem n_X1_tests_200 : nth t_X1_tests 200 = aB (fun x y => x &&& y) 201 := (y_X1_tests_9 1).trans rfl
theorem n_X1_tests_201 : nth t_X1_tests 201 = aIfEq 204 207 := (y_X1_tests_9 2).trans rfl
theorem n_X1_tests_204 : nth t_X1_tests 204 = aGoto 220 := (y_X1_tests_9 5).trans rfl
theorem n_X1_tests_207 : nth t_X1_tests 207 = aLdL 9 209 := (y_X1_tests_9 8).trans rfl
theorem n_X1_tests_209 : nth t_X1_tests 209 = aLdA 4 211 := (y_X1_tests_9 10).trans rfl
theorem n_X1_tests_211 : nth t_X1_tests 211 = aLdI 12 213 := (y_X1_tests_9 12).trans rfl
theorem n_X1_tests_213 : nth t_X1_tests 213 = aAldL 214 := (y_X1_tests_9 14).trans rfl
theorem n_X1_tests_214 : nth t_X1_tests 214 = aLB (fun x y => x ||| y) 215 := (y_X1_tests_9 15).trans rfl
theorem n_X1_tests_215 : nth t_X1_tests 215 = aStL 9 217 := (y_X1_tests_9 16).trans rfl
theorem n_X1_tests_217 : nth t_X1_tests 217 = aInc 11 1 220 := (y_X1_tests_9 18).trans rfl
theorem n_X1_tests_220 : nth t_X1_tests 220 = aInc 12 1 223 := (y_X1_tests_9 21).trans rfl
theorem y_X1_tests_10 (n : Nat) : nth t_X1_tests (n + 223) = nth t_X1_tests_c10 n := (y_X1_tests_9 (n + 24)).trans rfl
theorem n_X1_tests_223 : nth t_X1_tests 223 = aGoto 188 := (y_X1_tests_10 0).trans rfl
theorem n_X1_tests_226 : nth t_X1_tests 226 = aLdL 9 228 := (y_X1_tests_10 3).trans rfl
theorem n_X1_tests_228 : nth t_X1_tests 228 = aLdL 5 230 := (y_X1_tests_10 5).trans rfl
theorem n_X1_tests_230 : nth t_X1_tests 230 = aLcmp 231 := (y_X1_tests_10 7).trans rfl
theorem n_X1_tests_231 : nth t_X1_tests 231 = aIfEq 234 254 := (y_X1_tests_10 8).trans rfl
theorem n_X1_tests_234 : nth t_X1_tests 234 = aLdI 11 236 := (y_X1_tests_10 11).trans rfl
theorem n_X1_tests_236 : nth t_X1_tests 236 = aLdI 7 238 := (y_X1_tests_10 13).trans rfl
theorem n_X1_tests_238 : nth t_X1_tests 238 = aIcLt 244 241 := (y_X1_tests_10 15).trans rfl
theorem n_X1_tests_241 : nth t_X1_tests 241 = aGoto 254 := (y_X1_tests_10 18).trans rfl
theorem n_X1_tests_244 : nth t_X1_tests 244 = aLdI 11 246 := (y_X1_tests_10 21).trans rfl
theorem n_X1_tests_246 : nth t_X1_tests 246 = aStI 7 248 := (y_X1_tests_10 23).trans rfl
theorem n_X1_tests_248 : nth t_X1_tests 248 = aLdA 0 249 := (y_X1_tests_10 25).trans rfl
theorem y_X1_tests_11 (n : Nat) : nth t_X1_tests (n + 249) = nth t_X1_tests_c11 n := (y_X1_tests_10 (n + 26)).trans rfl
theorem n_X1_tests_249 : nth t_X1_tests 249 = aLdI 8 251 := (y_X1_tests_11 0).trans rfl
theorem n_X1_tests_251 : nth t_X1_tests 251 = aPutI 12 [0] 254 := (y_X1_tests_11 2).trans rfl
theorem n_X1_tests_254 : nth t_X1_tests 254 = aInc 8 1 257 := (y_X1_tests_11 5).trans rfl
theorem n_X1_tests_257 : nth t_X1_tests 257 = aGoto 171 := (y_X1_tests_11 8).trans rfl
theorem n_X1_tests_260 : nth t_X1_tests 260 = aLdA 0 261 := (y_X1_tests_11 11).trans rfl
theorem n_X1_tests_261 : nth t_X1_tests 261 = aLdL 5 263 := (y_X1_tests_11 12).trans rfl
theorem n_X1_tests_263 : nth t_X1_tests 263 = aCalS 63 1 266 none := (y_X1_tests_11 14).trans rfl
theorem n_X1_tests_266 : nth t_X1_tests 266 = aPutI 13 [0] 269 := (y_X1_tests_11 17).trans rfl
theorem n_X1_tests_269 : nth t_X1_tests 269 = aLdI 7 271 := (y_X1_tests_11 20).trans rfl
theorem n_X1_tests_271 : nth t_X1_tests 271 = aRetI := (y_X1_tests_11 22).trans rfl
theorem n_X1_bits_0 : nth t_X1_bits 0 = aK (.int 0) 1 := rfl
theorem n_X1_bits_1 : nth t_X1_bits 1 = aStI 2 2 := rfl
theorem n_X1_bits_2 : nth t_X1_bits 2 = aLdL 0 3 := rfl
theorem n_X1_bits_3 : nth t_X1_bits 3 = aStL 3 4 := rfl
theorem n_X1_bits_4 : nth t_X1_bits 4 = aLdL 3 5 := rfl
theorem n_X1_bits_5 : nth t_X1_bits 5 = aK (.long 0) 6 := rfl
theorem n_X1_bits_6 : nth t_X1_bits 6 = aLcmp 7 := rfl
theorem n_X1_bits_7 : nth t_X1_bits 7 = aIfEq 22 10 := rfl
theorem n_X1_bits_10 : nth t_X1_bits 10 = aInc 2 1 13 := rfl
theorem n_X1_bits_13 : nth t_X1_bits 13 = aLdL 3 14 := rfl
theorem n_X1_bits_14 : nth t_X1_bits 14 = aLdL 3 15 := rfl
theorem n_X1_bits_15 : nth t_X1_bits 15 = aK (.long 1) 16 := rfl
theorem y_X1_bits_1 (n : Nat) : nth t_X1_bits (n + 16) = nth t_X1_bits_c1 n := rfl
theorem n_X1_bits_16 : nth t_X1_bits 16 = aLB (fun x y => x - y) 17 := (y_X1_bits_1 0).trans rfl
theorem n_X1_bits_17 : nth t_X1_bits 17 = aLB (fun x y => x &&& y) 18 := (y_X1_bits_1 1).trans rfl
theorem n_X1_bits_18 : nth t_X1_bits 18 = aStL 3 19 := (y_X1_bits_1 2).trans rfl
theorem n_X1_bits_19 : nth t_X1_bits 19 = aGoto 4 := (y_X1_bits_1 3).trans rfl
theorem n_X1_bits_22 : nth t_X1_bits 22 = aLdI 2 23 := (y_X1_bits_1 6).trans rfl
theorem n_X1_bits_23 : nth t_X1_bits 23 = aRetI := (y_X1_bits_1 7).trans rfl
theorem n_X1_testSet_0 : nth t_X1_testSet 0 = aLdA 0 1 := rfl
theorem n_X1_testSet_1 : nth t_X1_testSet 1 = aGetI 12 [0] 4 := rfl
theorem n_X1_testSet_4 : nth t_X1_testSet 4 = aRetI := rfl
theorem n_X1_shown_0 : nth t_X1_shown 0 = aLdA 0 1 := rfl
theorem n_X1_shown_1 : nth t_X1_shown 1 = aGetI 13 [0] 4 := rfl
theorem n_X1_shown_4 : nth t_X1_shown 4 = aRetI := rfl
theorem n_X1_job_0 : nth t_X1_job 0 = aLdA 0 1 := rfl
theorem n_X1_job_1 : nth t_X1_job 1 = aCalV 41 0 4 [0] none := rfl
theorem n_X1_job_4 : nth t_X1_job 4 = aStI 1 5 := rfl
theorem n_X1_job_5 : nth t_X1_job 5 = aLdA 0 6 := rfl
theorem n_X1_job_6 : nth t_X1_job 6 = aK (.int 0) 7 := rfl
theorem n_X1_job_7 : nth t_X1_job 7 = aPutI 2 [0] 10 := rfl
theorem n_X1_job_10 : nth t_X1_job 10 = aLdA 0 11 := rfl
theorem n_X1_job_11 : nth t_X1_job 11 = aNew 9 10 14 := rfl
theorem n_X1_job_14 : nth t_X1_job 14 = aDup 15 := rfl
theorem n_X1_job_15 : nth t_X1_job 15 = aLdA 0 16 := rfl
theorem n_X1_job_16 : nth t_X1_job 16 = aGetR 0 [0] 19 := rfl
theorem n_X1_job_19 : nth t_X1_job 19 = aLdI 1 20 := rfl
theorem y_X1_job_1 (n : Nat) : nth t_X1_job (n + 20) = nth t_X1_job_c1 n := rfl
theorem n_X1_job_20 : nth t_X1_job 20 = aCalI 102 2 23 (some (41, 8)) := (y_X1_job_1 0).trans rfl
theorem n_X1_job_23 : nth t_X1_job 23 = aCalV 103 0 26 [9] (some (41, 8)) := (y_X1_job_1 3).trans rfl
theorem n_X1_job_26 : nth t_X1_job 26 = aPutR 14 [0] 29 := (y_X1_job_1 6).trans rfl
theorem n_X1_job_29 : nth t_X1_job 29 = aLdA 0 30 := (y_X1_job_1 9).trans rfl
theorem n_X1_job_30 : nth t_X1_job 30 = aCalV 67 0 33 [0] (some (41, 8)) := (y_X1_job_1 10).trans rfl
theorem n_X1_job_33 : nth t_X1_job 33 = aLdA 0 34 := (y_X1_job_1 13).trans rfl
theorem n_X1_job_34 : nth t_X1_job 34 = aGetR 14 [0] 37 := (y_X1_job_1 14).trans rfl
theorem n_X1_job_37 : nth t_X1_job 37 = aGetI 9 [4] 40 := (y_X1_job_1 17).trans rfl
theorem n_X1_job_40 : nth t_X1_job 40 = aRetI := (y_X1_job_1 20).trans rfl
theorem n_X1_job_41 : nth t_X1_job 41 = aStA 2 42 := (y_X1_job_1 21).trans rfl
theorem n_X1_job_42 : nth t_X1_job 42 = aLdA 0 43 := (y_X1_job_1 22).trans rfl
theorem n_X1_job_43 : nth t_X1_job 43 = aLdA 2 44 := (y_X1_job_1 23).trans rfl
theorem y_X1_job_2 (n : Nat) : nth t_X1_job (n + 44) = nth t_X1_job_c2 n := (y_X1_job_1 (n + 24)).trans rfl
theorem n_X1_job_44 : nth t_X1_job 44 = aGetI 6 [8] 47 := (y_X1_job_2 0).trans rfl
theorem n_X1_job_47 : nth t_X1_job 47 = aPutI 2 [0] 50 := (y_X1_job_2 3).trans rfl
theorem n_X1_job_50 : nth t_X1_job 50 = aK (.int (-1)) 51 := (y_X1_job_2 6).trans rfl
theorem n_X1_job_51 : nth t_X1_job 51 = aLdA 2 52 := (y_X1_job_2 7).trans rfl
theorem n_X1_job_52 : nth t_X1_job 52 = aGetI 7 [8] 55 := (y_X1_job_2 8).trans rfl
theorem n_X1_job_55 : nth t_X1_job 55 = aB (fun x y => x - y) 56 := (y_X1_job_2 11).trans rfl
theorem n_X1_job_56 : nth t_X1_job 56 = aRetI := (y_X1_job_2 12).trans rfl
theorem n_X1_part_0 : nth t_X1_part 0 = aK (.int 1) 1 := rfl
theorem n_X1_part_1 : nth t_X1_part 1 = aLdA 0 2 := rfl
theorem n_X1_part_2 : nth t_X1_part 2 = aGetR 14 [0] 5 := rfl
theorem n_X1_part_5 : nth t_X1_part 5 = aGetI 9 [4] 8 := rfl
theorem n_X1_part_8 : nth t_X1_part 8 = aB (fun x y => x <<< (y &&& 31)) 9 := rfl
theorem n_X1_part_9 : nth t_X1_part 9 = aK (.int 1) 10 := rfl
theorem n_X1_part_10 : nth t_X1_part 10 = aB (fun x y => x - y) 11 := rfl
theorem n_X1_part_11 : nth t_X1_part 11 = aStI 1 12 := rfl
theorem n_X1_part_12 : nth t_X1_part 12 = aLdA 0 13 := rfl
theorem n_X1_part_13 : nth t_X1_part 13 = aK (.int 0) 14 := rfl
theorem n_X1_part_14 : nth t_X1_part 14 = aPutI 18 [0] 17 := rfl
theorem n_X1_part_17 : nth t_X1_part 17 = aLdA 0 18 := rfl
theorem y_X1_part_1 (n : Nat) : nth t_X1_part (n + 18) = nth t_X1_part_c1 n := rfl
theorem n_X1_part_18 : nth t_X1_part 18 = aGetR 15 [0] 21 := (y_X1_part_1 0).trans rfl
theorem n_X1_part_21 : nth t_X1_part 21 = aK (.int 0) 22 := (y_X1_part_1 3).trans rfl
theorem n_X1_part_22 : nth t_X1_part 22 = aK (.int 0) 23 := (y_X1_part_1 4).trans rfl
theorem n_X1_part_23 : nth t_X1_part 23 = aAstI 24 := (y_X1_part_1 5).trans rfl
theorem n_X1_part_24 : nth t_X1_part 24 = aK (.int 1) 25 := (y_X1_part_1 6).trans rfl
theorem n_X1_part_25 : nth t_X1_part 25 = aStI 2 26 := (y_X1_part_1 7).trans rfl
theorem n_X1_part_26 : nth t_X1_part 26 = aLdI 2 27 := (y_X1_part_1 8).trans rfl
theorem n_X1_part_27 : nth t_X1_part 27 = aLdI 1 28 := (y_X1_part_1 9).trans rfl
theorem n_X1_part_28 : nth t_X1_part 28 = aIcLe 31 107 := (y_X1_part_1 10).trans rfl
theorem n_X1_part_31 : nth t_X1_part 31 = aLdA 0 32 := (y_X1_part_1 13).trans rfl
theorem n_X1_part_32 : nth t_X1_part 32 = aGetR 17 [0] 35 := (y_X1_part_1 14).trans rfl
theorem n_X1_part_35 : nth t_X1_part 35 = aLdI 2 36 := (y_X1_part_1 17).trans rfl
theorem y_X1_part_2 (n : Nat) : nth t_X1_part (n + 36) = nth t_X1_part_c2 n := (y_X1_part_1 (n + 18)).trans rfl
theorem n_X1_part_36 : nth t_X1_part 36 = aLdI 2 37 := (y_X1_part_2 0).trans rfl
theorem n_X1_part_37 : nth t_X1_part 37 = aI2L 38 := (y_X1_part_2 1).trans rfl
theorem n_X1_part_38 : nth t_X1_part 38 = aCalS 63 1 41 none := (y_X1_part_2 2).trans rfl
theorem n_X1_part_41 : nth t_X1_part 41 = aK (.int 4) 42 := (y_X1_part_2 5).trans rfl
theorem n_X1_part_42 : nth t_X1_part 42 = aIcLe 45 67 := (y_X1_part_2 6).trans rfl
theorem n_X1_part_45 : nth t_X1_part 45 = aNew 10 7 48 := (y_X1_part_2 9).trans rfl
theorem n_X1_part_48 : nth t_X1_part 48 = aDup 49 := (y_X1_part_2 12).trans rfl
theorem n_X1_part_49 : nth t_X1_part 49 = aLdA 0 50 := (y_X1_part_2 13).trans rfl
theorem n_X1_part_50 : nth t_X1_part 50 = aGetR 14 [0] 53 := (y_X1_part_2 14).trans rfl
theorem n_X1_part_53 : nth t_X1_part 53 = aCalI 108 1 56 none := (y_X1_part_2 17).trans rfl
theorem n_X1_part_56 : nth t_X1_part 56 = aLdI 2 57 := (y_X1_part_2 20).trans rfl
theorem n_X1_part_57 : nth t_X1_part 57 = aCalV 109 1 60 [10] none := (y_X1_part_2 21).trans rfl
theorem y_X1_part_3 (n : Nat) : nth t_X1_part (n + 60) = nth t_X1_part_c3 n := (y_X1_part_2 (n + 24)).trans rfl
theorem n_X1_part_60 : nth t_X1_part 60 = aIfN 67 63 := (y_X1_part_3 0).trans rfl
theorem n_X1_part_63 : nth t_X1_part 63 = aK (.int 1) 64 := (y_X1_part_3 3).trans rfl
theorem n_X1_part_64 : nth t_X1_part 64 = aGoto 68 := (y_X1_part_3 4).trans rfl
theorem n_X1_part_67 : nth t_X1_part 67 = aK (.int 0) 68 := (y_X1_part_3 7).trans rfl
theorem n_X1_part_68 : nth t_X1_part 68 = aAstB 69 := (y_X1_part_3 8).trans rfl
theorem n_X1_part_69 : nth t_X1_part 69 = aLdA 0 70 := (y_X1_part_3 9).trans rfl
theorem n_X1_part_70 : nth t_X1_part 70 = aLdI 2 71 := (y_X1_part_3 10).trans rfl
theorem n_X1_part_71 : nth t_X1_part 71 = aCalV 68 1 74 [0] none := (y_X1_part_3 11).trans rfl
theorem n_X1_part_74 : nth t_X1_part 74 = aStI 3 75 := (y_X1_part_3 14).trans rfl
theorem n_X1_part_75 : nth t_X1_part 75 = aLdA 0 76 := (y_X1_part_3 15).trans rfl
theorem n_X1_part_76 : nth t_X1_part 76 = aGetR 15 [0] 79 := (y_X1_part_3 16).trans rfl
theorem n_X1_part_79 : nth t_X1_part 79 = aLdI 2 80 := (y_X1_part_3 19).trans rfl
theorem y_X1_part_4 (n : Nat) : nth t_X1_part (n + 80) = nth t_X1_part_c4 n := (y_X1_part_3 (n + 20)).trans rfl
theorem n_X1_part_80 : nth t_X1_part 80 = aLdI 3 81 := (y_X1_part_4 0).trans rfl
theorem n_X1_part_81 : nth t_X1_part 81 = aIfEq 84 88 := (y_X1_part_4 1).trans rfl
theorem n_X1_part_84 : nth t_X1_part 84 = aK (.int (-1)) 85 := (y_X1_part_4 4).trans rfl
theorem n_X1_part_85 : nth t_X1_part 85 = aGoto 100 := (y_X1_part_4 5).trans rfl
theorem n_X1_part_88 : nth t_X1_part 88 = aK (.int 1) 89 := (y_X1_part_4 8).trans rfl
theorem n_X1_part_89 : nth t_X1_part 89 = aLdA 0 90 := (y_X1_part_4 9).trans rfl
theorem n_X1_part_90 : nth t_X1_part 90 = aGetR 15 [0] 93 := (y_X1_part_4 10).trans rfl
theorem n_X1_part_93 : nth t_X1_part 93 = aLdI 2 94 := (y_X1_part_4 13).trans rfl
theorem n_X1_part_94 : nth t_X1_part 94 = aLdI 3 95 := (y_X1_part_4 14).trans rfl
theorem n_X1_part_95 : nth t_X1_part 95 = aK (.int (-1)) 96 := (y_X1_part_4 15).trans rfl
theorem n_X1_part_96 : nth t_X1_part 96 = aB (fun x y => x ^^^ y) 97 := (y_X1_part_4 16).trans rfl
theorem n_X1_part_97 : nth t_X1_part 97 = aB (fun x y => x &&& y) 98 := (y_X1_part_4 17).trans rfl
theorem y_X1_part_5 (n : Nat) : nth t_X1_part (n + 98) = nth t_X1_part_c5 n := (y_X1_part_4 (n + 18)).trans rfl
theorem n_X1_part_98 : nth t_X1_part 98 = aAldI 99 := (y_X1_part_5 0).trans rfl
theorem n_X1_part_99 : nth t_X1_part 99 = aB (fun x y => x + y) 100 := (y_X1_part_5 1).trans rfl
theorem n_X1_part_100 : nth t_X1_part 100 = aAstI 101 := (y_X1_part_5 2).trans rfl
theorem n_X1_part_101 : nth t_X1_part 101 = aInc 2 1 104 := (y_X1_part_5 3).trans rfl
theorem n_X1_part_104 : nth t_X1_part 104 = aGoto 26 := (y_X1_part_5 6).trans rfl
theorem n_X1_part_107 : nth t_X1_part 107 = aLdA 0 108 := (y_X1_part_5 9).trans rfl
theorem n_X1_part_108 : nth t_X1_part 108 = aGetR 15 [0] 111 := (y_X1_part_5 10).trans rfl
theorem n_X1_part_111 : nth t_X1_part 111 = aLdI 1 112 := (y_X1_part_5 13).trans rfl
theorem n_X1_part_112 : nth t_X1_part 112 = aAldI 113 := (y_X1_part_5 14).trans rfl
theorem n_X1_part_113 : nth t_X1_part 113 = aK (.int (-1)) 114 := (y_X1_part_5 15).trans rfl
theorem n_X1_part_114 : nth t_X1_part 114 = aIcEq 117 123 := (y_X1_part_5 16).trans rfl
theorem n_X1_part_117 : nth t_X1_part 117 = aLdA 0 118 := (y_X1_part_5 19).trans rfl
theorem y_X1_part_6 (n : Nat) : nth t_X1_part (n + 118) = nth t_X1_part_c6 n := (y_X1_part_5 (n + 20)).trans rfl
theorem n_X1_part_118 : nth t_X1_part 118 = aK (.int (-1)) 119 := (y_X1_part_6 0).trans rfl
theorem n_X1_part_119 : nth t_X1_part 119 = aPutI 18 [0] 122 := (y_X1_part_6 1).trans rfl
theorem n_X1_part_122 : nth t_X1_part 122 = aRetV := (y_X1_part_6 4).trans rfl
theorem n_X1_part_123 : nth t_X1_part 123 = aLdI 1 124 := (y_X1_part_6 5).trans rfl
theorem n_X1_part_124 : nth t_X1_part 124 = aStI 2 125 := (y_X1_part_6 6).trans rfl
theorem n_X1_part_125 : nth t_X1_part 125 = aLdI 2 126 := (y_X1_part_6 7).trans rfl
theorem n_X1_part_126 : nth t_X1_part 126 = aIfLe 172 129 := (y_X1_part_6 8).trans rfl
theorem n_X1_part_129 : nth t_X1_part 129 = aLdA 0 130 := (y_X1_part_6 11).trans rfl
theorem n_X1_part_130 : nth t_X1_part 130 = aGetR 16 [0] 133 := (y_X1_part_6 12).trans rfl
theorem n_X1_part_133 : nth t_X1_part 133 = aLdA 0 134 := (y_X1_part_6 15).trans rfl
theorem n_X1_part_134 : nth t_X1_part 134 = aGetI 18 [0] 137 := (y_X1_part_6 16).trans rfl
theorem n_X1_part_137 : nth t_X1_part 137 = aLdA 0 138 := (y_X1_part_6 19).trans rfl
theorem y_X1_part_7 (n : Nat) : nth t_X1_part (n + 138) = nth t_X1_part_c7 n := (y_X1_part_6 (n + 20)).trans rfl
theorem n_X1_part_138 : nth t_X1_part 138 = aLdI 2 139 := (y_X1_part_7 0).trans rfl
theorem n_X1_part_139 : nth t_X1_part 139 = aCalV 68 1 142 [0] none := (y_X1_part_7 1).trans rfl
theorem n_X1_part_142 : nth t_X1_part 142 = aAstI 143 := (y_X1_part_7 4).trans rfl
theorem n_X1_part_143 : nth t_X1_part 143 = aLdA 0 144 := (y_X1_part_7 5).trans rfl
theorem n_X1_part_144 : nth t_X1_part 144 = aDup 145 := (y_X1_part_7 6).trans rfl
theorem n_X1_part_145 : nth t_X1_part 145 = aGetI 18 [0] 148 := (y_X1_part_7 7).trans rfl
theorem n_X1_part_148 : nth t_X1_part 148 = aK (.int 1) 149 := (y_X1_part_7 10).trans rfl
theorem n_X1_part_149 : nth t_X1_part 149 = aB (fun x y => x + y) 150 := (y_X1_part_7 11).trans rfl
theorem n_X1_part_150 : nth t_X1_part 150 = aPutI 18 [0] 153 := (y_X1_part_7 12).trans rfl
theorem n_X1_part_153 : nth t_X1_part 153 = aLdI 2 154 := (y_X1_part_7 15).trans rfl
theorem n_X1_part_154 : nth t_X1_part 154 = aLdA 0 155 := (y_X1_part_7 16).trans rfl
theorem n_X1_part_155 : nth t_X1_part 155 = aGetR 16 [0] 158 := (y_X1_part_7 17).trans rfl
theorem y_X1_part_8 (n : Nat) : nth t_X1_part (n + 158) = nth t_X1_part_c8 n := (y_X1_part_7 (n + 20)).trans rfl
theorem n_X1_part_158 : nth t_X1_part 158 = aLdA 0 159 := (y_X1_part_8 0).trans rfl
theorem n_X1_part_159 : nth t_X1_part 159 = aGetI 18 [0] 162 := (y_X1_part_8 1).trans rfl
theorem n_X1_part_162 : nth t_X1_part 162 = aK (.int 1) 163 := (y_X1_part_8 4).trans rfl
theorem n_X1_part_163 : nth t_X1_part 163 = aB (fun x y => x - y) 164 := (y_X1_part_8 5).trans rfl
theorem n_X1_part_164 : nth t_X1_part 164 = aAldI 165 := (y_X1_part_8 6).trans rfl
theorem n_X1_part_165 : nth t_X1_part 165 = aK (.int (-1)) 166 := (y_X1_part_8 7).trans rfl
theorem n_X1_part_166 : nth t_X1_part 166 = aB (fun x y => x ^^^ y) 167 := (y_X1_part_8 8).trans rfl
theorem n_X1_part_167 : nth t_X1_part 167 = aB (fun x y => x &&& y) 168 := (y_X1_part_8 9).trans rfl
theorem n_X1_part_168 : nth t_X1_part 168 = aStI 2 169 := (y_X1_part_8 10).trans rfl
theorem n_X1_part_169 : nth t_X1_part 169 = aGoto 125 := (y_X1_part_8 11).trans rfl
theorem n_X1_part_172 : nth t_X1_part 172 = aRetV := (y_X1_part_8 14).trans rfl
theorem n_X1_firstRun_0 : nth t_X1_firstRun 0 = aLdI 1 1 := rfl
theorem n_X1_firstRun_1 : nth t_X1_firstRun 1 = aLdI 1 2 := rfl
theorem n_X1_firstRun_2 : nth t_X1_firstRun 2 = aU (fun x => -x) 3 := rfl
theorem n_X1_firstRun_3 : nth t_X1_firstRun 3 = aB (fun x y => x &&& y) 4 := rfl
theorem n_X1_firstRun_4 : nth t_X1_firstRun 4 = aStI 2 5 := rfl
theorem n_X1_firstRun_5 : nth t_X1_firstRun 5 = aK (.int 0) 6 := rfl
theorem n_X1_firstRun_6 : nth t_X1_firstRun 6 = aStI 3 7 := rfl
theorem n_X1_firstRun_7 : nth t_X1_firstRun 7 = aK (.int 1) 8 := rfl
theorem n_X1_firstRun_8 : nth t_X1_firstRun 8 = aStI 4 10 := rfl
theorem n_X1_firstRun_10 : nth t_X1_firstRun 10 = aLdI 4 12 := rfl
theorem n_X1_firstRun_12 : nth t_X1_firstRun 12 = aLdI 1 13 := rfl
theorem n_X1_firstRun_13 : nth t_X1_firstRun 13 = aIcLe 16 97 := rfl
theorem y_X1_firstRun_1 (n : Nat) : nth t_X1_firstRun (n + 16) = nth t_X1_firstRun_c1 n := rfl
theorem n_X1_firstRun_16 : nth t_X1_firstRun 16 = aLdI 4 18 := (y_X1_firstRun_1 0).trans rfl
theorem n_X1_firstRun_18 : nth t_X1_firstRun 18 = aLdI 1 19 := (y_X1_firstRun_1 2).trans rfl
theorem n_X1_firstRun_19 : nth t_X1_firstRun 19 = aK (.int (-1)) 20 := (y_X1_firstRun_1 3).trans rfl
theorem n_X1_firstRun_20 : nth t_X1_firstRun 20 = aB (fun x y => x ^^^ y) 21 := (y_X1_firstRun_1 4).trans rfl
theorem n_X1_firstRun_21 : nth t_X1_firstRun 21 = aB (fun x y => x &&& y) 22 := (y_X1_firstRun_1 5).trans rfl
theorem n_X1_firstRun_22 : nth t_X1_firstRun 22 = aIfEq 25 91 := (y_X1_firstRun_1 6).trans rfl
theorem n_X1_firstRun_25 : nth t_X1_firstRun 25 = aLdI 4 27 := (y_X1_firstRun_1 9).trans rfl
theorem n_X1_firstRun_27 : nth t_X1_firstRun 27 = aLdI 2 28 := (y_X1_firstRun_1 11).trans rfl
theorem n_X1_firstRun_28 : nth t_X1_firstRun 28 = aB (fun x y => x &&& y) 29 := (y_X1_firstRun_1 12).trans rfl
theorem n_X1_firstRun_29 : nth t_X1_firstRun 29 = aIfEq 91 32 := (y_X1_firstRun_1 13).trans rfl
theorem n_X1_firstRun_32 : nth t_X1_firstRun 32 = aLdA 0 33 := (y_X1_firstRun_1 16).trans rfl
theorem n_X1_firstRun_33 : nth t_X1_firstRun 33 = aGetR 17 [0] 36 := (y_X1_firstRun_1 17).trans rfl
theorem y_X1_firstRun_2 (n : Nat) : nth t_X1_firstRun (n + 36) = nth t_X1_firstRun_c2 n := (y_X1_firstRun_1 (n + 20)).trans rfl
theorem n_X1_firstRun_36 : nth t_X1_firstRun 36 = aLdI 4 38 := (y_X1_firstRun_2 0).trans rfl
theorem n_X1_firstRun_38 : nth t_X1_firstRun 38 = aAldB 39 := (y_X1_firstRun_2 2).trans rfl
theorem n_X1_firstRun_39 : nth t_X1_firstRun 39 = aIfEq 91 42 := (y_X1_firstRun_2 3).trans rfl
theorem n_X1_firstRun_42 : nth t_X1_firstRun 42 = aLdA 0 43 := (y_X1_firstRun_2 6).trans rfl
theorem n_X1_firstRun_43 : nth t_X1_firstRun 43 = aGetR 15 [0] 46 := (y_X1_firstRun_2 7).trans rfl
theorem n_X1_firstRun_46 : nth t_X1_firstRun 46 = aLdI 1 47 := (y_X1_firstRun_2 10).trans rfl
theorem n_X1_firstRun_47 : nth t_X1_firstRun 47 = aLdI 4 49 := (y_X1_firstRun_2 11).trans rfl
theorem n_X1_firstRun_49 : nth t_X1_firstRun 49 = aK (.int (-1)) 50 := (y_X1_firstRun_2 13).trans rfl
theorem n_X1_firstRun_50 : nth t_X1_firstRun 50 = aB (fun x y => x ^^^ y) 51 := (y_X1_firstRun_2 14).trans rfl
theorem n_X1_firstRun_51 : nth t_X1_firstRun 51 = aB (fun x y => x &&& y) 52 := (y_X1_firstRun_2 15).trans rfl
theorem n_X1_firstRun_52 : nth t_X1_firstRun 52 = aAldI 53 := (y_X1_firstRun_2 16).trans rfl
theorem n_X1_firstRun_53 : nth t_X1_firstRun 53 = aK (.int (-1)) 54 := (y_X1_firstRun_2 17).trans rfl
theorem y_X1_firstRun_3 (n : Nat) : nth t_X1_firstRun (n + 54) = nth t_X1_firstRun_c3 n := (y_X1_firstRun_2 (n + 18)).trans rfl
theorem n_X1_firstRun_54 : nth t_X1_firstRun 54 = aIcEq 57 60 := (y_X1_firstRun_3 0).trans rfl
theorem n_X1_firstRun_57 : nth t_X1_firstRun 57 = aGoto 91 := (y_X1_firstRun_3 3).trans rfl
theorem n_X1_firstRun_60 : nth t_X1_firstRun 60 = aLdI 3 61 := (y_X1_firstRun_3 6).trans rfl
theorem n_X1_firstRun_61 : nth t_X1_firstRun 61 = aIfEq 88 64 := (y_X1_firstRun_3 7).trans rfl
theorem n_X1_firstRun_64 : nth t_X1_firstRun 64 = aLdA 0 65 := (y_X1_firstRun_3 10).trans rfl
theorem n_X1_firstRun_65 : nth t_X1_firstRun 65 = aGetR 15 [0] 68 := (y_X1_firstRun_3 11).trans rfl
theorem n_X1_firstRun_68 : nth t_X1_firstRun 68 = aLdI 1 69 := (y_X1_firstRun_3 14).trans rfl
theorem n_X1_firstRun_69 : nth t_X1_firstRun 69 = aLdI 4 71 := (y_X1_firstRun_3 15).trans rfl
theorem n_X1_firstRun_71 : nth t_X1_firstRun 71 = aK (.int (-1)) 72 := (y_X1_firstRun_3 17).trans rfl
theorem n_X1_firstRun_72 : nth t_X1_firstRun 72 = aB (fun x y => x ^^^ y) 73 := (y_X1_firstRun_3 18).trans rfl
theorem n_X1_firstRun_73 : nth t_X1_firstRun 73 = aB (fun x y => x &&& y) 74 := (y_X1_firstRun_3 19).trans rfl
theorem n_X1_firstRun_74 : nth t_X1_firstRun 74 = aAldI 75 := (y_X1_firstRun_3 20).trans rfl
theorem y_X1_firstRun_4 (n : Nat) : nth t_X1_firstRun (n + 75) = nth t_X1_firstRun_c4 n := (y_X1_firstRun_3 (n + 21)).trans rfl
theorem n_X1_firstRun_75 : nth t_X1_firstRun 75 = aLdA 0 76 := (y_X1_firstRun_4 0).trans rfl
theorem n_X1_firstRun_76 : nth t_X1_firstRun 76 = aGetR 15 [0] 79 := (y_X1_firstRun_4 1).trans rfl
theorem n_X1_firstRun_79 : nth t_X1_firstRun 79 = aLdI 1 80 := (y_X1_firstRun_4 4).trans rfl
theorem n_X1_firstRun_80 : nth t_X1_firstRun 80 = aLdI 3 81 := (y_X1_firstRun_4 5).trans rfl
theorem n_X1_firstRun_81 : nth t_X1_firstRun 81 = aK (.int (-1)) 82 := (y_X1_firstRun_4 6).trans rfl
theorem n_X1_firstRun_82 : nth t_X1_firstRun 82 = aB (fun x y => x ^^^ y) 83 := (y_X1_firstRun_4 7).trans rfl
theorem n_X1_firstRun_83 : nth t_X1_firstRun 83 = aB (fun x y => x &&& y) 84 := (y_X1_firstRun_4 8).trans rfl
theorem n_X1_firstRun_84 : nth t_X1_firstRun 84 = aAldI 85 := (y_X1_firstRun_4 9).trans rfl
theorem n_X1_firstRun_85 : nth t_X1_firstRun 85 = aIcLt 88 91 := (y_X1_firstRun_4 10).trans rfl
theorem n_X1_firstRun_88 : nth t_X1_firstRun 88 = aLdI 4 90 := (y_X1_firstRun_4 13).trans rfl
theorem n_X1_firstRun_90 : nth t_X1_firstRun 90 = aStI 3 91 := (y_X1_firstRun_4 15).trans rfl
theorem n_X1_firstRun_91 : nth t_X1_firstRun 91 = aInc 4 1 94 := (y_X1_firstRun_4 16).trans rfl
theorem y_X1_firstRun_5 (n : Nat) : nth t_X1_firstRun (n + 94) = nth t_X1_firstRun_c5 n := (y_X1_firstRun_4 (n + 19)).trans rfl
theorem n_X1_firstRun_94 : nth t_X1_firstRun 94 = aGoto 10 := (y_X1_firstRun_5 0).trans rfl
theorem n_X1_firstRun_97 : nth t_X1_firstRun 97 = aLdI 3 98 := (y_X1_firstRun_5 3).trans rfl
theorem n_X1_firstRun_98 : nth t_X1_firstRun 98 = aRetI := (y_X1_firstRun_5 4).trans rfl
theorem n_X1_runs_0 : nth t_X1_runs 0 = aLdA 0 1 := rfl
theorem n_X1_runs_1 : nth t_X1_runs 1 = aGetI 18 [0] 4 := rfl
theorem n_X1_runs_4 : nth t_X1_runs 4 = aRetI := rfl
theorem n_X1_wants_0 : nth t_X1_wants 0 = aLdA 0 1 := rfl
theorem n_X1_wants_1 : nth t_X1_wants 1 = aLdI 1 2 := rfl
theorem n_X1_wants_2 : nth t_X1_wants 2 = aCalV 71 1 5 [0] none := rfl
theorem n_X1_wants_5 : nth t_X1_wants 5 = aIfEq 17 8 := rfl
theorem n_X1_wants_8 : nth t_X1_wants 8 = aLdA 0 9 := rfl
theorem n_X1_wants_9 : nth t_X1_wants 9 = aGetR 16 [0] 12 := rfl
theorem n_X1_wants_12 : nth t_X1_wants 12 = aLdI 1 13 := rfl
theorem n_X1_wants_13 : nth t_X1_wants 13 = aAldI 14 := rfl
theorem n_X1_wants_14 : nth t_X1_wants 14 = aGoto 18 := rfl
theorem n_X1_wants_17 : nth t_X1_wants 17 = aK (.int (-1)) 18 := rfl
theorem n_X1_wants_18 : nth t_X1_wants 18 = aRetI := rfl
theorem n_X1_isRun_0 : nth t_X1_isRun 0 = aLdI 1 1 := rfl
theorem n_X1_isRun_1 : nth t_X1_isRun 1 = aK (.int 0) 2 := rfl
theorem n_X1_isRun_2 : nth t_X1_isRun 2 = aLdA 0 3 := rfl
theorem n_X1_isRun_3 : nth t_X1_isRun 3 = aGetI 18 [0] 6 := rfl
theorem n_X1_isRun_6 : nth t_X1_isRun 6 = aK (.int 1) 7 := rfl
theorem n_X1_isRun_7 : nth t_X1_isRun 7 = aB (fun x y => x - y) 8 := rfl
theorem n_X1_isRun_8 : nth t_X1_isRun 8 = aCalS 43 3 11 none := rfl
theorem n_X1_isRun_11 : nth t_X1_isRun 11 = aRetZ := rfl
theorem n_X1_make_0 : nth t_X1_make 0 = aLdA 0 1 := rfl
theorem n_X1_make_1 : nth t_X1_make 1 = aLdI 1 2 := rfl
theorem n_X1_make_2 : nth t_X1_make 2 = aCalV 71 1 5 [0] none := rfl
theorem n_X1_make_5 : nth t_X1_make 5 = aIfEq 8 10 := rfl
theorem n_X1_make_8 : nth t_X1_make 8 = aK (.int (-1)) 9 := rfl
theorem n_X1_make_9 : nth t_X1_make 9 = aRetI := rfl
theorem n_X1_make_10 : nth t_X1_make 10 = aLdA 0 11 := rfl
theorem n_X1_make_11 : nth t_X1_make 11 = aNew 10 7 14 := rfl
theorem n_X1_make_14 : nth t_X1_make 14 = aDup 15 := rfl
theorem n_X1_make_15 : nth t_X1_make 15 = aLdA 0 16 := rfl
theorem n_X1_make_16 : nth t_X1_make 16 = aGetR 14 [0] 19 := rfl
theorem n_X1_make_19 : nth t_X1_make 19 = aCalI 108 1 22 none := rfl
theorem y_X1_make_1 (n : Nat) : nth t_X1_make (n + 22) = nth t_X1_make_c1 n := rfl
theorem n_X1_make_22 : nth t_X1_make 22 = aLdA 0 23 := (y_X1_make_1 0).trans rfl
theorem n_X1_make_23 : nth t_X1_make 23 = aGetR 16 [0] 26 := (y_X1_make_1 1).trans rfl
theorem n_X1_make_26 : nth t_X1_make 26 = aLdI 1 27 := (y_X1_make_1 4).trans rfl
theorem n_X1_make_27 : nth t_X1_make 27 = aAldI 28 := (y_X1_make_1 5).trans rfl
theorem n_X1_make_28 : nth t_X1_make 28 = aCalV 109 1 31 [10] none := (y_X1_make_1 6).trans rfl
theorem n_X1_make_31 : nth t_X1_make 31 = aPutR 4 [0] 34 := (y_X1_make_1 9).trans rfl
theorem n_X1_make_34 : nth t_X1_make 34 = aLdA 0 35 := (y_X1_make_1 12).trans rfl
theorem n_X1_make_35 : nth t_X1_make 35 = aGetR 4 [0] 38 := (y_X1_make_1 13).trans rfl
theorem n_X1_make_38 : nth t_X1_make 38 = aGetI 2 [1] 41 := (y_X1_make_1 16).trans rfl
theorem n_X1_make_41 : nth t_X1_make 41 = aRetI := (y_X1_make_1 19).trans rfl
theorem n_X1_wanted_0 : nth t_X1_wanted 0 = aLdI 1 1 := rfl
theorem n_X1_wanted_1 : nth t_X1_wanted 1 = aCalS 42 1 4 none := rfl
theorem n_X1_wanted_4 : nth t_X1_wanted 4 = aIfEq 15 7 := rfl
theorem n_X1_wanted_7 : nth t_X1_wanted 7 = aLdA 0 8 := rfl
theorem n_X1_wanted_8 : nth t_X1_wanted 8 = aLdI 2 9 := rfl
theorem n_X1_wanted_9 : nth t_X1_wanted 9 = aCalV 71 1 12 [0] none := rfl
theorem n_X1_wanted_12 : nth t_X1_wanted 12 = aIfEq 15 17 := rfl
theorem n_X1_wanted_15 : nth t_X1_wanted 15 = aK (.int (-1)) 16 := rfl
theorem n_X1_wanted_16 : nth t_X1_wanted 16 = aRetI := rfl
theorem n_X1_wanted_17 : nth t_X1_wanted 17 = aLdA 0 18 := rfl
theorem n_X1_wanted_18 : nth t_X1_wanted 18 = aLdA 0 19 := rfl
theorem n_X1_wanted_19 : nth t_X1_wanted 19 = aGetR 3 [0] 22 := rfl
theorem y_X1_wanted_1 (n : Nat) : nth t_X1_wanted (n + 22) = nth t_X1_wanted_c1 n := rfl
theorem n_X1_wanted_22 : nth t_X1_wanted 22 = aLdI 1 23 := (y_X1_wanted_1 0).trans rfl
theorem n_X1_wanted_23 : nth t_X1_wanted 23 = aAldA 24 := (y_X1_wanted_1 1).trans rfl
theorem n_X1_wanted_24 : nth t_X1_wanted 24 = aLdI 2 25 := (y_X1_wanted_1 2).trans rfl
theorem n_X1_wanted_25 : nth t_X1_wanted 25 = aLdA 0 26 := (y_X1_wanted_1 3).trans rfl
theorem n_X1_wanted_26 : nth t_X1_wanted 26 = aGetR 19 [0] 29 := (y_X1_wanted_1 4).trans rfl
theorem n_X1_wanted_29 : nth t_X1_wanted 29 = aCalV 74 3 32 [0] none := (y_X1_wanted_1 7).trans rfl
theorem n_X1_wanted_32 : nth t_X1_wanted 32 = aLdA 0 33 := (y_X1_wanted_1 10).trans rfl
theorem n_X1_wanted_33 : nth t_X1_wanted 33 = aK (.int 60) 35 := (y_X1_wanted_1 11).trans rfl
theorem n_X1_wanted_35 : nth t_X1_wanted 35 = aLdA 0 36 := (y_X1_wanted_1 13).trans rfl
theorem n_X1_wanted_36 : nth t_X1_wanted 36 = aGetR 19 [0] 39 := (y_X1_wanted_1 14).trans rfl
theorem n_X1_wanted_39 : nth t_X1_wanted 39 = aGetI 3 [3] 42 := (y_X1_wanted_1 17).trans rfl
theorem n_X1_wanted_42 : nth t_X1_wanted 42 = aMin 45 := (y_X1_wanted_1 20).trans rfl
theorem y_X1_wanted_2 (n : Nat) : nth t_X1_wanted (n + 45) = nth t_X1_wanted_c2 n := (y_X1_wanted_1 (n + 23)).trans rfl
theorem n_X1_wanted_45 : nth t_X1_wanted 45 = aPutI 20 [0] 48 := (y_X1_wanted_2 0).trans rfl
theorem n_X1_wanted_48 : nth t_X1_wanted 48 = aLdA 0 49 := (y_X1_wanted_2 3).trans rfl
theorem n_X1_wanted_49 : nth t_X1_wanted 49 = aGetI 20 [0] 52 := (y_X1_wanted_2 4).trans rfl
theorem n_X1_wanted_52 : nth t_X1_wanted 52 = aRetI := (y_X1_wanted_2 7).trans rfl
theorem n_X1_want_0 : nth t_X1_want 0 = aLdA 3 1 := rfl
theorem n_X1_want_1 : nth t_X1_want 1 = aCalV 137 0 4 [3] none := rfl
theorem n_X1_want_4 : nth t_X1_want 4 = aK (.int 8) 6 := rfl
theorem n_X1_want_6 : nth t_X1_want 6 = aNewA 100 8 := rfl
theorem n_X1_want_8 : nth t_X1_want 8 = aStA 4 10 := rfl
theorem n_X1_want_10 : nth t_X1_want 10 = aK (.int 0) 11 := rfl
theorem n_X1_want_11 : nth t_X1_want 11 = aStI 5 13 := rfl
theorem n_X1_want_13 : nth t_X1_want 13 = aLdI 5 15 := rfl
theorem n_X1_want_15 : nth t_X1_want 15 = aLdA 1 16 := rfl
theorem n_X1_want_16 : nth t_X1_want 16 = aGetI 1 [5] 19 := rfl
theorem n_X1_want_19 : nth t_X1_want 19 = aIcLt 22 146 := rfl
theorem n_X1_want_22 : nth t_X1_want 22 = aK (.int 0) 23 := rfl
theorem y_X1_want_1 (n : Nat) : nth t_X1_want (n + 23) = nth t_X1_want_c1 n := rfl
theorem n_X1_want_23 : nth t_X1_want 23 = aStI 6 25 := (y_X1_want_1 0).trans rfl
theorem n_X1_want_25 : nth t_X1_want 25 = aLdI 6 27 := (y_X1_want_1 2).trans rfl
theorem n_X1_want_27 : nth t_X1_want 27 = aLdA 0 28 := (y_X1_want_1 4).trans rfl
theorem n_X1_want_28 : nth t_X1_want 28 = aGetR 14 [0] 31 := (y_X1_want_1 5).trans rfl
theorem n_X1_want_31 : nth t_X1_want 31 = aGetI 9 [4] 34 := (y_X1_want_1 8).trans rfl
theorem n_X1_want_34 : nth t_X1_want 34 = aIcLt 37 74 := (y_X1_want_1 11).trans rfl
theorem n_X1_want_37 : nth t_X1_want 37 = aLdA 4 39 := (y_X1_want_1 14).trans rfl
theorem n_X1_want_39 : nth t_X1_want 39 = aLdI 6 41 := (y_X1_want_1 16).trans rfl
theorem n_X1_want_41 : nth t_X1_want 41 = aLdA 4 43 := (y_X1_want_1 18).trans rfl
theorem n_X1_want_43 : nth t_X1_want 43 = aLdI 6 45 := (y_X1_want_1 20).trans rfl
theorem n_X1_want_45 : nth t_X1_want 45 = aAldI 46 := (y_X1_want_1 22).trans rfl
theorem n_X1_want_46 : nth t_X1_want 46 = aLdA 0 47 := (y_X1_want_1 23).trans rfl
theorem y_X1_want_2 (n : Nat) : nth t_X1_want (n + 47) = nth t_X1_want_c2 n := (y_X1_want_1 (n + 24)).trans rfl
theorem n_X1_want_47 : nth t_X1_want 47 = aGetR 14 [0] 50 := (y_X1_want_2 0).trans rfl
theorem n_X1_want_50 : nth t_X1_want 50 = aLdI 6 52 := (y_X1_want_2 3).trans rfl
theorem n_X1_want_52 : nth t_X1_want 52 = aLdA 1 53 := (y_X1_want_2 5).trans rfl
theorem n_X1_want_53 : nth t_X1_want 53 = aGetR 0 [5] 56 := (y_X1_want_2 6).trans rfl
theorem n_X1_want_56 : nth t_X1_want 56 = aLdI 5 58 := (y_X1_want_2 9).trans rfl
theorem n_X1_want_58 : nth t_X1_want 58 = aAldA 59 := (y_X1_want_2 11).trans rfl
theorem n_X1_want_59 : nth t_X1_want 59 = aCalV 143 2 62 [4] none := (y_X1_want_2 12).trans rfl
theorem n_X1_want_62 : nth t_X1_want 62 = aB (fun x y => x + y) 63 := (y_X1_want_2 15).trans rfl
theorem n_X1_want_63 : nth t_X1_want 63 = aK (.int 1000000) 66 := (y_X1_want_2 16).trans rfl
theorem n_X1_want_66 : nth t_X1_want 66 = aRem 67 := (y_X1_want_2 19).trans rfl
theorem n_X1_want_67 : nth t_X1_want 67 = aAstI 68 := (y_X1_want_2 20).trans rfl
theorem n_X1_want_68 : nth t_X1_want 68 = aInc 6 1 71 := (y_X1_want_2 21).trans rfl
theorem y_X1_want_3 (n : Nat) : nth t_X1_want (n + 71) = nth t_X1_want_c3 n := (y_X1_want_2 (n + 24)).trans rfl
theorem n_X1_want_71 : nth t_X1_want 71 = aGoto 25 := (y_X1_want_3 0).trans rfl
theorem n_X1_want_74 : nth t_X1_want 74 = aLdA 0 75 := (y_X1_want_3 3).trans rfl
theorem n_X1_want_75 : nth t_X1_want 75 = aGetR 14 [0] 78 := (y_X1_want_3 4).trans rfl
theorem n_X1_want_78 : nth t_X1_want 78 = aLdA 1 79 := (y_X1_want_3 7).trans rfl
theorem n_X1_want_79 : nth t_X1_want 79 = aGetR 0 [5] 82 := (y_X1_want_3 8).trans rfl
theorem n_X1_want_82 : nth t_X1_want 82 = aLdI 5 84 := (y_X1_want_3 11).trans rfl
theorem n_X1_want_84 : nth t_X1_want 84 = aAldA 85 := (y_X1_want_3 13).trans rfl
theorem n_X1_want_85 : nth t_X1_want 85 = aLdI 5 87 := (y_X1_want_3 14).trans rfl
theorem n_X1_want_87 : nth t_X1_want 87 = aK (.int 1) 88 := (y_X1_want_3 16).trans rfl
theorem n_X1_want_88 : nth t_X1_want 88 = aB (fun x y => x + y) 89 := (y_X1_want_3 17).trans rfl
theorem n_X1_want_89 : nth t_X1_want 89 = aLdA 1 90 := (y_X1_want_3 18).trans rfl
theorem n_X1_want_90 : nth t_X1_want 90 = aGetI 1 [5] 93 := (y_X1_want_3 19).trans rfl
theorem y_X1_want_4 (n : Nat) : nth t_X1_want (n + 93) = nth t_X1_want_c4 n := (y_X1_want_3 (n + 22)).trans rfl
theorem n_X1_want_93 : nth t_X1_want 93 = aIcLt 96 108 := (y_X1_want_4 0).trans rfl
theorem n_X1_want_96 : nth t_X1_want 96 = aLdA 1 97 := (y_X1_want_4 3).trans rfl
theorem n_X1_want_97 : nth t_X1_want 97 = aGetR 0 [5] 100 := (y_X1_want_4 4).trans rfl
theorem n_X1_want_100 : nth t_X1_want 100 = aLdI 5 102 := (y_X1_want_4 7).trans rfl
theorem n_X1_want_102 : nth t_X1_want 102 = aK (.int 1) 103 := (y_X1_want_4 9).trans rfl
theorem n_X1_want_103 : nth t_X1_want 103 = aB (fun x y => x + y) 104 := (y_X1_want_4 10).trans rfl
theorem n_X1_want_104 : nth t_X1_want 104 = aAldA 105 := (y_X1_want_4 11).trans rfl
theorem n_X1_want_105 : nth t_X1_want 105 = aGoto 109 := (y_X1_want_4 12).trans rfl
theorem n_X1_want_108 : nth t_X1_want 108 = aK .null 109 := (y_X1_want_4 15).trans rfl
theorem n_X1_want_109 : nth t_X1_want 109 = aCalV 144 2 112 [4] none := (y_X1_want_4 16).trans rfl
theorem n_X1_want_112 : nth t_X1_want 112 = aStI 6 114 := (y_X1_want_4 19).trans rfl
theorem n_X1_want_114 : nth t_X1_want 114 = aK (.int 1) 115 := (y_X1_want_4 21).trans rfl
theorem y_X1_want_5 (n : Nat) : nth t_X1_want (n + 115) = nth t_X1_want_c5 n := (y_X1_want_4 (n + 22)).trans rfl
theorem n_X1_want_115 : nth t_X1_want 115 = aStI 7 117 := (y_X1_want_5 0).trans rfl
theorem n_X1_want_117 : nth t_X1_want 117 = aLdI 7 119 := (y_X1_want_5 2).trans rfl
theorem n_X1_want_119 : nth t_X1_want 119 = aLdI 6 121 := (y_X1_want_5 4).trans rfl
theorem n_X1_want_121 : nth t_X1_want 121 = aIcLe 124 140 := (y_X1_want_5 6).trans rfl
theorem n_X1_want_124 : nth t_X1_want 124 = aLdA 0 125 := (y_X1_want_5 9).trans rfl
theorem n_X1_want_125 : nth t_X1_want 125 = aLdI 7 127 := (y_X1_want_5 10).trans rfl
theorem n_X1_want_127 : nth t_X1_want 127 = aLdI 2 128 := (y_X1_want_5 12).trans rfl
theorem n_X1_want_128 : nth t_X1_want 128 = aLdA 4 130 := (y_X1_want_5 13).trans rfl
theorem n_X1_want_130 : nth t_X1_want 130 = aLdA 3 131 := (y_X1_want_5 15).trans rfl
theorem n_X1_want_131 : nth t_X1_want 131 = aCalV 75 4 134 [0] none := (y_X1_want_5 16).trans rfl
theorem n_X1_want_134 : nth t_X1_want 134 = aInc 7 1 137 := (y_X1_want_5 19).trans rfl
theorem n_X1_want_137 : nth t_X1_want 137 = aGoto 117 := (y_X1_want_5 22).trans rfl
theorem y_X1_want_6 (n : Nat) : nth t_X1_want (n + 140) = nth t_X1_want_c6 n := (y_X1_want_5 (n + 25)).trans rfl
theorem n_X1_want_140 : nth t_X1_want 140 = aInc 5 1 143 := (y_X1_want_6 0).trans rfl
theorem n_X1_want_143 : nth t_X1_want 143 = aGoto 13 := (y_X1_want_6 3).trans rfl
theorem n_X1_want_146 : nth t_X1_want 146 = aRetV := (y_X1_want_6 6).trans rfl
theorem n_X1_total_0 : nth t_X1_total 0 = aK (.int 0) 1 := rfl
theorem n_X1_total_1 : nth t_X1_total 1 = aStI 5 3 := rfl
theorem n_X1_total_3 : nth t_X1_total 3 = aK (.int 12) 5 := rfl
theorem n_X1_total_5 : nth t_X1_total 5 = aNewA 101 7 := rfl
theorem n_X1_total_7 : nth t_X1_total 7 = aStA 6 9 := rfl
theorem n_X1_total_9 : nth t_X1_total 9 = aLdA 6 11 := rfl
theorem n_X1_total_11 : nth t_X1_total 11 = aK (.int 15) 13 := rfl
theorem n_X1_total_13 : nth t_X1_total 13 = aCalS 5 2 16 none := rfl
theorem n_X1_total_16 : nth t_X1_total 16 = aK (.int 0) 17 := rfl
theorem n_X1_total_17 : nth t_X1_total 17 = aStI 7 19 := rfl
theorem n_X1_total_19 : nth t_X1_total 19 = aK (.int 0) 20 := rfl
theorem n_X1_total_20 : nth t_X1_total 20 = aStI 8 22 := rfl
theorem y_X1_total_1 (n : Nat) : nth t_X1_total (n + 22) = nth t_X1_total_c1 n := rfl
theorem n_X1_total_22 : nth t_X1_total 22 = aLdI 8 24 := (y_X1_total_1 0).trans rfl
theorem n_X1_total_24 : nth t_X1_total 24 = aLdA 0 25 := (y_X1_total_1 2).trans rfl
theorem n_X1_total_25 : nth t_X1_total 25 = aGetR 14 [0] 28 := (y_X1_total_1 3).trans rfl
theorem n_X1_total_28 : nth t_X1_total 28 = aGetI 9 [4] 31 := (y_X1_total_1 6).trans rfl
theorem n_X1_total_31 : nth t_X1_total 31 = aIcLt 34 161 := (y_X1_total_1 9).trans rfl
theorem n_X1_total_34 : nth t_X1_total 34 = aLdA 0 35 := (y_X1_total_1 12).trans rfl
theorem n_X1_total_35 : nth t_X1_total 35 = aGetR 16 [0] 38 := (y_X1_total_1 13).trans rfl
theorem n_X1_total_38 : nth t_X1_total 38 = aLdI 2 39 := (y_X1_total_1 16).trans rfl
theorem n_X1_total_39 : nth t_X1_total 39 = aAldI 40 := (y_X1_total_1 17).trans rfl
theorem n_X1_total_40 : nth t_X1_total 40 = aLdI 8 42 := (y_X1_total_1 18).trans rfl
theorem n_X1_total_42 : nth t_X1_total 42 = aB (fun x y => x >>> (y &&& 31)) 43 := (y_X1_total_1 20).trans rfl
theorem n_X1_total_43 : nth t_X1_total 43 = aK (.int 1) 44 := (y_X1_total_1 21).trans rfl
theorem y_X1_total_2 (n : Nat) : nth t_X1_total (n + 44) = nth t_X1_total_c2 n := (y_X1_total_1 (n + 22)).trans rfl
theorem n_X1_total_44 : nth t_X1_total 44 = aB (fun x y => x &&& y) 45 := (y_X1_total_2 0).trans rfl
theorem n_X1_total_45 : nth t_X1_total 45 = aIfEq 48 51 := (y_X1_total_2 1).trans rfl
theorem n_X1_total_48 : nth t_X1_total 48 = aGoto 155 := (y_X1_total_2 4).trans rfl
theorem n_X1_total_51 : nth t_X1_total 51 = aLdA 0 52 := (y_X1_total_2 7).trans rfl
theorem n_X1_total_52 : nth t_X1_total 52 = aGetR 14 [0] 55 := (y_X1_total_2 8).trans rfl
theorem n_X1_total_55 : nth t_X1_total 55 = aGetR 6 [4] 58 := (y_X1_total_2 11).trans rfl
theorem n_X1_total_58 : nth t_X1_total 58 = aLdI 8 60 := (y_X1_total_2 14).trans rfl
theorem n_X1_total_60 : nth t_X1_total 60 = aAldI 61 := (y_X1_total_2 16).trans rfl
theorem n_X1_total_61 : nth t_X1_total 61 = aLdI 1 62 := (y_X1_total_2 17).trans rfl
theorem n_X1_total_62 : nth t_X1_total 62 = aIcEq 65 140 := (y_X1_total_2 18).trans rfl
theorem n_X1_total_65 : nth t_X1_total 65 = aK (.int 1) 66 := (y_X1_total_2 21).trans rfl
theorem n_X1_total_66 : nth t_X1_total 66 = aStI 5 68 := (y_X1_total_2 22).trans rfl
theorem y_X1_total_3 (n : Nat) : nth t_X1_total (n + 68) = nth t_X1_total_c3 n := (y_X1_total_2 (n + 24)).trans rfl
theorem n_X1_total_68 : nth t_X1_total 68 = aLdA 3 69 := (y_X1_total_3 0).trans rfl
theorem n_X1_total_69 : nth t_X1_total 69 = aLdI 8 71 := (y_X1_total_3 1).trans rfl
theorem n_X1_total_71 : nth t_X1_total 71 = aAldI 72 := (y_X1_total_3 3).trans rfl
theorem n_X1_total_72 : nth t_X1_total 72 = aAbs 75 := (y_X1_total_3 4).trans rfl
theorem n_X1_total_75 : nth t_X1_total 75 = aStI 9 77 := (y_X1_total_3 7).trans rfl
theorem n_X1_total_77 : nth t_X1_total 77 = aK (.int 0) 78 := (y_X1_total_3 9).trans rfl
theorem n_X1_total_78 : nth t_X1_total 78 = aStI 10 80 := (y_X1_total_3 10).trans rfl
theorem n_X1_total_80 : nth t_X1_total 80 = aLdI 10 82 := (y_X1_total_3 12).trans rfl
theorem n_X1_total_82 : nth t_X1_total 82 = aLdA 0 83 := (y_X1_total_3 14).trans rfl
theorem n_X1_total_83 : nth t_X1_total 83 = aGetR 14 [0] 86 := (y_X1_total_3 15).trans rfl
theorem n_X1_total_86 : nth t_X1_total 86 = aGetR 5 [4] 89 := (y_X1_total_3 18).trans rfl
theorem n_X1_total_89 : nth t_X1_total 89 = aLdI 8 91 := (y_X1_total_3 21).trans rfl
theorem y_X1_total_4 (n : Nat) : nth t_X1_total (n + 91) = nth t_X1_total_c4 n := (y_X1_total_3 (n + 23)).trans rfl
theorem n_X1_total_91 : nth t_X1_total 91 = aAldI 92 := (y_X1_total_4 0).trans rfl
theorem n_X1_total_92 : nth t_X1_total 92 = aIcLt 95 135 := (y_X1_total_4 1).trans rfl
theorem n_X1_total_95 : nth t_X1_total 95 = aLdA 6 97 := (y_X1_total_4 4).trans rfl
theorem n_X1_total_97 : nth t_X1_total 97 = aLdI 7 99 := (y_X1_total_4 6).trans rfl
theorem n_X1_total_99 : nth t_X1_total 99 = aLdA 0 100 := (y_X1_total_4 8).trans rfl
theorem n_X1_total_100 : nth t_X1_total 100 = aGetR 14 [0] 103 := (y_X1_total_4 9).trans rfl
theorem n_X1_total_103 : nth t_X1_total 103 = aGetR 5 [4] 106 := (y_X1_total_4 12).trans rfl
theorem n_X1_total_106 : nth t_X1_total 106 = aLdI 8 108 := (y_X1_total_4 15).trans rfl
theorem n_X1_total_108 : nth t_X1_total 108 = aAldI 109 := (y_X1_total_4 17).trans rfl
theorem n_X1_total_109 : nth t_X1_total 109 = aB (fun x y => x + y) 110 := (y_X1_total_4 18).trans rfl
theorem n_X1_total_110 : nth t_X1_total 110 = aK (.int 1) 111 := (y_X1_total_4 19).trans rfl
theorem n_X1_total_111 : nth t_X1_total 111 = aB (fun x y => x - y) 112 := (y_X1_total_4 20).trans rfl
theorem y_X1_total_5 (n : Nat) : nth t_X1_total (n + 112) = nth t_X1_total_c5 n := (y_X1_total_4 (n + 21)).trans rfl
theorem n_X1_total_112 : nth t_X1_total 112 = aLdI 10 114 := (y_X1_total_5 0).trans rfl
theorem n_X1_total_114 : nth t_X1_total 114 = aB (fun x y => x - y) 115 := (y_X1_total_5 2).trans rfl
theorem n_X1_total_115 : nth t_X1_total 115 = aLdI 9 117 := (y_X1_total_5 3).trans rfl
theorem n_X1_total_117 : nth t_X1_total 117 = aK (.int 10) 119 := (y_X1_total_5 5).trans rfl
theorem n_X1_total_119 : nth t_X1_total 119 = aRem 120 := (y_X1_total_5 7).trans rfl
theorem n_X1_total_120 : nth t_X1_total 120 = aU (fun x => x.toInt8.toInt32) 121 := (y_X1_total_5 8).trans rfl
theorem n_X1_total_121 : nth t_X1_total 121 = aAstB 122 := (y_X1_total_5 9).trans rfl
theorem n_X1_total_122 : nth t_X1_total 122 = aLdI 9 124 := (y_X1_total_5 10).trans rfl
theorem n_X1_total_124 : nth t_X1_total 124 = aK (.int 10) 126 := (y_X1_total_5 12).trans rfl
theorem n_X1_total_126 : nth t_X1_total 126 = aDiv 127 := (y_X1_total_5 14).trans rfl
theorem n_X1_total_127 : nth t_X1_total 127 = aStI 9 129 := (y_X1_total_5 15).trans rfl
theorem n_X1_total_129 : nth t_X1_total 129 = aInc 10 1 132 := (y_X1_total_5 17).trans rfl
theorem y_X1_total_6 (n : Nat) : nth t_X1_total (n + 132) = nth t_X1_total_c6 n := (y_X1_total_5 (n + 20)).trans rfl
theorem n_X1_total_132 : nth t_X1_total 132 = aGoto 80 := (y_X1_total_6 0).trans rfl
theorem n_X1_total_135 : nth t_X1_total 135 = aLdA 3 136 := (y_X1_total_6 3).trans rfl
theorem n_X1_total_136 : nth t_X1_total 136 = aLdI 8 138 := (y_X1_total_6 4).trans rfl
theorem n_X1_total_138 : nth t_X1_total 138 = aK (.int 0) 139 := (y_X1_total_6 6).trans rfl
theorem n_X1_total_139 : nth t_X1_total 139 = aAstI 140 := (y_X1_total_6 7).trans rfl
theorem n_X1_total_140 : nth t_X1_total 140 = aLdI 7 142 := (y_X1_total_6 8).trans rfl
theorem n_X1_total_142 : nth t_X1_total 142 = aLdA 0 143 := (y_X1_total_6 10).trans rfl
theorem n_X1_total_143 : nth t_X1_total 143 = aGetR 14 [0] 146 := (y_X1_total_6 11).trans rfl
theorem n_X1_total_146 : nth t_X1_total 146 = aGetR 5 [4] 149 := (y_X1_total_6 14).trans rfl
theorem n_X1_total_149 : nth t_X1_total 149 = aLdI 8 151 := (y_X1_total_6 17).trans rfl
theorem n_X1_total_151 : nth t_X1_total 151 = aAldI 152 := (y_X1_total_6 19).trans rfl
theorem n_X1_total_152 : nth t_X1_total 152 = aB (fun x y => x + y) 153 := (y_X1_total_6 20).trans rfl
theorem y_X1_total_7 (n : Nat) : nth t_X1_total (n + 153) = nth t_X1_total_c7 n := (y_X1_total_6 (n + 21)).trans rfl
theorem n_X1_total_153 : nth t_X1_total 153 = aStI 7 155 := (y_X1_total_7 0).trans rfl
theorem n_X1_total_155 : nth t_X1_total 155 = aInc 8 1 158 := (y_X1_total_7 2).trans rfl
theorem n_X1_total_158 : nth t_X1_total 158 = aGoto 22 := (y_X1_total_7 5).trans rfl
theorem n_X1_total_161 : nth t_X1_total 161 = aLdI 5 163 := (y_X1_total_7 8).trans rfl
theorem n_X1_total_163 : nth t_X1_total 163 = aIfEq 166 167 := (y_X1_total_7 10).trans rfl
theorem n_X1_total_166 : nth t_X1_total 166 = aRetV := (y_X1_total_7 13).trans rfl
theorem n_X1_total_167 : nth t_X1_total 167 = aLdA 4 169 := (y_X1_total_7 14).trans rfl
theorem n_X1_total_169 : nth t_X1_total 169 = aGetI 3 [3] 172 := (y_X1_total_7 16).trans rfl
theorem n_X1_total_172 : nth t_X1_total 172 = aK (.int 60) 174 := (y_X1_total_7 19).trans rfl
theorem n_X1_total_174 : nth t_X1_total 174 = aIcLt 177 197 := (y_X1_total_7 21).trans rfl
theorem n_X1_total_177 : nth t_X1_total 177 = aLdA 6 179 := (y_X1_total_7 24).trans rfl
theorem n_X1_total_179 : nth t_X1_total 179 = aK (.int 0) 180 := (y_X1_total_7 26).trans rfl
theorem y_X1_total_8 (n : Nat) : nth t_X1_total (n + 180) = nth t_X1_total_c8 n := (y_X1_total_7 (n + 27)).trans rfl
theorem n_X1_total_180 : nth t_X1_total 180 = aLdA 4 182 := (y_X1_total_8 0).trans rfl
theorem n_X1_total_182 : nth t_X1_total 182 = aGetR 8 [3] 185 := (y_X1_total_8 2).trans rfl
theorem n_X1_total_185 : nth t_X1_total 185 = aLdA 4 187 := (y_X1_total_8 5).trans rfl
theorem n_X1_total_187 : nth t_X1_total 187 = aGetI 3 [3] 190 := (y_X1_total_8 7).trans rfl
theorem n_X1_total_190 : nth t_X1_total 190 = aAldA 191 := (y_X1_total_8 10).trans rfl
theorem n_X1_total_191 : nth t_X1_total 191 = aK (.int 0) 192 := (y_X1_total_8 11).trans rfl
theorem n_X1_total_192 : nth t_X1_total 192 = aK (.int 12) 194 := (y_X1_total_8 12).trans rfl
theorem n_X1_total_194 : nth t_X1_total 194 = aCopy 197 := (y_X1_total_8 14).trans rfl
theorem n_X1_total_197 : nth t_X1_total 197 = aLdA 4 199 := (y_X1_total_8 17).trans rfl
theorem n_X1_total_199 : nth t_X1_total 199 = aDup 200 := (y_X1_total_8 19).trans rfl
theorem n_X1_total_200 : nth t_X1_total 200 = aGetI 3 [3] 203 := (y_X1_total_8 20).trans rfl
theorem n_X1_total_203 : nth t_X1_total 203 = aK (.int 1) 204 := (y_X1_total_8 23).trans rfl
theorem y_X1_total_9 (n : Nat) : nth t_X1_total (n + 204) = nth t_X1_total_c9 n := (y_X1_total_8 (n + 24)).trans rfl
theorem n_X1_total_204 : nth t_X1_total 204 = aB (fun x y => x + y) 205 := (y_X1_total_9 0).trans rfl
theorem n_X1_total_205 : nth t_X1_total 205 = aPutI 3 [3] 208 := (y_X1_total_9 1).trans rfl
theorem n_X1_total_208 : nth t_X1_total 208 = aRetV := (y_X1_total_9 4).trans rfl
theorem n_X1_same_0 : nth t_X1_same 0 = aLdI 1 1 := rfl
theorem n_X1_same_1 : nth t_X1_same 1 = aCalS 42 1 4 none := rfl
theorem n_X1_same_4 : nth t_X1_same 4 = aIfEq 15 7 := rfl
theorem n_X1_same_7 : nth t_X1_same 7 = aLdA 0 8 := rfl
theorem n_X1_same_8 : nth t_X1_same 8 = aLdI 2 9 := rfl
theorem n_X1_same_9 : nth t_X1_same 9 = aCalV 71 1 12 [0] none := rfl
theorem n_X1_same_12 : nth t_X1_same 12 = aIfEq 15 17 := rfl
theorem n_X1_same_15 : nth t_X1_same 15 = aK (.int (-1)) 16 := rfl
theorem n_X1_same_16 : nth t_X1_same 16 = aRetI := rfl
theorem n_X1_same_17 : nth t_X1_same 17 = aLdA 0 18 := rfl
theorem n_X1_same_18 : nth t_X1_same 18 = aLdA 0 19 := rfl
theorem n_X1_same_19 : nth t_X1_same 19 = aGetR 3 [0] 22 := rfl
theorem y_X1_same_1 (n : Nat) : nth t_X1_same (n + 22) = nth t_X1_same_c1 n := rfl
theorem n_X1_same_22 : nth t_X1_same 22 = aLdI 1 23 := (y_X1_same_1 0).trans rfl
theorem n_X1_same_23 : nth t_X1_same 23 = aAldA 24 := (y_X1_same_1 1).trans rfl
theorem n_X1_same_24 : nth t_X1_same 24 = aLdI 2 25 := (y_X1_same_1 2).trans rfl
theorem n_X1_same_25 : nth t_X1_same 25 = aLdA 0 26 := (y_X1_same_1 3).trans rfl
theorem n_X1_same_26 : nth t_X1_same 26 = aGetR 7 [0] 29 := (y_X1_same_1 4).trans rfl
theorem n_X1_same_29 : nth t_X1_same 29 = aCalV 74 3 32 [0] none := (y_X1_same_1 7).trans rfl
theorem n_X1_same_32 : nth t_X1_same 32 = aLdA 0 33 := (y_X1_same_1 10).trans rfl
theorem n_X1_same_33 : nth t_X1_same 33 = aLdA 0 34 := (y_X1_same_1 11).trans rfl
theorem n_X1_same_34 : nth t_X1_same 34 = aGetR 3 [0] 37 := (y_X1_same_1 12).trans rfl
theorem n_X1_same_37 : nth t_X1_same 37 = aLdI 1 38 := (y_X1_same_1 15).trans rfl
theorem n_X1_same_38 : nth t_X1_same 38 = aAldA 39 := (y_X1_same_1 16).trans rfl
theorem n_X1_same_39 : nth t_X1_same 39 = aK (.int (-1)) 40 := (y_X1_same_1 17).trans rfl
theorem y_X1_same_2 (n : Nat) : nth t_X1_same (n + 40) = nth t_X1_same_c2 n := (y_X1_same_1 (n + 18)).trans rfl
theorem n_X1_same_40 : nth t_X1_same 40 = aLdA 0 41 := (y_X1_same_2 0).trans rfl
theorem n_X1_same_41 : nth t_X1_same 41 = aGetR 8 [0] 44 := (y_X1_same_2 1).trans rfl
theorem n_X1_same_44 : nth t_X1_same 44 = aCalV 56 3 47 [0] none := (y_X1_same_2 4).trans rfl
theorem n_X1_same_47 : nth t_X1_same 47 = aLdA 0 48 := (y_X1_same_2 7).trans rfl
theorem n_X1_same_48 : nth t_X1_same 48 = aGetR 8 [0] 51 := (y_X1_same_2 8).trans rfl
theorem n_X1_same_51 : nth t_X1_same 51 = aGetI 0 [3] 54 := (y_X1_same_2 11).trans rfl
theorem n_X1_same_54 : nth t_X1_same 54 = aIfEq 57 75 := (y_X1_same_2 14).trans rfl
theorem n_X1_same_57 : nth t_X1_same 57 = aLdA 0 58 := (y_X1_same_2 17).trans rfl
theorem n_X1_same_58 : nth t_X1_same 58 = aGetR 8 [0] 61 := (y_X1_same_2 18).trans rfl
theorem n_X1_same_61 : nth t_X1_same 61 = aLdA 0 62 := (y_X1_same_2 21).trans rfl
theorem n_X1_same_62 : nth t_X1_same 62 = aGetR 7 [0] 65 := (y_X1_same_2 22).trans rfl
theorem n_X1_same_65 : nth t_X1_same 65 = aCalV 139 1 68 [3] none := (y_X1_same_2 25).trans rfl
theorem y_X1_same_3 (n : Nat) : nth t_X1_same (n + 68) = nth t_X1_same_c3 n := (y_X1_same_2 (n + 28)).trans rfl
theorem n_X1_same_68 : nth t_X1_same 68 = aIfEq 75 71 := (y_X1_same_3 0).trans rfl
theorem n_X1_same_71 : nth t_X1_same 71 = aK (.int 1) 72 := (y_X1_same_3 3).trans rfl
theorem n_X1_same_72 : nth t_X1_same 72 = aGoto 76 := (y_X1_same_3 4).trans rfl
theorem n_X1_same_75 : nth t_X1_same 75 = aK (.int 0) 76 := (y_X1_same_3 7).trans rfl
theorem n_X1_same_76 : nth t_X1_same 76 = aRetI := (y_X1_same_3 8).trans rfl
theorem n_X1_needed_0 : nth t_X1_needed 0 = aLdA 0 1 := rfl
theorem n_X1_needed_1 : nth t_X1_needed 1 = aCalV 41 0 4 [0] none := rfl
theorem n_X1_needed_4 : nth t_X1_needed 4 = aStI 2 5 := rfl
theorem n_X1_needed_5 : nth t_X1_needed 5 = aLdI 1 6 := rfl
theorem n_X1_needed_6 : nth t_X1_needed 6 = aCalS 42 1 9 none := rfl
theorem n_X1_needed_9 : nth t_X1_needed 9 = aIfEq 22 12 := rfl
theorem n_X1_needed_12 : nth t_X1_needed 12 = aLdI 2 13 := rfl
theorem n_X1_needed_13 : nth t_X1_needed 13 = aK (.int 1) 14 := rfl
theorem n_X1_needed_14 : nth t_X1_needed 14 = aK (.int 8) 16 := rfl
theorem n_X1_needed_16 : nth t_X1_needed 16 = aCalS 43 3 19 none := rfl
theorem n_X1_needed_19 : nth t_X1_needed 19 = aIfEq 22 24 := rfl
theorem n_X1_needed_22 : nth t_X1_needed 22 = aK (.int (-1)) 23 := rfl
theorem y_X1_needed_1 (n : Nat) : nth t_X1_needed (n + 23) = nth t_X1_needed_c1 n := rfl
theorem n_X1_needed_23 : nth t_X1_needed 23 = aRetI := (y_X1_needed_1 0).trans rfl
theorem n_X1_needed_24 : nth t_X1_needed 24 = aK (.int 0) 25 := (y_X1_needed_1 1).trans rfl
theorem n_X1_needed_25 : nth t_X1_needed 25 = aStI 3 26 := (y_X1_needed_1 2).trans rfl
theorem n_X1_needed_26 : nth t_X1_needed 26 = aLdI 3 27 := (y_X1_needed_1 3).trans rfl
theorem n_X1_needed_27 : nth t_X1_needed 27 = aLdI 2 28 := (y_X1_needed_1 4).trans rfl
theorem n_X1_needed_28 : nth t_X1_needed 28 = aIcLt 31 54 := (y_X1_needed_1 5).trans rfl
theorem n_X1_needed_31 : nth t_X1_needed 31 = aLdA 0 32 := (y_X1_needed_1 8).trans rfl
theorem n_X1_needed_32 : nth t_X1_needed 32 = aGetR 0 [0] 35 := (y_X1_needed_1 9).trans rfl
theorem n_X1_needed_35 : nth t_X1_needed 35 = aLdI 3 36 := (y_X1_needed_1 12).trans rfl
theorem n_X1_needed_36 : nth t_X1_needed 36 = aAldB 37 := (y_X1_needed_1 13).trans rfl
theorem n_X1_needed_37 : nth t_X1_needed 37 = aK (.int 1) 38 := (y_X1_needed_1 14).trans rfl
theorem n_X1_needed_38 : nth t_X1_needed 38 = aK (.int 20) 40 := (y_X1_needed_1 15).trans rfl
theorem y_X1_needed_2 (n : Nat) : nth t_X1_needed (n + 40) = nth t_X1_needed_c2 n := (y_X1_needed_1 (n + 17)).trans rfl
theorem n_X1_needed_40 : nth t_X1_needed 40 = aCalS 43 3 43 none := (y_X1_needed_2 0).trans rfl
theorem n_X1_needed_43 : nth t_X1_needed 43 = aIfEq 46 48 := (y_X1_needed_2 3).trans rfl
theorem n_X1_needed_46 : nth t_X1_needed 46 = aK (.int (-1)) 47 := (y_X1_needed_2 6).trans rfl
theorem n_X1_needed_47 : nth t_X1_needed 47 = aRetI := (y_X1_needed_2 7).trans rfl
theorem n_X1_needed_48 : nth t_X1_needed 48 = aInc 3 1 51 := (y_X1_needed_2 8).trans rfl
theorem n_X1_needed_51 : nth t_X1_needed 51 = aGoto 26 := (y_X1_needed_2 11).trans rfl
theorem n_X1_needed_54 : nth t_X1_needed 54 = aLdI 2 55 := (y_X1_needed_2 14).trans rfl
theorem n_X1_needed_55 : nth t_X1_needed 55 = aK (.int 1) 56 := (y_X1_needed_2 15).trans rfl
theorem n_X1_needed_56 : nth t_X1_needed 56 = aB (fun x y => x + y) 57 := (y_X1_needed_2 16).trans rfl
theorem n_X1_needed_57 : nth t_X1_needed 57 = aStI 3 58 := (y_X1_needed_2 17).trans rfl
theorem n_X1_needed_58 : nth t_X1_needed 58 = aK (.int 0) 59 := (y_X1_needed_2 18).trans rfl
theorem n_X1_needed_59 : nth t_X1_needed 59 = aStI 4 61 := (y_X1_needed_2 19).trans rfl
theorem y_X1_needed_3 (n : Nat) : nth t_X1_needed (n + 61) = nth t_X1_needed_c3 n := (y_X1_needed_2 (n + 21)).trans rfl
theorem n_X1_needed_61 : nth t_X1_needed 61 = aLdI 4 63 := (y_X1_needed_3 0).trans rfl
theorem n_X1_needed_63 : nth t_X1_needed 63 = aK (.int 1) 64 := (y_X1_needed_3 2).trans rfl
theorem n_X1_needed_64 : nth t_X1_needed 64 = aLdI 2 65 := (y_X1_needed_3 3).trans rfl
theorem n_X1_needed_65 : nth t_X1_needed 65 = aB (fun x y => x <<< (y &&& 31)) 66 := (y_X1_needed_3 4).trans rfl
theorem n_X1_needed_66 : nth t_X1_needed 66 = aIcLt 69 117 := (y_X1_needed_3 5).trans rfl
theorem n_X1_needed_69 : nth t_X1_needed 69 = aLdI 4 71 := (y_X1_needed_3 8).trans rfl
theorem n_X1_needed_71 : nth t_X1_needed 71 = aI2L 72 := (y_X1_needed_3 10).trans rfl
theorem n_X1_needed_72 : nth t_X1_needed 72 = aCalS 63 1 75 none := (y_X1_needed_3 11).trans rfl
theorem n_X1_needed_75 : nth t_X1_needed 75 = aLdI 3 76 := (y_X1_needed_3 14).trans rfl
theorem n_X1_needed_76 : nth t_X1_needed 76 = aIcLt 79 111 := (y_X1_needed_3 15).trans rfl
theorem n_X1_needed_79 : nth t_X1_needed 79 = aLdA 0 80 := (y_X1_needed_3 18).trans rfl
theorem n_X1_needed_80 : nth t_X1_needed 80 = aLdA 0 81 := (y_X1_needed_3 19).trans rfl
theorem y_X1_needed_4 (n : Nat) : nth t_X1_needed (n + 81) = nth t_X1_needed_c4 n := (y_X1_needed_3 (n + 20)).trans rfl
theorem n_X1_needed_81 : nth t_X1_needed 81 = aGetR 3 [0] 84 := (y_X1_needed_4 0).trans rfl
theorem n_X1_needed_84 : nth t_X1_needed 84 = aLdI 1 85 := (y_X1_needed_4 3).trans rfl
theorem n_X1_needed_85 : nth t_X1_needed 85 = aAldA 86 := (y_X1_needed_4 4).trans rfl
theorem n_X1_needed_86 : nth t_X1_needed 86 = aLdI 2 87 := (y_X1_needed_4 5).trans rfl
theorem n_X1_needed_87 : nth t_X1_needed 87 = aLdI 4 89 := (y_X1_needed_4 6).trans rfl
theorem n_X1_needed_89 : nth t_X1_needed 89 = aCalV 78 3 92 [0] none := (y_X1_needed_4 8).trans rfl
theorem n_X1_needed_92 : nth t_X1_needed 92 = aIfEq 95 98 := (y_X1_needed_4 11).trans rfl
theorem n_X1_needed_95 : nth t_X1_needed 95 = aGoto 111 := (y_X1_needed_4 14).trans rfl
theorem n_X1_needed_98 : nth t_X1_needed 98 = aLdI 4 100 := (y_X1_needed_4 17).trans rfl
theorem n_X1_needed_100 : nth t_X1_needed 100 = aI2L 101 := (y_X1_needed_4 19).trans rfl
theorem n_X1_needed_101 : nth t_X1_needed 101 = aCalS 63 1 104 none := (y_X1_needed_4 20).trans rfl
theorem n_X1_needed_104 : nth t_X1_needed 104 = aStI 3 105 := (y_X1_needed_4 23).trans rfl
theorem y_X1_needed_5 (n : Nat) : nth t_X1_needed (n + 105) = nth t_X1_needed_c5 n := (y_X1_needed_4 (n + 24)).trans rfl
theorem n_X1_needed_105 : nth t_X1_needed 105 = aLdA 0 106 := (y_X1_needed_5 0).trans rfl
theorem n_X1_needed_106 : nth t_X1_needed 106 = aLdI 4 108 := (y_X1_needed_5 1).trans rfl
theorem n_X1_needed_108 : nth t_X1_needed 108 = aPutI 21 [0] 111 := (y_X1_needed_5 3).trans rfl
theorem n_X1_needed_111 : nth t_X1_needed 111 = aInc 4 1 114 := (y_X1_needed_5 6).trans rfl
theorem n_X1_needed_114 : nth t_X1_needed 114 = aGoto 61 := (y_X1_needed_5 9).trans rfl
theorem n_X1_needed_117 : nth t_X1_needed 117 = aLdI 3 118 := (y_X1_needed_5 12).trans rfl
theorem n_X1_needed_118 : nth t_X1_needed 118 = aRetI := (y_X1_needed_5 13).trans rfl
theorem n_X1_isOrdered_0 : nth t_X1_isOrdered 0 = aNew 5 2 3 := rfl
theorem n_X1_isOrdered_3 : nth t_X1_isOrdered 3 = aDup 4 := rfl
theorem n_X1_isOrdered_4 : nth t_X1_isOrdered 4 = aCalI 145 0 7 none := rfl
theorem n_X1_isOrdered_7 : nth t_X1_isOrdered 7 = aStA 4 9 := rfl
theorem n_X1_isOrdered_9 : nth t_X1_isOrdered 9 = aLdA 4 11 := rfl
theorem n_X1_isOrdered_11 : nth t_X1_isOrdered 11 = aLdA 1 12 := rfl
theorem n_X1_isOrdered_12 : nth t_X1_isOrdered 12 = aGetI 1 [5] 15 := rfl
theorem n_X1_isOrdered_15 : nth t_X1_isOrdered 15 = aPutI 1 [5] 18 := rfl
theorem n_X1_isOrdered_18 : nth t_X1_isOrdered 18 = aLdA 1 19 := rfl
theorem n_X1_isOrdered_19 : nth t_X1_isOrdered 19 = aGetR 0 [5] 22 := rfl
theorem n_X1_isOrdered_22 : nth t_X1_isOrdered 22 = aK (.int 0) 23 := rfl
theorem n_X1_isOrdered_23 : nth t_X1_isOrdered 23 = aLdA 4 25 := rfl
theorem y_X1_isOrdered_1 (n : Nat) : nth t_X1_isOrdered (n + 25) = nth t_X1_isOrdered_c1 n := rfl
theorem n_X1_isOrdered_25 : nth t_X1_isOrdered 25 = aGetR 0 [5] 28 := (y_X1_isOrdered_1 0).trans rfl
theorem n_X1_isOrdered_28 : nth t_X1_isOrdered 28 = aK (.int 0) 29 := (y_X1_isOrdered_1 3).trans rfl
theorem n_X1_isOrdered_29 : nth t_X1_isOrdered 29 = aLdA 1 30 := (y_X1_isOrdered_1 4).trans rfl
theorem n_X1_isOrdered_30 : nth t_X1_isOrdered 30 = aGetI 1 [5] 33 := (y_X1_isOrdered_1 5).trans rfl
theorem n_X1_isOrdered_33 : nth t_X1_isOrdered 33 = aCopy 36 := (y_X1_isOrdered_1 8).trans rfl
theorem n_X1_isOrdered_36 : nth t_X1_isOrdered 36 = aLdI 2 37 := (y_X1_isOrdered_1 11).trans rfl
theorem n_X1_isOrdered_37 : nth t_X1_isOrdered 37 = aK (.int 1) 38 := (y_X1_isOrdered_1 12).trans rfl
theorem n_X1_isOrdered_38 : nth t_X1_isOrdered 38 = aB (fun x y => x - y) 39 := (y_X1_isOrdered_1 13).trans rfl
theorem n_X1_isOrdered_39 : nth t_X1_isOrdered 39 = aStI 5 41 := (y_X1_isOrdered_1 14).trans rfl
theorem n_X1_isOrdered_41 : nth t_X1_isOrdered 41 = aLdI 5 43 := (y_X1_isOrdered_1 16).trans rfl
theorem n_X1_isOrdered_43 : nth t_X1_isOrdered 43 = aIfLt 74 46 := (y_X1_isOrdered_1 18).trans rfl
theorem n_X1_isOrdered_46 : nth t_X1_isOrdered 46 = aLdI 3 47 := (y_X1_isOrdered_1 21).trans rfl
theorem y_X1_isOrdered_2 (n : Nat) : nth t_X1_isOrdered (n + 47) = nth t_X1_isOrdered_c2 n := (y_X1_isOrdered_1 (n + 22)).trans rfl
theorem n_X1_isOrdered_47 : nth t_X1_isOrdered 47 = aLdI 5 49 := (y_X1_isOrdered_2 0).trans rfl
theorem n_X1_isOrdered_49 : nth t_X1_isOrdered 49 = aB (fun x y => x >>> (y &&& 31)) 50 := (y_X1_isOrdered_2 2).trans rfl
theorem n_X1_isOrdered_50 : nth t_X1_isOrdered 50 = aK (.int 1) 51 := (y_X1_isOrdered_2 3).trans rfl
theorem n_X1_isOrdered_51 : nth t_X1_isOrdered 51 = aB (fun x y => x &&& y) 52 := (y_X1_isOrdered_2 4).trans rfl
theorem n_X1_isOrdered_52 : nth t_X1_isOrdered 52 = aK (.int 1) 53 := (y_X1_isOrdered_2 5).trans rfl
theorem n_X1_isOrdered_53 : nth t_X1_isOrdered 53 = aIcEq 56 68 := (y_X1_isOrdered_2 6).trans rfl
theorem n_X1_isOrdered_56 : nth t_X1_isOrdered 56 = aLdA 4 58 := (y_X1_isOrdered_2 9).trans rfl
theorem n_X1_isOrdered_58 : nth t_X1_isOrdered 58 = aLdA 0 59 := (y_X1_isOrdered_2 11).trans rfl
theorem n_X1_isOrdered_59 : nth t_X1_isOrdered 59 = aGetR 0 [0] 62 := (y_X1_isOrdered_2 12).trans rfl
theorem n_X1_isOrdered_62 : nth t_X1_isOrdered 62 = aLdI 5 64 := (y_X1_isOrdered_2 15).trans rfl
theorem n_X1_isOrdered_64 : nth t_X1_isOrdered 64 = aAldB 65 := (y_X1_isOrdered_2 17).trans rfl
theorem n_X1_isOrdered_65 : nth t_X1_isOrdered 65 = aCalS 53 2 68 none := (y_X1_isOrdered_2 18).trans rfl
theorem y_X1_isOrdered_3 (n : Nat) : nth t_X1_isOrdered (n + 68) = nth t_X1_isOrdered_c3 n := (y_X1_isOrdered_2 (n + 21)).trans rfl
theorem n_X1_isOrdered_68 : nth t_X1_isOrdered 68 = aInc 5 (-1) 71 := (y_X1_isOrdered_3 0).trans rfl
theorem n_X1_isOrdered_71 : nth t_X1_isOrdered 71 = aGoto 41 := (y_X1_isOrdered_3 3).trans rfl
theorem n_X1_isOrdered_74 : nth t_X1_isOrdered 74 = aK (.int 1) 75 := (y_X1_isOrdered_3 6).trans rfl
theorem n_X1_isOrdered_75 : nth t_X1_isOrdered 75 = aStI 5 77 := (y_X1_isOrdered_3 7).trans rfl
theorem n_X1_isOrdered_77 : nth t_X1_isOrdered 77 = aLdI 5 79 := (y_X1_isOrdered_3 9).trans rfl
theorem n_X1_isOrdered_79 : nth t_X1_isOrdered 79 = aLdA 4 81 := (y_X1_isOrdered_3 11).trans rfl
theorem n_X1_isOrdered_81 : nth t_X1_isOrdered 81 = aGetI 1 [5] 84 := (y_X1_isOrdered_3 13).trans rfl
theorem n_X1_isOrdered_84 : nth t_X1_isOrdered 84 = aIcLt 87 198 := (y_X1_isOrdered_3 16).trans rfl
theorem n_X1_isOrdered_87 : nth t_X1_isOrdered 87 = aK (.int 0) 88 := (y_X1_isOrdered_3 19).trans rfl
theorem n_X1_isOrdered_88 : nth t_X1_isOrdered 88 = aStI 6 90 := (y_X1_isOrdered_3 20).trans rfl
theorem n_X1_isOrdered_90 : nth t_X1_isOrdered 90 = aLdI 6 92 := (y_X1_isOrdered_3 22).trans rfl
theorem n_X1_isOrdered_92 : nth t_X1_isOrdered 92 = aLdI 2 93 := (y_X1_isOrdered_3 24).trans rfl
theorem y_X1_isOrdered_4 (n : Nat) : nth t_X1_isOrdered (n + 93) = nth t_X1_isOrdered_c4 n := (y_X1_isOrdered_3 (n + 25)).trans rfl
theorem n_X1_isOrdered_93 : nth t_X1_isOrdered 93 = aIcLt 96 143 := (y_X1_isOrdered_4 0).trans rfl
theorem n_X1_isOrdered_96 : nth t_X1_isOrdered 96 = aLdA 4 98 := (y_X1_isOrdered_4 3).trans rfl
theorem n_X1_isOrdered_98 : nth t_X1_isOrdered 98 = aGetR 0 [5] 101 := (y_X1_isOrdered_4 5).trans rfl
theorem n_X1_isOrdered_101 : nth t_X1_isOrdered 101 = aLdI 5 103 := (y_X1_isOrdered_4 8).trans rfl
theorem n_X1_isOrdered_103 : nth t_X1_isOrdered 103 = aK (.int 1) 104 := (y_X1_isOrdered_4 10).trans rfl
theorem n_X1_isOrdered_104 : nth t_X1_isOrdered 104 = aB (fun x y => x - y) 105 := (y_X1_isOrdered_4 11).trans rfl
theorem n_X1_isOrdered_105 : nth t_X1_isOrdered 105 = aAldA 106 := (y_X1_isOrdered_4 12).trans rfl
theorem n_X1_isOrdered_106 : nth t_X1_isOrdered 106 = aLdA 0 107 := (y_X1_isOrdered_4 13).trans rfl
theorem n_X1_isOrdered_107 : nth t_X1_isOrdered 107 = aGetR 0 [0] 110 := (y_X1_isOrdered_4 14).trans rfl
theorem n_X1_isOrdered_110 : nth t_X1_isOrdered 110 = aLdI 6 112 := (y_X1_isOrdered_4 17).trans rfl
theorem n_X1_isOrdered_112 : nth t_X1_isOrdered 112 = aAldB 113 := (y_X1_isOrdered_4 19).trans rfl
theorem n_X1_isOrdered_113 : nth t_X1_isOrdered 113 = aCalS 54 2 116 none := (y_X1_isOrdered_4 20).trans rfl
theorem y_X1_isOrdered_5 (n : Nat) : nth t_X1_isOrdered (n + 116) = nth t_X1_isOrdered_c5 n := (y_X1_isOrdered_4 (n + 23)).trans rfl
theorem n_X1_isOrdered_116 : nth t_X1_isOrdered 116 = aLdA 4 118 := (y_X1_isOrdered_5 0).trans rfl
theorem n_X1_isOrdered_118 : nth t_X1_isOrdered 118 = aGetR 0 [5] 121 := (y_X1_isOrdered_5 2).trans rfl
theorem n_X1_isOrdered_121 : nth t_X1_isOrdered 121 = aLdI 5 123 := (y_X1_isOrdered_5 5).trans rfl
theorem n_X1_isOrdered_123 : nth t_X1_isOrdered 123 = aAldA 124 := (y_X1_isOrdered_5 7).trans rfl
theorem n_X1_isOrdered_124 : nth t_X1_isOrdered 124 = aLdA 0 125 := (y_X1_isOrdered_5 8).trans rfl
theorem n_X1_isOrdered_125 : nth t_X1_isOrdered 125 = aGetR 0 [0] 128 := (y_X1_isOrdered_5 9).trans rfl
theorem n_X1_isOrdered_128 : nth t_X1_isOrdered 128 = aLdI 6 130 := (y_X1_isOrdered_5 12).trans rfl
theorem n_X1_isOrdered_130 : nth t_X1_isOrdered 130 = aAldB 131 := (y_X1_isOrdered_5 14).trans rfl
theorem n_X1_isOrdered_131 : nth t_X1_isOrdered 131 = aCalS 54 2 134 none := (y_X1_isOrdered_5 15).trans rfl
theorem n_X1_isOrdered_134 : nth t_X1_isOrdered 134 = aIcEq 137 143 := (y_X1_isOrdered_5 18).trans rfl
theorem n_X1_isOrdered_137 : nth t_X1_isOrdered 137 = aInc 6 1 140 := (y_X1_isOrdered_5 21).trans rfl
theorem n_X1_isOrdered_140 : nth t_X1_isOrdered 140 = aGoto 90 := (y_X1_isOrdered_5 24).trans rfl
theorem y_X1_isOrdered_6 (n : Nat) : nth t_X1_isOrdered (n + 143) = nth t_X1_isOrdered_c6 n := (y_X1_isOrdered_5 (n + 27)).trans rfl
theorem n_X1_isOrdered_143 : nth t_X1_isOrdered 143 = aLdI 6 145 := (y_X1_isOrdered_6 0).trans rfl
theorem n_X1_isOrdered_145 : nth t_X1_isOrdered 145 = aLdI 2 146 := (y_X1_isOrdered_6 2).trans rfl
theorem n_X1_isOrdered_146 : nth t_X1_isOrdered 146 = aIcLt 149 192 := (y_X1_isOrdered_6 3).trans rfl
theorem n_X1_isOrdered_149 : nth t_X1_isOrdered 149 = aLdA 4 151 := (y_X1_isOrdered_6 6).trans rfl
theorem n_X1_isOrdered_151 : nth t_X1_isOrdered 151 = aGetR 0 [5] 154 := (y_X1_isOrdered_6 8).trans rfl
theorem n_X1_isOrdered_154 : nth t_X1_isOrdered 154 = aLdI 5 156 := (y_X1_isOrdered_6 11).trans rfl
theorem n_X1_isOrdered_156 : nth t_X1_isOrdered 156 = aK (.int 1) 157 := (y_X1_isOrdered_6 13).trans rfl
theorem n_X1_isOrdered_157 : nth t_X1_isOrdered 157 = aB (fun x y => x - y) 158 := (y_X1_isOrdered_6 14).trans rfl
theorem n_X1_isOrdered_158 : nth t_X1_isOrdered 158 = aAldA 159 := (y_X1_isOrdered_6 15).trans rfl
theorem n_X1_isOrdered_159 : nth t_X1_isOrdered 159 = aLdA 0 160 := (y_X1_isOrdered_6 16).trans rfl
theorem n_X1_isOrdered_160 : nth t_X1_isOrdered 160 = aGetR 0 [0] 163 := (y_X1_isOrdered_6 17).trans rfl
theorem n_X1_isOrdered_163 : nth t_X1_isOrdered 163 = aLdI 6 165 := (y_X1_isOrdered_6 20).trans rfl
theorem y_X1_isOrdered_7 (n : Nat) : nth t_X1_isOrdered (n + 165) = nth t_X1_isOrdered_c7 n := (y_X1_isOrdered_6 (n + 22)).trans rfl
theorem n_X1_isOrdered_165 : nth t_X1_isOrdered 165 = aAldB 166 := (y_X1_isOrdered_7 0).trans rfl
theorem n_X1_isOrdered_166 : nth t_X1_isOrdered 166 = aCalS 54 2 169 none := (y_X1_isOrdered_7 1).trans rfl
theorem n_X1_isOrdered_169 : nth t_X1_isOrdered 169 = aLdA 4 171 := (y_X1_isOrdered_7 4).trans rfl
theorem n_X1_isOrdered_171 : nth t_X1_isOrdered 171 = aGetR 0 [5] 174 := (y_X1_isOrdered_7 6).trans rfl
theorem n_X1_isOrdered_174 : nth t_X1_isOrdered 174 = aLdI 5 176 := (y_X1_isOrdered_7 9).trans rfl
theorem n_X1_isOrdered_176 : nth t_X1_isOrdered 176 = aAldA 177 := (y_X1_isOrdered_7 11).trans rfl
theorem n_X1_isOrdered_177 : nth t_X1_isOrdered 177 = aLdA 0 178 := (y_X1_isOrdered_7 12).trans rfl
theorem n_X1_isOrdered_178 : nth t_X1_isOrdered 178 = aGetR 0 [0] 181 := (y_X1_isOrdered_7 13).trans rfl
theorem n_X1_isOrdered_181 : nth t_X1_isOrdered 181 = aLdI 6 183 := (y_X1_isOrdered_7 16).trans rfl
theorem n_X1_isOrdered_183 : nth t_X1_isOrdered 183 = aAldB 184 := (y_X1_isOrdered_7 18).trans rfl
theorem n_X1_isOrdered_184 : nth t_X1_isOrdered 184 = aCalS 54 2 187 none := (y_X1_isOrdered_7 19).trans rfl
theorem n_X1_isOrdered_187 : nth t_X1_isOrdered 187 = aIcLe 192 190 := (y_X1_isOrdered_7 22).trans rfl
theorem y_X1_isOrdered_8 (n : Nat) : nth t_X1_isOrdered (n + 190) = nth t_X1_isOrdered_c8 n := (y_X1_isOrdered_7 (n + 25)).trans rfl
theorem n_X1_isOrdered_190 : nth t_X1_isOrdered 190 = aK (.int 0) 191 := (y_X1_isOrdered_8 0).trans rfl
theorem n_X1_isOrdered_191 : nth t_X1_isOrdered 191 = aRetZ := (y_X1_isOrdered_8 1).trans rfl
theorem n_X1_isOrdered_192 : nth t_X1_isOrdered 192 = aInc 5 1 195 := (y_X1_isOrdered_8 2).trans rfl
theorem n_X1_isOrdered_195 : nth t_X1_isOrdered 195 = aGoto 77 := (y_X1_isOrdered_8 5).trans rfl
theorem n_X1_isOrdered_198 : nth t_X1_isOrdered 198 = aK (.int 1) 199 := (y_X1_isOrdered_8 8).trans rfl
theorem n_X1_isOrdered_199 : nth t_X1_isOrdered 199 = aRetZ := (y_X1_isOrdered_8 9).trans rfl
theorem n_X1_neededSet_0 : nth t_X1_neededSet 0 = aLdA 0 1 := rfl
theorem n_X1_neededSet_1 : nth t_X1_neededSet 1 = aGetI 21 [0] 4 := rfl
theorem n_X1_neededSet_4 : nth t_X1_neededSet 4 = aRetI := rfl
theorem n_X1_unseen_0 : nth t_X1_unseen 0 = aLdI 1 1 := rfl
theorem n_X1_unseen_1 : nth t_X1_unseen 1 = aCalS 42 1 4 none := rfl
theorem n_X1_unseen_4 : nth t_X1_unseen 4 = aIfEq 7 9 := rfl
theorem n_X1_unseen_7 : nth t_X1_unseen 7 = aK (.int (-1)) 8 := rfl
theorem n_X1_unseen_8 : nth t_X1_unseen 8 = aRetI := rfl
theorem n_X1_unseen_9 : nth t_X1_unseen 9 = aLdA 0 10 := rfl
theorem n_X1_unseen_10 : nth t_X1_unseen 10 = aGetR 3 [0] 13 := rfl
theorem n_X1_unseen_13 : nth t_X1_unseen 13 = aLdI 1 14 := rfl
theorem n_X1_unseen_14 : nth t_X1_unseen 14 = aAldA 15 := rfl
theorem n_X1_unseen_15 : nth t_X1_unseen 15 = aStA 2 16 := rfl
theorem n_X1_unseen_16 : nth t_X1_unseen 16 = aLdA 0 17 := rfl
theorem n_X1_unseen_17 : nth t_X1_unseen 17 = aLdA 2 18 := rfl
theorem y_X1_unseen_1 (n : Nat) : nth t_X1_unseen (n + 18) = nth t_X1_unseen_c1 n := rfl
theorem n_X1_unseen_18 : nth t_X1_unseen 18 = aK (.int (-1)) 19 := (y_X1_unseen_1 0).trans rfl
theorem n_X1_unseen_19 : nth t_X1_unseen 19 = aLdA 0 20 := (y_X1_unseen_1 1).trans rfl
theorem n_X1_unseen_20 : nth t_X1_unseen 20 = aGetR 7 [0] 23 := (y_X1_unseen_1 2).trans rfl
theorem n_X1_unseen_23 : nth t_X1_unseen 23 = aCalV 56 3 26 [0] none := (y_X1_unseen_1 5).trans rfl
theorem n_X1_unseen_26 : nth t_X1_unseen 26 = aLdA 0 27 := (y_X1_unseen_1 8).trans rfl
theorem n_X1_unseen_27 : nth t_X1_unseen 27 = aK (.int 0) 28 := (y_X1_unseen_1 9).trans rfl
theorem n_X1_unseen_28 : nth t_X1_unseen 28 = aPutI 23 [0] 31 := (y_X1_unseen_1 10).trans rfl
theorem n_X1_unseen_31 : nth t_X1_unseen 31 = aK (.int 40) 33 := (y_X1_unseen_1 13).trans rfl
theorem n_X1_unseen_33 : nth t_X1_unseen 33 = aNewA 110 36 := (y_X1_unseen_1 15).trans rfl
theorem n_X1_unseen_36 : nth t_X1_unseen 36 = aStA 3 37 := (y_X1_unseen_1 18).trans rfl
theorem n_X1_unseen_37 : nth t_X1_unseen 37 = aK (.int 0) 38 := (y_X1_unseen_1 19).trans rfl
theorem n_X1_unseen_38 : nth t_X1_unseen 38 = aStI 4 40 := (y_X1_unseen_1 20).trans rfl
theorem y_X1_unseen_2 (n : Nat) : nth t_X1_unseen (n + 40) = nth t_X1_unseen_c2 n := (y_X1_unseen_1 (n + 22)).trans rfl
theorem n_X1_unseen_40 : nth t_X1_unseen 40 = aLdI 4 42 := (y_X1_unseen_2 0).trans rfl
theorem n_X1_unseen_42 : nth t_X1_unseen 42 = aK (.int 1) 43 := (y_X1_unseen_2 2).trans rfl
theorem n_X1_unseen_43 : nth t_X1_unseen 43 = aB (fun x y => x + y) 44 := (y_X1_unseen_2 3).trans rfl
theorem n_X1_unseen_44 : nth t_X1_unseen 44 = aLdA 2 45 := (y_X1_unseen_2 4).trans rfl
theorem n_X1_unseen_45 : nth t_X1_unseen 45 = aGetI 1 [5] 48 := (y_X1_unseen_2 5).trans rfl
theorem n_X1_unseen_48 : nth t_X1_unseen 48 = aIcLt 51 160 := (y_X1_unseen_2 8).trans rfl
theorem n_X1_unseen_51 : nth t_X1_unseen 51 = aLdA 2 52 := (y_X1_unseen_2 11).trans rfl
theorem n_X1_unseen_52 : nth t_X1_unseen 52 = aGetR 0 [5] 55 := (y_X1_unseen_2 12).trans rfl
theorem n_X1_unseen_55 : nth t_X1_unseen 55 = aK (.int 0) 56 := (y_X1_unseen_2 15).trans rfl
theorem n_X1_unseen_56 : nth t_X1_unseen 56 = aLdA 3 57 := (y_X1_unseen_2 16).trans rfl
theorem n_X1_unseen_57 : nth t_X1_unseen 57 = aK (.int 0) 58 := (y_X1_unseen_2 17).trans rfl
theorem n_X1_unseen_58 : nth t_X1_unseen 58 = aLdI 4 60 := (y_X1_unseen_2 18).trans rfl
theorem y_X1_unseen_3 (n : Nat) : nth t_X1_unseen (n + 60) = nth t_X1_unseen_c3 n := (y_X1_unseen_2 (n + 20)).trans rfl
theorem n_X1_unseen_60 : nth t_X1_unseen 60 = aK (.int 1) 61 := (y_X1_unseen_3 0).trans rfl
theorem n_X1_unseen_61 : nth t_X1_unseen 61 = aB (fun x y => x + y) 62 := (y_X1_unseen_3 1).trans rfl
theorem n_X1_unseen_62 : nth t_X1_unseen 62 = aCopy 65 := (y_X1_unseen_3 2).trans rfl
theorem n_X1_unseen_65 : nth t_X1_unseen 65 = aLdA 2 66 := (y_X1_unseen_3 5).trans rfl
theorem n_X1_unseen_66 : nth t_X1_unseen 66 = aGetR 0 [5] 69 := (y_X1_unseen_3 6).trans rfl
theorem n_X1_unseen_69 : nth t_X1_unseen 69 = aLdI 4 71 := (y_X1_unseen_3 9).trans rfl
theorem n_X1_unseen_71 : nth t_X1_unseen 71 = aK (.int 2) 72 := (y_X1_unseen_3 11).trans rfl
theorem n_X1_unseen_72 : nth t_X1_unseen 72 = aB (fun x y => x + y) 73 := (y_X1_unseen_3 12).trans rfl
theorem n_X1_unseen_73 : nth t_X1_unseen 73 = aLdA 3 74 := (y_X1_unseen_3 13).trans rfl
theorem n_X1_unseen_74 : nth t_X1_unseen 74 = aLdI 4 76 := (y_X1_unseen_3 14).trans rfl
theorem n_X1_unseen_76 : nth t_X1_unseen 76 = aK (.int 1) 77 := (y_X1_unseen_3 16).trans rfl
theorem n_X1_unseen_77 : nth t_X1_unseen 77 = aB (fun x y => x + y) 78 := (y_X1_unseen_3 17).trans rfl
theorem y_X1_unseen_4 (n : Nat) : nth t_X1_unseen (n + 78) = nth t_X1_unseen_c4 n := (y_X1_unseen_3 (n + 18)).trans rfl
theorem n_X1_unseen_78 : nth t_X1_unseen 78 = aLdA 2 79 := (y_X1_unseen_4 0).trans rfl
theorem n_X1_unseen_79 : nth t_X1_unseen 79 = aGetI 1 [5] 82 := (y_X1_unseen_4 1).trans rfl
theorem n_X1_unseen_82 : nth t_X1_unseen 82 = aLdI 4 84 := (y_X1_unseen_4 4).trans rfl
theorem n_X1_unseen_84 : nth t_X1_unseen 84 = aB (fun x y => x - y) 85 := (y_X1_unseen_4 6).trans rfl
theorem n_X1_unseen_85 : nth t_X1_unseen 85 = aK (.int 2) 86 := (y_X1_unseen_4 7).trans rfl
theorem n_X1_unseen_86 : nth t_X1_unseen 86 = aB (fun x y => x - y) 87 := (y_X1_unseen_4 8).trans rfl
theorem n_X1_unseen_87 : nth t_X1_unseen 87 = aCopy 90 := (y_X1_unseen_4 9).trans rfl
theorem n_X1_unseen_90 : nth t_X1_unseen 90 = aLdA 0 91 := (y_X1_unseen_4 12).trans rfl
theorem n_X1_unseen_91 : nth t_X1_unseen 91 = aGetR 5 [0] 94 := (y_X1_unseen_4 13).trans rfl
theorem n_X1_unseen_94 : nth t_X1_unseen 94 = aLdA 0 95 := (y_X1_unseen_4 16).trans rfl
theorem n_X1_unseen_95 : nth t_X1_unseen 95 = aGetR 4 [0] 98 := (y_X1_unseen_4 17).trans rfl
theorem n_X1_unseen_98 : nth t_X1_unseen 98 = aK (.int (-1)) 99 := (y_X1_unseen_4 20).trans rfl
theorem y_X1_unseen_5 (n : Nat) : nth t_X1_unseen (n + 99) = nth t_X1_unseen_c5 n := (y_X1_unseen_4 (n + 21)).trans rfl
theorem n_X1_unseen_99 : nth t_X1_unseen 99 = aLdA 3 100 := (y_X1_unseen_5 0).trans rfl
theorem n_X1_unseen_100 : nth t_X1_unseen 100 = aK (.int 0) 101 := (y_X1_unseen_5 1).trans rfl
theorem n_X1_unseen_101 : nth t_X1_unseen 101 = aLdA 2 102 := (y_X1_unseen_5 2).trans rfl
theorem n_X1_unseen_102 : nth t_X1_unseen 102 = aGetI 1 [5] 105 := (y_X1_unseen_5 3).trans rfl
theorem n_X1_unseen_105 : nth t_X1_unseen 105 = aK (.int 1) 106 := (y_X1_unseen_5 6).trans rfl
theorem n_X1_unseen_106 : nth t_X1_unseen 106 = aB (fun x y => x - y) 107 := (y_X1_unseen_5 7).trans rfl
theorem n_X1_unseen_107 : nth t_X1_unseen 107 = aK (.int 40) 109 := (y_X1_unseen_5 8).trans rfl
theorem n_X1_unseen_109 : nth t_X1_unseen 109 = aLdA 0 110 := (y_X1_unseen_5 10).trans rfl
theorem n_X1_unseen_110 : nth t_X1_unseen 110 = aGetR 8 [0] 113 := (y_X1_unseen_5 11).trans rfl
theorem n_X1_unseen_113 : nth t_X1_unseen 113 = aCalV 121 7 116 [2] none := (y_X1_unseen_5 14).trans rfl
theorem n_X1_unseen_116 : nth t_X1_unseen 116 = aLdA 0 117 := (y_X1_unseen_5 17).trans rfl
theorem n_X1_unseen_117 : nth t_X1_unseen 117 = aGetR 8 [0] 120 := (y_X1_unseen_5 18).trans rfl
theorem y_X1_unseen_6 (n : Nat) : nth t_X1_unseen (n + 120) = nth t_X1_unseen_c6 n := (y_X1_unseen_5 (n + 21)).trans rfl
theorem n_X1_unseen_120 : nth t_X1_unseen 120 = aLdA 0 121 := (y_X1_unseen_6 0).trans rfl
theorem n_X1_unseen_121 : nth t_X1_unseen 121 = aGetR 7 [0] 124 := (y_X1_unseen_6 1).trans rfl
theorem n_X1_unseen_124 : nth t_X1_unseen 124 = aCalV 138 1 127 [3] none := (y_X1_unseen_6 4).trans rfl
theorem n_X1_unseen_127 : nth t_X1_unseen 127 = aIfEq 130 133 := (y_X1_unseen_6 7).trans rfl
theorem n_X1_unseen_130 : nth t_X1_unseen 130 = aGoto 154 := (y_X1_unseen_6 10).trans rfl
theorem n_X1_unseen_133 : nth t_X1_unseen 133 = aLdA 0 134 := (y_X1_unseen_6 13).trans rfl
theorem n_X1_unseen_134 : nth t_X1_unseen 134 = aGetR 22 [0] 137 := (y_X1_unseen_6 14).trans rfl
theorem n_X1_unseen_137 : nth t_X1_unseen 137 = aLdA 0 138 := (y_X1_unseen_6 17).trans rfl
theorem n_X1_unseen_138 : nth t_X1_unseen 138 = aGetI 23 [0] 141 := (y_X1_unseen_6 18).trans rfl
theorem n_X1_unseen_141 : nth t_X1_unseen 141 = aLdI 4 143 := (y_X1_unseen_6 21).trans rfl
theorem n_X1_unseen_143 : nth t_X1_unseen 143 = aAstI 144 := (y_X1_unseen_6 23).trans rfl
theorem n_X1_unseen_144 : nth t_X1_unseen 144 = aLdA 0 145 := (y_X1_unseen_6 24).trans rfl
theorem y_X1_unseen_7 (n : Nat) : nth t_X1_unseen (n + 145) = nth t_X1_unseen_c7 n := (y_X1_unseen_6 (n + 25)).trans rfl
theorem n_X1_unseen_145 : nth t_X1_unseen 145 = aDup 146 := (y_X1_unseen_7 0).trans rfl
theorem n_X1_unseen_146 : nth t_X1_unseen 146 = aGetI 23 [0] 149 := (y_X1_unseen_7 1).trans rfl
theorem n_X1_unseen_149 : nth t_X1_unseen 149 = aK (.int 1) 150 := (y_X1_unseen_7 4).trans rfl
theorem n_X1_unseen_150 : nth t_X1_unseen 150 = aB (fun x y => x + y) 151 := (y_X1_unseen_7 5).trans rfl
theorem n_X1_unseen_151 : nth t_X1_unseen 151 = aPutI 23 [0] 154 := (y_X1_unseen_7 6).trans rfl
theorem n_X1_unseen_154 : nth t_X1_unseen 154 = aInc 4 1 157 := (y_X1_unseen_7 9).trans rfl
theorem n_X1_unseen_157 : nth t_X1_unseen 157 = aGoto 40 := (y_X1_unseen_7 12).trans rfl
theorem n_X1_unseen_160 : nth t_X1_unseen 160 = aLdA 0 161 := (y_X1_unseen_7 15).trans rfl
theorem n_X1_unseen_161 : nth t_X1_unseen 161 = aGetI 23 [0] 164 := (y_X1_unseen_7 16).trans rfl
theorem n_X1_unseen_164 : nth t_X1_unseen 164 = aRetI := (y_X1_unseen_7 19).trans rfl
theorem n_X1_unseenAt_0 : nth t_X1_unseenAt 0 = aLdI 1 1 := rfl
theorem n_X1_unseenAt_1 : nth t_X1_unseenAt 1 = aK (.int 0) 2 := rfl
theorem n_X1_unseenAt_2 : nth t_X1_unseenAt 2 = aLdA 0 3 := rfl
theorem n_X1_unseenAt_3 : nth t_X1_unseenAt 3 = aGetI 23 [0] 6 := rfl
theorem n_X1_unseenAt_6 : nth t_X1_unseenAt 6 = aK (.int 1) 7 := rfl
theorem n_X1_unseenAt_7 : nth t_X1_unseenAt 7 = aB (fun x y => x - y) 8 := rfl
theorem n_X1_unseenAt_8 : nth t_X1_unseenAt 8 = aCalS 43 3 11 none := rfl
theorem n_X1_unseenAt_11 : nth t_X1_unseenAt 11 = aIfEq 23 14 := rfl
theorem n_X1_unseenAt_14 : nth t_X1_unseenAt 14 = aLdA 0 15 := rfl
theorem n_X1_unseenAt_15 : nth t_X1_unseenAt 15 = aGetR 22 [0] 18 := rfl
theorem n_X1_unseenAt_18 : nth t_X1_unseenAt 18 = aLdI 1 19 := rfl
theorem n_X1_unseenAt_19 : nth t_X1_unseenAt 19 = aAldI 20 := rfl
theorem y_X1_unseenAt_1 (n : Nat) : nth t_X1_unseenAt (n + 20) = nth t_X1_unseenAt_c1 n := rfl
theorem n_X1_unseenAt_20 : nth t_X1_unseenAt 20 = aGoto 24 := (y_X1_unseenAt_1 0).trans rfl
theorem n_X1_unseenAt_23 : nth t_X1_unseenAt 23 = aK (.int (-1)) 24 := (y_X1_unseenAt_1 3).trans rfl
theorem n_X1_unseenAt_24 : nth t_X1_unseenAt 24 = aRetI := (y_X1_unseenAt_1 4).trans rfl
theorem n_X1_moves_0 : nth t_X1_moves 0 = aLdA 0 1 := rfl
theorem n_X1_moves_1 : nth t_X1_moves 1 = aCalV 41 0 4 [0] none := rfl
theorem n_X1_moves_4 : nth t_X1_moves 4 = aStI 2 5 := rfl
theorem n_X1_moves_5 : nth t_X1_moves 5 = aLdI 1 6 := rfl
theorem n_X1_moves_6 : nth t_X1_moves 6 = aCalS 42 1 9 none := rfl
theorem n_X1_moves_9 : nth t_X1_moves 9 = aIfEq 20 12 := rfl
theorem n_X1_moves_12 : nth t_X1_moves 12 = aLdA 0 13 := rfl
theorem n_X1_moves_13 : nth t_X1_moves 13 = aLdI 2 14 := rfl
theorem n_X1_moves_14 : nth t_X1_moves 14 = aCalV 59 1 17 [0] none := rfl
theorem n_X1_moves_17 : nth t_X1_moves 17 = aIfEq 20 22 := rfl
theorem n_X1_moves_20 : nth t_X1_moves 20 = aK (.int (-1)) 21 := rfl
theorem n_X1_moves_21 : nth t_X1_moves 21 = aRetI := rfl
theorem y_X1_moves_1 (n : Nat) : nth t_X1_moves (n + 22) = nth t_X1_moves_c1 n := rfl
theorem n_X1_moves_22 : nth t_X1_moves 22 = aLdA 0 23 := (y_X1_moves_1 0).trans rfl
theorem n_X1_moves_23 : nth t_X1_moves 23 = aLdI 2 24 := (y_X1_moves_1 1).trans rfl
theorem n_X1_moves_24 : nth t_X1_moves 24 = aCalV 60 1 27 [0] none := (y_X1_moves_1 2).trans rfl
theorem n_X1_moves_27 : nth t_X1_moves 27 = aLdA 0 28 := (y_X1_moves_1 5).trans rfl
theorem n_X1_moves_28 : nth t_X1_moves 28 = aK (.int 0) 29 := (y_X1_moves_1 6).trans rfl
theorem n_X1_moves_29 : nth t_X1_moves 29 = aPutI 27 [0] 32 := (y_X1_moves_1 7).trans rfl
theorem n_X1_moves_32 : nth t_X1_moves 32 = aK (.int 0) 33 := (y_X1_moves_1 10).trans rfl
theorem n_X1_moves_33 : nth t_X1_moves 33 = aStI 3 34 := (y_X1_moves_1 11).trans rfl
theorem n_X1_moves_34 : nth t_X1_moves 34 = aK (.int 3) 35 := (y_X1_moves_1 12).trans rfl
theorem n_X1_moves_35 : nth t_X1_moves 35 = aLdA 0 36 := (y_X1_moves_1 13).trans rfl
theorem n_X1_moves_36 : nth t_X1_moves 36 = aGetR 3 [0] 39 := (y_X1_moves_1 14).trans rfl
theorem n_X1_moves_39 : nth t_X1_moves 39 = aLdI 1 40 := (y_X1_moves_1 17).trans rfl
theorem y_X1_moves_2 (n : Nat) : nth t_X1_moves (n + 40) = nth t_X1_moves_c2 n := (y_X1_moves_1 (n + 18)).trans rfl
theorem n_X1_moves_40 : nth t_X1_moves 40 = aAldA 41 := (y_X1_moves_2 0).trans rfl
theorem n_X1_moves_41 : nth t_X1_moves 41 = aGetI 1 [5] 44 := (y_X1_moves_2 1).trans rfl
theorem n_X1_moves_44 : nth t_X1_moves 44 = aMin 47 := (y_X1_moves_2 4).trans rfl
theorem n_X1_moves_47 : nth t_X1_moves 47 = aStI 4 49 := (y_X1_moves_2 7).trans rfl
theorem n_X1_moves_49 : nth t_X1_moves 49 = aK (.int 0) 50 := (y_X1_moves_2 9).trans rfl
theorem n_X1_moves_50 : nth t_X1_moves 50 = aStI 5 52 := (y_X1_moves_2 10).trans rfl
theorem n_X1_moves_52 : nth t_X1_moves 52 = aLdI 5 54 := (y_X1_moves_2 12).trans rfl
theorem n_X1_moves_54 : nth t_X1_moves 54 = aLdA 0 55 := (y_X1_moves_2 14).trans rfl
theorem n_X1_moves_55 : nth t_X1_moves 55 = aGetR 4 [0] 58 := (y_X1_moves_2 15).trans rfl
theorem n_X1_moves_58 : nth t_X1_moves 58 = aGetI 2 [1] 61 := (y_X1_moves_2 18).trans rfl
theorem n_X1_moves_61 : nth t_X1_moves 61 = aIcLt 64 301 := (y_X1_moves_2 21).trans rfl
theorem n_X1_moves_64 : nth t_X1_moves 64 = aK (.int 0) 65 := (y_X1_moves_2 24).trans rfl
theorem y_X1_moves_3 (n : Nat) : nth t_X1_moves (n + 65) = nth t_X1_moves_c3 n := (y_X1_moves_2 (n + 25)).trans rfl
theorem n_X1_moves_65 : nth t_X1_moves 65 = aStI 6 67 := (y_X1_moves_3 0).trans rfl
theorem n_X1_moves_67 : nth t_X1_moves 67 = aLdI 6 69 := (y_X1_moves_3 2).trans rfl
theorem n_X1_moves_69 : nth t_X1_moves 69 = aK (.int 2) 70 := (y_X1_moves_3 4).trans rfl
theorem n_X1_moves_70 : nth t_X1_moves 70 = aIcLt 73 295 := (y_X1_moves_3 5).trans rfl
theorem n_X1_moves_73 : nth t_X1_moves 73 = aLdI 6 75 := (y_X1_moves_3 8).trans rfl
theorem n_X1_moves_75 : nth t_X1_moves 75 = aIfEq 78 91 := (y_X1_moves_3 10).trans rfl
theorem n_X1_moves_78 : nth t_X1_moves 78 = aLdA 0 79 := (y_X1_moves_3 13).trans rfl
theorem n_X1_moves_79 : nth t_X1_moves 79 = aGetR 4 [0] 82 := (y_X1_moves_3 14).trans rfl
theorem n_X1_moves_82 : nth t_X1_moves 82 = aGetR 0 [1] 85 := (y_X1_moves_3 17).trans rfl
theorem n_X1_moves_85 : nth t_X1_moves 85 = aLdI 5 87 := (y_X1_moves_3 20).trans rfl
theorem n_X1_moves_87 : nth t_X1_moves 87 = aAldI 88 := (y_X1_moves_3 22).trans rfl
theorem n_X1_moves_88 : nth t_X1_moves 88 = aGoto 101 := (y_X1_moves_3 23).trans rfl
theorem y_X1_moves_4 (n : Nat) : nth t_X1_moves (n + 91) = nth t_X1_moves_c4 n := (y_X1_moves_3 (n + 26)).trans rfl
theorem n_X1_moves_91 : nth t_X1_moves 91 = aLdA 0 92 := (y_X1_moves_4 0).trans rfl
theorem n_X1_moves_92 : nth t_X1_moves 92 = aGetR 4 [0] 95 := (y_X1_moves_4 1).trans rfl
theorem n_X1_moves_95 : nth t_X1_moves 95 = aGetR 1 [1] 98 := (y_X1_moves_4 4).trans rfl
theorem n_X1_moves_98 : nth t_X1_moves 98 = aLdI 5 100 := (y_X1_moves_4 7).trans rfl
theorem n_X1_moves_100 : nth t_X1_moves 100 = aAldI 101 := (y_X1_moves_4 9).trans rfl
theorem n_X1_moves_101 : nth t_X1_moves 101 = aStI 7 103 := (y_X1_moves_4 10).trans rfl
theorem n_X1_moves_103 : nth t_X1_moves 103 = aLdI 7 105 := (y_X1_moves_4 12).trans rfl
theorem n_X1_moves_105 : nth t_X1_moves 105 = aCalS 83 1 108 none := (y_X1_moves_4 14).trans rfl
theorem n_X1_moves_108 : nth t_X1_moves 108 = aStA 8 110 := (y_X1_moves_4 17).trans rfl
theorem n_X1_moves_110 : nth t_X1_moves 110 = aK (.int 0) 111 := (y_X1_moves_4 19).trans rfl
theorem n_X1_moves_111 : nth t_X1_moves 111 = aStI 9 113 := (y_X1_moves_4 20).trans rfl
theorem n_X1_moves_113 : nth t_X1_moves 113 = aLdI 9 115 := (y_X1_moves_4 22).trans rfl
theorem y_X1_moves_5 (n : Nat) : nth t_X1_moves (n + 115) = nth t_X1_moves_c5 n := (y_X1_moves_4 (n + 24)).trans rfl
theorem n_X1_moves_115 : nth t_X1_moves 115 = aLdA 8 117 := (y_X1_moves_5 0).trans rfl
theorem n_X1_moves_117 : nth t_X1_moves 117 = aCalS 84 1 120 none := (y_X1_moves_5 2).trans rfl
theorem n_X1_moves_120 : nth t_X1_moves 120 = aIcLt 123 289 := (y_X1_moves_5 5).trans rfl
theorem n_X1_moves_123 : nth t_X1_moves 123 = aLdA 8 125 := (y_X1_moves_5 8).trans rfl
theorem n_X1_moves_125 : nth t_X1_moves 125 = aGetS 1 128 := (y_X1_moves_5 10).trans rfl
theorem n_X1_moves_128 : nth t_X1_moves 128 = aLdI 9 130 := (y_X1_moves_5 13).trans rfl
theorem n_X1_moves_130 : nth t_X1_moves 130 = aB (fun x y => x + y) 131 := (y_X1_moves_5 15).trans rfl
theorem n_X1_moves_131 : nth t_X1_moves 131 = aStI 10 133 := (y_X1_moves_5 16).trans rfl
theorem n_X1_moves_133 : nth t_X1_moves 133 = aLdI 10 135 := (y_X1_moves_5 18).trans rfl
theorem n_X1_moves_135 : nth t_X1_moves 135 = aLdI 7 137 := (y_X1_moves_5 20).trans rfl
theorem n_X1_moves_137 : nth t_X1_moves 137 = aIcEq 283 140 := (y_X1_moves_5 22).trans rfl
theorem n_X1_moves_140 : nth t_X1_moves 140 = aLdI 10 142 := (y_X1_moves_5 25).trans rfl
theorem y_X1_moves_6 (n : Nat) : nth t_X1_moves (n + 142) = nth t_X1_moves_c6 n := (y_X1_moves_5 (n + 27)).trans rfl
theorem n_X1_moves_142 : nth t_X1_moves 142 = aLdI 6 144 := (y_X1_moves_6 0).trans rfl
theorem n_X1_moves_144 : nth t_X1_moves 144 = aIfEq 147 160 := (y_X1_moves_6 2).trans rfl
theorem n_X1_moves_147 : nth t_X1_moves 147 = aLdA 0 148 := (y_X1_moves_6 5).trans rfl
theorem n_X1_moves_148 : nth t_X1_moves 148 = aGetR 4 [0] 151 := (y_X1_moves_6 6).trans rfl
theorem n_X1_moves_151 : nth t_X1_moves 151 = aGetR 1 [1] 154 := (y_X1_moves_6 9).trans rfl
theorem n_X1_moves_154 : nth t_X1_moves 154 = aLdI 5 156 := (y_X1_moves_6 12).trans rfl
theorem n_X1_moves_156 : nth t_X1_moves 156 = aAldI 157 := (y_X1_moves_6 14).trans rfl
theorem n_X1_moves_157 : nth t_X1_moves 157 = aGoto 170 := (y_X1_moves_6 15).trans rfl
theorem n_X1_moves_160 : nth t_X1_moves 160 = aLdA 0 161 := (y_X1_moves_6 18).trans rfl
theorem n_X1_moves_161 : nth t_X1_moves 161 = aGetR 4 [0] 164 := (y_X1_moves_6 19).trans rfl
theorem n_X1_moves_164 : nth t_X1_moves 164 = aGetR 0 [1] 167 := (y_X1_moves_6 22).trans rfl
theorem n_X1_moves_167 : nth t_X1_moves 167 = aLdI 5 169 := (y_X1_moves_6 25).trans rfl
theorem y_X1_moves_7 (n : Nat) : nth t_X1_moves (n + 169) = nth t_X1_moves_c7 n := (y_X1_moves_6 (n + 27)).trans rfl
theorem n_X1_moves_169 : nth t_X1_moves 169 = aAldI 170 := (y_X1_moves_7 0).trans rfl
theorem n_X1_moves_170 : nth t_X1_moves 170 = aIcEq 283 173 := (y_X1_moves_7 1).trans rfl
theorem n_X1_moves_173 : nth t_X1_moves 173 = aLdA 0 174 := (y_X1_moves_7 4).trans rfl
theorem n_X1_moves_174 : nth t_X1_moves 174 = aLdI 10 176 := (y_X1_moves_7 5).trans rfl
theorem n_X1_moves_176 : nth t_X1_moves 176 = aCalV 85 1 179 [0] none := (y_X1_moves_7 7).trans rfl
theorem n_X1_moves_179 : nth t_X1_moves 179 = aLdI 10 181 := (y_X1_moves_7 10).trans rfl
theorem n_X1_moves_181 : nth t_X1_moves 181 = aCalS 48 1 184 none := (y_X1_moves_7 12).trans rfl
theorem n_X1_moves_184 : nth t_X1_moves 184 = aIcLt 190 187 := (y_X1_moves_7 15).trans rfl
theorem n_X1_moves_187 : nth t_X1_moves 187 = aGoto 283 := (y_X1_moves_7 18).trans rfl
theorem n_X1_moves_190 : nth t_X1_moves 190 = aLdA 0 191 := (y_X1_moves_7 21).trans rfl
theorem n_X1_moves_191 : nth t_X1_moves 191 = aGetR 5 [0] 194 := (y_X1_moves_7 22).trans rfl
theorem n_X1_moves_194 : nth t_X1_moves 194 = aLdA 0 195 := (y_X1_moves_7 25).trans rfl
theorem y_X1_moves_8 (n : Nat) : nth t_X1_moves (n + 195) = nth t_X1_moves_c8 n := (y_X1_moves_7 (n + 26)).trans rfl
theorem n_X1_moves_195 : nth t_X1_moves 195 = aGetR 28 [0] 198 := (y_X1_moves_8 0).trans rfl
theorem n_X1_moves_198 : nth t_X1_moves 198 = aLdA 0 199 := (y_X1_moves_8 3).trans rfl
theorem n_X1_moves_199 : nth t_X1_moves 199 = aGetR 4 [0] 202 := (y_X1_moves_8 4).trans rfl
theorem n_X1_moves_202 : nth t_X1_moves 202 = aLdI 5 204 := (y_X1_moves_8 7).trans rfl
theorem n_X1_moves_204 : nth t_X1_moves 204 = aLdI 6 206 := (y_X1_moves_8 9).trans rfl
theorem n_X1_moves_206 : nth t_X1_moves 206 = aLdI 10 208 := (y_X1_moves_8 11).trans rfl
theorem n_X1_moves_208 : nth t_X1_moves 208 = aCalV 116 4 211 [1] none := (y_X1_moves_8 13).trans rfl
theorem n_X1_moves_211 : nth t_X1_moves 211 = aK (.int (-1)) 212 := (y_X1_moves_8 16).trans rfl
theorem n_X1_moves_212 : nth t_X1_moves 212 = aLdA 0 213 := (y_X1_moves_8 17).trans rfl
theorem n_X1_moves_213 : nth t_X1_moves 213 = aGetR 3 [0] 216 := (y_X1_moves_8 18).trans rfl
theorem n_X1_moves_216 : nth t_X1_moves 216 = aLdI 1 217 := (y_X1_moves_8 21).trans rfl
theorem n_X1_moves_217 : nth t_X1_moves 217 = aAldA 218 := (y_X1_moves_8 22).trans rfl
theorem y_X1_moves_9 (n : Nat) : nth t_X1_moves (n + 218) = nth t_X1_moves_c9 n := (y_X1_moves_8 (n + 23)).trans rfl
theorem n_X1_moves_218 : nth t_X1_moves 218 = aGetR 0 [5] 221 := (y_X1_moves_9 0).trans rfl
theorem n_X1_moves_221 : nth t_X1_moves 221 = aK (.int 0) 222 := (y_X1_moves_9 3).trans rfl
theorem n_X1_moves_222 : nth t_X1_moves 222 = aLdI 4 224 := (y_X1_moves_9 4).trans rfl
theorem n_X1_moves_224 : nth t_X1_moves 224 = aK (.int 40) 226 := (y_X1_moves_9 6).trans rfl
theorem n_X1_moves_226 : nth t_X1_moves 226 = aLdA 0 227 := (y_X1_moves_9 8).trans rfl
theorem n_X1_moves_227 : nth t_X1_moves 227 = aGetR 8 [0] 230 := (y_X1_moves_9 9).trans rfl
theorem n_X1_moves_230 : nth t_X1_moves 230 = aCalV 121 7 233 [2] none := (y_X1_moves_9 12).trans rfl
theorem n_X1_moves_233 : nth t_X1_moves 233 = aLdA 0 234 := (y_X1_moves_9 15).trans rfl
theorem n_X1_moves_234 : nth t_X1_moves 234 = aGetR 8 [0] 237 := (y_X1_moves_9 16).trans rfl
theorem n_X1_moves_237 : nth t_X1_moves 237 = aLdA 0 238 := (y_X1_moves_9 19).trans rfl
theorem n_X1_moves_238 : nth t_X1_moves 238 = aGetR 7 [0] 241 := (y_X1_moves_9 20).trans rfl
theorem n_X1_moves_241 : nth t_X1_moves 241 = aCalV 139 1 244 [3] none := (y_X1_moves_9 23).trans rfl
theorem y_X1_moves_10 (n : Nat) : nth t_X1_moves (n + 244) = nth t_X1_moves_c10 n := (y_X1_moves_9 (n + 26)).trans rfl
theorem n_X1_moves_244 : nth t_X1_moves 244 = aIfEq 247 250 := (y_X1_moves_10 0).trans rfl
theorem n_X1_moves_247 : nth t_X1_moves 247 = aGoto 283 := (y_X1_moves_10 3).trans rfl
theorem n_X1_moves_250 : nth t_X1_moves 250 = aLdI 3 251 := (y_X1_moves_10 6).trans rfl
theorem n_X1_moves_251 : nth t_X1_moves 251 = aK (.int 100) 253 := (y_X1_moves_10 7).trans rfl
theorem n_X1_moves_253 : nth t_X1_moves 253 = aIcLt 256 280 := (y_X1_moves_10 9).trans rfl
theorem n_X1_moves_256 : nth t_X1_moves 256 = aLdA 0 257 := (y_X1_moves_10 12).trans rfl
theorem n_X1_moves_257 : nth t_X1_moves 257 = aGetR 24 [0] 260 := (y_X1_moves_10 13).trans rfl
theorem n_X1_moves_260 : nth t_X1_moves 260 = aLdI 3 261 := (y_X1_moves_10 16).trans rfl
theorem n_X1_moves_261 : nth t_X1_moves 261 = aLdI 5 263 := (y_X1_moves_10 17).trans rfl
theorem n_X1_moves_263 : nth t_X1_moves 263 = aAstI 264 := (y_X1_moves_10 19).trans rfl
theorem n_X1_moves_264 : nth t_X1_moves 264 = aLdA 0 265 := (y_X1_moves_10 20).trans rfl
theorem n_X1_moves_265 : nth t_X1_moves 265 = aGetR 25 [0] 268 := (y_X1_moves_10 21).trans rfl
theorem y_X1_moves_11 (n : Nat) : nth t_X1_moves (n + 268) = nth t_X1_moves_c11 n := (y_X1_moves_10 (n + 24)).trans rfl
theorem n_X1_moves_268 : nth t_X1_moves 268 = aLdI 3 269 := (y_X1_moves_11 0).trans rfl
theorem n_X1_moves_269 : nth t_X1_moves 269 = aLdI 6 271 := (y_X1_moves_11 1).trans rfl
theorem n_X1_moves_271 : nth t_X1_moves 271 = aAstI 272 := (y_X1_moves_11 3).trans rfl
theorem n_X1_moves_272 : nth t_X1_moves 272 = aLdA 0 273 := (y_X1_moves_11 4).trans rfl
theorem n_X1_moves_273 : nth t_X1_moves 273 = aGetR 26 [0] 276 := (y_X1_moves_11 5).trans rfl
theorem n_X1_moves_276 : nth t_X1_moves 276 = aLdI 3 277 := (y_X1_moves_11 8).trans rfl
theorem n_X1_moves_277 : nth t_X1_moves 277 = aLdI 9 279 := (y_X1_moves_11 9).trans rfl
theorem n_X1_moves_279 : nth t_X1_moves 279 = aAstI 280 := (y_X1_moves_11 11).trans rfl
theorem n_X1_moves_280 : nth t_X1_moves 280 = aInc 3 1 283 := (y_X1_moves_11 12).trans rfl
theorem n_X1_moves_283 : nth t_X1_moves 283 = aInc 9 1 286 := (y_X1_moves_11 15).trans rfl
theorem n_X1_moves_286 : nth t_X1_moves 286 = aGoto 113 := (y_X1_moves_11 18).trans rfl
theorem n_X1_moves_289 : nth t_X1_moves 289 = aInc 6 1 292 := (y_X1_moves_11 21).trans rfl
theorem y_X1_moves_12 (n : Nat) : nth t_X1_moves (n + 292) = nth t_X1_moves_c12 n := (y_X1_moves_11 (n + 24)).trans rfl
theorem n_X1_moves_292 : nth t_X1_moves 292 = aGoto 67 := (y_X1_moves_12 0).trans rfl
theorem n_X1_moves_295 : nth t_X1_moves 295 = aInc 5 1 298 := (y_X1_moves_12 3).trans rfl
theorem n_X1_moves_298 : nth t_X1_moves 298 = aGoto 52 := (y_X1_moves_12 6).trans rfl
theorem n_X1_moves_301 : nth t_X1_moves 301 = aLdA 0 302 := (y_X1_moves_12 9).trans rfl
theorem n_X1_moves_302 : nth t_X1_moves 302 = aK (.int 100) 304 := (y_X1_moves_12 10).trans rfl
theorem n_X1_moves_304 : nth t_X1_moves 304 = aLdI 3 305 := (y_X1_moves_12 12).trans rfl
theorem n_X1_moves_305 : nth t_X1_moves 305 = aMin 308 := (y_X1_moves_12 13).trans rfl
theorem n_X1_moves_308 : nth t_X1_moves 308 = aPutI 27 [0] 311 := (y_X1_moves_12 16).trans rfl
theorem n_X1_moves_311 : nth t_X1_moves 311 = aLdI 3 312 := (y_X1_moves_12 19).trans rfl
theorem n_X1_moves_312 : nth t_X1_moves 312 = aRetI := (y_X1_moves_12 20).trans rfl
theorem n_X1_sortOf_0 : nth t_X1_sortOf 0 = aK .null 1 := rfl
theorem n_X1_sortOf_1 : nth t_X1_sortOf 1 = aStA 1 2 := rfl
theorem n_X1_sortOf_2 : nth t_X1_sortOf 2 = aK (.ref 9) 5 := rfl
theorem n_X1_sortOf_5 : nth t_X1_sortOf 5 = aStA 2 6 := rfl
theorem n_X1_sortOf_6 : nth t_X1_sortOf 6 = aLdA 2 7 := rfl
theorem n_X1_sortOf_7 : nth t_X1_sortOf 7 = aLen 8 := rfl
theorem n_X1_sortOf_8 : nth t_X1_sortOf 8 = aStI 3 9 := rfl
theorem n_X1_sortOf_9 : nth t_X1_sortOf 9 = aK (.int 0) 10 := rfl
theorem n_X1_sortOf_10 : nth t_X1_sortOf 10 = aStI 4 12 := rfl
theorem n_X1_sortOf_12 : nth t_X1_sortOf 12 = aLdI 4 14 := rfl
theorem n_X1_sortOf_14 : nth t_X1_sortOf 14 = aLdI 3 15 := rfl
theorem n_X1_sortOf_15 : nth t_X1_sortOf 15 = aIcLt 18 58 := rfl
theorem y_X1_sortOf_1 (n : Nat) : nth t_X1_sortOf (n + 18) = nth t_X1_sortOf_c1 n := rfl
theorem n_X1_sortOf_18 : nth t_X1_sortOf 18 = aLdA 2 19 := (y_X1_sortOf_1 0).trans rfl
theorem n_X1_sortOf_19 : nth t_X1_sortOf 19 = aLdI 4 21 := (y_X1_sortOf_1 1).trans rfl
theorem n_X1_sortOf_21 : nth t_X1_sortOf 21 = aAldA 22 := (y_X1_sortOf_1 3).trans rfl
theorem n_X1_sortOf_22 : nth t_X1_sortOf 22 = aStA 5 24 := (y_X1_sortOf_1 4).trans rfl
theorem n_X1_sortOf_24 : nth t_X1_sortOf 24 = aLdA 5 26 := (y_X1_sortOf_1 6).trans rfl
theorem n_X1_sortOf_26 : nth t_X1_sortOf 26 = aGetS 1 29 := (y_X1_sortOf_1 8).trans rfl
theorem n_X1_sortOf_29 : nth t_X1_sortOf 29 = aLdI 0 30 := (y_X1_sortOf_1 11).trans rfl
theorem n_X1_sortOf_30 : nth t_X1_sortOf 30 = aIcLe 33 52 := (y_X1_sortOf_1 12).trans rfl
theorem n_X1_sortOf_33 : nth t_X1_sortOf 33 = aLdA 1 34 := (y_X1_sortOf_1 15).trans rfl
theorem n_X1_sortOf_34 : nth t_X1_sortOf 34 = aIfN 49 37 := (y_X1_sortOf_1 16).trans rfl
theorem n_X1_sortOf_37 : nth t_X1_sortOf 37 = aLdA 5 39 := (y_X1_sortOf_1 19).trans rfl
theorem n_X1_sortOf_39 : nth t_X1_sortOf 39 = aGetS 1 42 := (y_X1_sortOf_1 21).trans rfl
theorem y_X1_sortOf_2 (n : Nat) : nth t_X1_sortOf (n + 42) = nth t_X1_sortOf_c2 n := (y_X1_sortOf_1 (n + 24)).trans rfl
theorem n_X1_sortOf_42 : nth t_X1_sortOf 42 = aLdA 1 43 := (y_X1_sortOf_2 0).trans rfl
theorem n_X1_sortOf_43 : nth t_X1_sortOf 43 = aGetS 1 46 := (y_X1_sortOf_2 1).trans rfl
theorem n_X1_sortOf_46 : nth t_X1_sortOf 46 = aIcLe 52 49 := (y_X1_sortOf_2 4).trans rfl
theorem n_X1_sortOf_49 : nth t_X1_sortOf 49 = aLdA 5 51 := (y_X1_sortOf_2 7).trans rfl
theorem n_X1_sortOf_51 : nth t_X1_sortOf 51 = aStA 1 52 := (y_X1_sortOf_2 9).trans rfl
theorem n_X1_sortOf_52 : nth t_X1_sortOf 52 = aInc 4 1 55 := (y_X1_sortOf_2 10).trans rfl
theorem n_X1_sortOf_55 : nth t_X1_sortOf 55 = aGoto 12 := (y_X1_sortOf_2 13).trans rfl
theorem n_X1_sortOf_58 : nth t_X1_sortOf 58 = aLdA 1 59 := (y_X1_sortOf_2 16).trans rfl
theorem n_X1_sortOf_59 : nth t_X1_sortOf 59 = aRetA := (y_X1_sortOf_2 17).trans rfl
theorem n_X1_manyOf_0 : nth t_X1_manyOf 0 = aK (.int 1) 1 := rfl
theorem n_X1_manyOf_1 : nth t_X1_manyOf 1 = aLdA 0 2 := rfl
theorem n_X1_manyOf_2 : nth t_X1_manyOf 2 = aGetS 2 5 := rfl
theorem n_X1_manyOf_5 : nth t_X1_manyOf 5 = aMax 8 := rfl
theorem n_X1_manyOf_8 : nth t_X1_manyOf 8 = aK (.int 1) 9 := rfl
theorem n_X1_manyOf_9 : nth t_X1_manyOf 9 = aLdA 0 10 := rfl
theorem n_X1_manyOf_10 : nth t_X1_manyOf 10 = aGetS 3 13 := rfl
theorem n_X1_manyOf_13 : nth t_X1_manyOf 13 = aMax 16 := rfl
theorem n_X1_manyOf_16 : nth t_X1_manyOf 16 = aB (fun x y => x * y) 17 := rfl
theorem n_X1_manyOf_17 : nth t_X1_manyOf 17 = aRetI := rfl
theorem n_X1_wiresOf_0 : nth t_X1_wiresOf 0 = aK (.int 0) 1 := rfl
theorem n_X1_wiresOf_1 : nth t_X1_wiresOf 1 = aStI 2 2 := rfl
theorem n_X1_wiresOf_2 : nth t_X1_wiresOf 2 = aK (.int 0) 3 := rfl
theorem n_X1_wiresOf_3 : nth t_X1_wiresOf 3 = aStI 3 4 := rfl
theorem n_X1_wiresOf_4 : nth t_X1_wiresOf 4 = aLdI 3 5 := rfl
theorem n_X1_wiresOf_5 : nth t_X1_wiresOf 5 = aLdA 0 6 := rfl
theorem n_X1_wiresOf_6 : nth t_X1_wiresOf 6 = aGetR 4 [0] 9 := rfl
theorem n_X1_wiresOf_9 : nth t_X1_wiresOf 9 = aGetI 2 [1] 12 := rfl
theorem n_X1_wiresOf_12 : nth t_X1_wiresOf 12 = aIcLt 15 53 := rfl
theorem n_X1_wiresOf_15 : nth t_X1_wiresOf 15 = aLdA 0 16 := rfl
theorem n_X1_wiresOf_16 : nth t_X1_wiresOf 16 = aGetR 4 [0] 19 := rfl
theorem n_X1_wiresOf_19 : nth t_X1_wiresOf 19 = aGetR 0 [1] 22 := rfl
theorem y_X1_wiresOf_1 (n : Nat) : nth t_X1_wiresOf (n + 22) = nth t_X1_wiresOf_c1 n := rfl
theorem n_X1_wiresOf_22 : nth t_X1_wiresOf 22 = aLdI 3 23 := (y_X1_wiresOf_1 0).trans rfl
theorem n_X1_wiresOf_23 : nth t_X1_wiresOf 23 = aAldI 24 := (y_X1_wiresOf_1 1).trans rfl
theorem n_X1_wiresOf_24 : nth t_X1_wiresOf 24 = aLdI 1 25 := (y_X1_wiresOf_1 2).trans rfl
theorem n_X1_wiresOf_25 : nth t_X1_wiresOf 25 = aIcEq 28 31 := (y_X1_wiresOf_1 3).trans rfl
theorem n_X1_wiresOf_28 : nth t_X1_wiresOf 28 = aInc 2 1 31 := (y_X1_wiresOf_1 6).trans rfl
theorem n_X1_wiresOf_31 : nth t_X1_wiresOf 31 = aLdA 0 32 := (y_X1_wiresOf_1 9).trans rfl
theorem n_X1_wiresOf_32 : nth t_X1_wiresOf 32 = aGetR 4 [0] 35 := (y_X1_wiresOf_1 10).trans rfl
theorem n_X1_wiresOf_35 : nth t_X1_wiresOf 35 = aGetR 1 [1] 38 := (y_X1_wiresOf_1 13).trans rfl
theorem n_X1_wiresOf_38 : nth t_X1_wiresOf 38 = aLdI 3 39 := (y_X1_wiresOf_1 16).trans rfl
theorem n_X1_wiresOf_39 : nth t_X1_wiresOf 39 = aAldI 40 := (y_X1_wiresOf_1 17).trans rfl
theorem n_X1_wiresOf_40 : nth t_X1_wiresOf 40 = aLdI 1 41 := (y_X1_wiresOf_1 18).trans rfl
theorem n_X1_wiresOf_41 : nth t_X1_wiresOf 41 = aIcEq 44 47 := (y_X1_wiresOf_1 19).trans rfl
theorem y_X1_wiresOf_2 (n : Nat) : nth t_X1_wiresOf (n + 44) = nth t_X1_wiresOf_c2 n := (y_X1_wiresOf_1 (n + 22)).trans rfl
theorem n_X1_wiresOf_44 : nth t_X1_wiresOf 44 = aInc 2 1 47 := (y_X1_wiresOf_2 0).trans rfl
theorem n_X1_wiresOf_47 : nth t_X1_wiresOf 47 = aInc 3 1 50 := (y_X1_wiresOf_2 3).trans rfl
theorem n_X1_wiresOf_50 : nth t_X1_wiresOf 50 = aGoto 4 := (y_X1_wiresOf_2 6).trans rfl
theorem n_X1_wiresOf_53 : nth t_X1_wiresOf 53 = aLdI 2 54 := (y_X1_wiresOf_2 9).trans rfl
theorem n_X1_wiresOf_54 : nth t_X1_wiresOf 54 = aRetI := (y_X1_wiresOf_2 10).trans rfl
theorem n_X1_move_0 : nth t_X1_move 0 = aLdI 1 1 := rfl
theorem n_X1_move_1 : nth t_X1_move 1 = aK (.int 0) 2 := rfl
theorem n_X1_move_2 : nth t_X1_move 2 = aLdA 0 3 := rfl
theorem n_X1_move_3 : nth t_X1_move 3 = aGetI 27 [0] 6 := rfl
theorem n_X1_move_6 : nth t_X1_move 6 = aK (.int 1) 7 := rfl
theorem n_X1_move_7 : nth t_X1_move 7 = aB (fun x y => x - y) 8 := rfl
theorem n_X1_move_8 : nth t_X1_move 8 = aCalS 43 3 11 none := rfl
theorem n_X1_move_11 : nth t_X1_move 11 = aIfEq 14 16 := rfl
theorem n_X1_move_14 : nth t_X1_move 14 = aK (.int (-1)) 15 := rfl
theorem n_X1_move_15 : nth t_X1_move 15 = aRetI := rfl
theorem n_X1_move_16 : nth t_X1_move 16 = aLdI 2 17 := rfl
theorem n_X1_move_17 : nth t_X1_move 17 = aIfEq 20 29 := rfl
theorem y_X1_move_1 (n : Nat) : nth t_X1_move (n + 20) = nth t_X1_move_c1 n := rfl
theorem n_X1_move_20 : nth t_X1_move 20 = aLdA 0 21 := (y_X1_move_1 0).trans rfl
theorem n_X1_move_21 : nth t_X1_move 21 = aGetR 24 [0] 24 := (y_X1_move_1 1).trans rfl
theorem n_X1_move_24 : nth t_X1_move 24 = aLdI 1 25 := (y_X1_move_1 4).trans rfl
theorem n_X1_move_25 : nth t_X1_move 25 = aAldI 26 := (y_X1_move_1 5).trans rfl
theorem n_X1_move_26 : nth t_X1_move 26 = aGoto 58 := (y_X1_move_1 6).trans rfl
theorem n_X1_move_29 : nth t_X1_move 29 = aLdI 2 30 := (y_X1_move_1 9).trans rfl
theorem n_X1_move_30 : nth t_X1_move 30 = aK (.int 1) 31 := (y_X1_move_1 10).trans rfl
theorem n_X1_move_31 : nth t_X1_move 31 = aIcEq 34 43 := (y_X1_move_1 11).trans rfl
theorem n_X1_move_34 : nth t_X1_move 34 = aLdA 0 35 := (y_X1_move_1 14).trans rfl
theorem n_X1_move_35 : nth t_X1_move 35 = aGetR 25 [0] 38 := (y_X1_move_1 15).trans rfl
theorem n_X1_move_38 : nth t_X1_move 38 = aLdI 1 39 := (y_X1_move_1 18).trans rfl
theorem n_X1_move_39 : nth t_X1_move 39 = aAldI 40 := (y_X1_move_1 19).trans rfl
theorem y_X1_move_2 (n : Nat) : nth t_X1_move (n + 40) = nth t_X1_move_c2 n := (y_X1_move_1 (n + 20)).trans rfl
theorem n_X1_move_40 : nth t_X1_move 40 = aGoto 58 := (y_X1_move_2 0).trans rfl
theorem n_X1_move_43 : nth t_X1_move 43 = aLdI 2 44 := (y_X1_move_2 3).trans rfl
theorem n_X1_move_44 : nth t_X1_move 44 = aK (.int 2) 45 := (y_X1_move_2 4).trans rfl
theorem n_X1_move_45 : nth t_X1_move 45 = aIcEq 48 57 := (y_X1_move_2 5).trans rfl
theorem n_X1_move_48 : nth t_X1_move 48 = aLdA 0 49 := (y_X1_move_2 8).trans rfl
theorem n_X1_move_49 : nth t_X1_move 49 = aGetR 26 [0] 52 := (y_X1_move_2 9).trans rfl
theorem n_X1_move_52 : nth t_X1_move 52 = aLdI 1 53 := (y_X1_move_2 12).trans rfl
theorem n_X1_move_53 : nth t_X1_move 53 = aAldI 54 := (y_X1_move_2 13).trans rfl
theorem n_X1_move_54 : nth t_X1_move 54 = aGoto 58 := (y_X1_move_2 14).trans rfl
theorem n_X1_move_57 : nth t_X1_move 57 = aK (.int (-1)) 58 := (y_X1_move_2 17).trans rfl
theorem n_X1_move_58 : nth t_X1_move 58 = aRetI := (y_X1_move_2 18).trans rfl
theorem n_X1_keep_0 : nth t_X1_keep 0 = aLdI 1 1 := rfl
theorem n_X1_keep_1 : nth t_X1_keep 1 = aK (.int 0) 2 := rfl
theorem n_X1_keep_2 : nth t_X1_keep 2 = aK (.int 7) 4 := rfl
theorem n_X1_keep_4 : nth t_X1_keep 4 = aCalS 43 3 7 none := rfl
theorem n_X1_keep_7 : nth t_X1_keep 7 = aIfEq 10 12 := rfl
theorem n_X1_keep_10 : nth t_X1_keep 10 = aK (.int 0) 11 := rfl
theorem n_X1_keep_11 : nth t_X1_keep 11 = aRetZ := rfl
theorem n_X1_keep_12 : nth t_X1_keep 12 = aLdA 0 13 := rfl
theorem n_X1_keep_13 : nth t_X1_keep 13 = aGetR 29 [0] 16 := rfl
theorem n_X1_keep_16 : nth t_X1_keep 16 = aLdI 1 17 := rfl
theorem n_X1_keep_17 : nth t_X1_keep 17 = aLdA 0 18 := rfl
theorem n_X1_keep_18 : nth t_X1_keep 18 = aGetR 4 [0] 21 := rfl
theorem y_X1_keep_1 (n : Nat) : nth t_X1_keep (n + 21) = nth t_X1_keep_c1 n := rfl
theorem n_X1_keep_21 : nth t_X1_keep 21 = aAstA 22 := (y_X1_keep_1 0).trans rfl
theorem n_X1_keep_22 : nth t_X1_keep 22 = aK (.int 1) 23 := (y_X1_keep_1 1).trans rfl
theorem n_X1_keep_23 : nth t_X1_keep 23 = aRetZ := (y_X1_keep_1 2).trans rfl
theorem n_X1_use_0 : nth t_X1_use 0 = aLdA 0 1 := rfl
theorem n_X1_use_1 : nth t_X1_use 1 = aLdI 1 2 := rfl
theorem n_X1_use_2 : nth t_X1_use 2 = aCalV 89 1 5 [0] none := rfl
theorem n_X1_use_5 : nth t_X1_use 5 = aIfEq 8 10 := rfl
theorem n_X1_use_8 : nth t_X1_use 8 = aK (.int (-1)) 9 := rfl
theorem n_X1_use_9 : nth t_X1_use 9 = aRetI := rfl
theorem n_X1_use_10 : nth t_X1_use 10 = aLdA 0 11 := rfl
theorem n_X1_use_11 : nth t_X1_use 11 = aLdA 0 12 := rfl
theorem n_X1_use_12 : nth t_X1_use 12 = aGetR 29 [0] 15 := rfl
theorem n_X1_use_15 : nth t_X1_use 15 = aLdI 1 16 := rfl
theorem n_X1_use_16 : nth t_X1_use 16 = aAldA 17 := rfl
theorem n_X1_use_17 : nth t_X1_use 17 = aPutR 4 [0] 20 := rfl
theorem y_X1_use_1 (n : Nat) : nth t_X1_use (n + 20) = nth t_X1_use_c1 n := rfl
theorem n_X1_use_20 : nth t_X1_use 20 = aLdA 0 21 := (y_X1_use_1 0).trans rfl
theorem n_X1_use_21 : nth t_X1_use 21 = aGetR 4 [0] 24 := (y_X1_use_1 1).trans rfl
theorem n_X1_use_24 : nth t_X1_use 24 = aGetI 2 [1] 27 := (y_X1_use_1 4).trans rfl
theorem n_X1_use_27 : nth t_X1_use 27 = aRetI := (y_X1_use_1 7).trans rfl
theorem n_X1_isKept_0 : nth t_X1_isKept 0 = aLdI 1 1 := rfl
theorem n_X1_isKept_1 : nth t_X1_isKept 1 = aK (.int 0) 2 := rfl
theorem n_X1_isKept_2 : nth t_X1_isKept 2 = aK (.int 7) 4 := rfl
theorem n_X1_isKept_4 : nth t_X1_isKept 4 = aCalS 43 3 7 none := rfl
theorem n_X1_isKept_7 : nth t_X1_isKept 7 = aIfEq 23 10 := rfl
theorem n_X1_isKept_10 : nth t_X1_isKept 10 = aLdA 0 11 := rfl
theorem n_X1_isKept_11 : nth t_X1_isKept 11 = aGetR 29 [0] 14 := rfl
theorem n_X1_isKept_14 : nth t_X1_isKept 14 = aLdI 1 15 := rfl
theorem n_X1_isKept_15 : nth t_X1_isKept 15 = aAldA 16 := rfl
theorem n_X1_isKept_16 : nth t_X1_isKept 16 = aIfN 23 19 := rfl
theorem n_X1_isKept_19 : nth t_X1_isKept 19 = aK (.int 1) 20 := rfl
theorem n_X1_isKept_20 : nth t_X1_isKept 20 = aGoto 24 := rfl
theorem y_X1_isKept_1 (n : Nat) : nth t_X1_isKept (n + 23) = nth t_X1_isKept_c1 n := rfl
theorem n_X1_isKept_23 : nth t_X1_isKept 23 = aK (.int 0) 24 := (y_X1_isKept_1 0).trans rfl
theorem n_X1_isKept_24 : nth t_X1_isKept 24 = aRetZ := (y_X1_isKept_1 1).trans rfl
theorem n_X1_apart_0 : nth t_X1_apart 0 = aLdA 0 1 := rfl
theorem n_X1_apart_1 : nth t_X1_apart 1 = aLdI 1 2 := rfl
theorem n_X1_apart_2 : nth t_X1_apart 2 = aCalV 89 1 5 [0] none := rfl
theorem n_X1_apart_5 : nth t_X1_apart 5 = aIfEq 34 8 := rfl
theorem n_X1_apart_8 : nth t_X1_apart 8 = aLdA 0 9 := rfl
theorem n_X1_apart_9 : nth t_X1_apart 9 = aLdI 2 10 := rfl
theorem n_X1_apart_10 : nth t_X1_apart 10 = aCalV 89 1 13 [0] none := rfl
theorem n_X1_apart_13 : nth t_X1_apart 13 = aIfEq 34 16 := rfl
theorem n_X1_apart_16 : nth t_X1_apart 16 = aLdA 0 17 := rfl
theorem n_X1_apart_17 : nth t_X1_apart 17 = aGetR 29 [0] 20 := rfl
theorem n_X1_apart_20 : nth t_X1_apart 20 = aLdI 1 21 := rfl
theorem n_X1_apart_21 : nth t_X1_apart 21 = aAldA 22 := rfl
theorem y_X1_apart_1 (n : Nat) : nth t_X1_apart (n + 22) = nth t_X1_apart_c1 n := rfl
theorem n_X1_apart_22 : nth t_X1_apart 22 = aLdA 0 23 := (y_X1_apart_1 0).trans rfl
theorem n_X1_apart_23 : nth t_X1_apart 23 = aGetR 29 [0] 26 := (y_X1_apart_1 1).trans rfl
theorem n_X1_apart_26 : nth t_X1_apart 26 = aLdI 2 27 := (y_X1_apart_1 4).trans rfl
theorem n_X1_apart_27 : nth t_X1_apart 27 = aAldA 28 := (y_X1_apart_1 5).trans rfl
theorem n_X1_apart_28 : nth t_X1_apart 28 = aCalV 117 1 31 [1] none := (y_X1_apart_1 6).trans rfl
theorem n_X1_apart_31 : nth t_X1_apart 31 = aGoto 35 := (y_X1_apart_1 9).trans rfl
theorem n_X1_apart_34 : nth t_X1_apart 34 = aK (.int (-1)) 35 := (y_X1_apart_1 12).trans rfl
theorem n_X1_apart_35 : nth t_X1_apart 35 = aRetI := (y_X1_apart_1 13).trans rfl
theorem n_X1_friday_0 : nth t_X1_friday 0 = aLdA 0 1 := rfl
theorem n_X1_friday_1 : nth t_X1_friday 1 = aCalV 41 0 4 [0] none := rfl
theorem n_X1_friday_4 : nth t_X1_friday 4 = aStI 1 5 := rfl
theorem n_X1_friday_5 : nth t_X1_friday 5 = aLdI 1 6 := rfl
theorem n_X1_friday_6 : nth t_X1_friday 6 = aK (.int 5) 7 := rfl
theorem n_X1_friday_7 : nth t_X1_friday 7 = aDiv 8 := rfl
theorem n_X1_friday_8 : nth t_X1_friday 8 = aStI 2 9 := rfl
theorem n_X1_friday_9 : nth t_X1_friday 9 = aLdI 1 10 := rfl
theorem n_X1_friday_10 : nth t_X1_friday 10 = aK (.int 5) 11 := rfl
theorem n_X1_friday_11 : nth t_X1_friday 11 = aRem 12 := rfl
theorem n_X1_friday_12 : nth t_X1_friday 12 = aIfEq 15 25 := rfl
theorem n_X1_friday_15 : nth t_X1_friday 15 = aLdI 2 16 := rfl
theorem y_X1_friday_1 (n : Nat) : nth t_X1_friday (n + 16) = nth t_X1_friday_c1 n := rfl
theorem n_X1_friday_16 : nth t_X1_friday 16 = aK (.int 1) 17 := (y_X1_friday_1 0).trans rfl
theorem n_X1_friday_17 : nth t_X1_friday 17 = aK (.int 6) 19 := (y_X1_friday_1 1).trans rfl
theorem n_X1_friday_19 : nth t_X1_friday 19 = aCalS 43 3 22 none := (y_X1_friday_1 3).trans rfl
theorem n_X1_friday_22 : nth t_X1_friday 22 = aIfEq 25 28 := (y_X1_friday_1 6).trans rfl
theorem n_X1_friday_25 : nth t_X1_friday 25 = aK (.int (-2)) 27 := (y_X1_friday_1 9).trans rfl
theorem n_X1_friday_27 : nth t_X1_friday 27 = aRetI := (y_X1_friday_1 11).trans rfl
theorem n_X1_friday_28 : nth t_X1_friday 28 = aK (.int 0) 29 := (y_X1_friday_1 12).trans rfl
theorem n_X1_friday_29 : nth t_X1_friday 29 = aStI 3 30 := (y_X1_friday_1 13).trans rfl
theorem n_X1_friday_30 : nth t_X1_friday 30 = aLdI 3 31 := (y_X1_friday_1 14).trans rfl
theorem n_X1_friday_31 : nth t_X1_friday 31 = aLdI 2 32 := (y_X1_friday_1 15).trans rfl
theorem n_X1_friday_32 : nth t_X1_friday 32 = aIcLt 35 59 := (y_X1_friday_1 16).trans rfl
theorem n_X1_friday_35 : nth t_X1_friday 35 = aLdA 0 36 := (y_X1_friday_1 19).trans rfl
theorem y_X1_friday_2 (n : Nat) : nth t_X1_friday (n + 36) = nth t_X1_friday_c2 n := (y_X1_friday_1 (n + 20)).trans rfl
theorem n_X1_friday_36 : nth t_X1_friday 36 = aLdA 0 37 := (y_X1_friday_2 0).trans rfl
theorem n_X1_friday_37 : nth t_X1_friday 37 = aGetR 0 [0] 40 := (y_X1_friday_2 1).trans rfl
theorem n_X1_friday_40 : nth t_X1_friday 40 = aK (.int 5) 41 := (y_X1_friday_2 4).trans rfl
theorem n_X1_friday_41 : nth t_X1_friday 41 = aLdI 3 42 := (y_X1_friday_2 5).trans rfl
theorem n_X1_friday_42 : nth t_X1_friday 42 = aB (fun x y => x * y) 43 := (y_X1_friday_2 6).trans rfl
theorem n_X1_friday_43 : nth t_X1_friday 43 = aAldB 44 := (y_X1_friday_2 7).trans rfl
theorem n_X1_friday_44 : nth t_X1_friday 44 = aCalV 89 1 47 [0] none := (y_X1_friday_2 8).trans rfl
theorem n_X1_friday_47 : nth t_X1_friday 47 = aIfEq 50 53 := (y_X1_friday_2 11).trans rfl
theorem n_X1_friday_50 : nth t_X1_friday 50 = aK (.int (-2)) 52 := (y_X1_friday_2 14).trans rfl
theorem n_X1_friday_52 : nth t_X1_friday 52 = aRetI := (y_X1_friday_2 16).trans rfl
theorem n_X1_friday_53 : nth t_X1_friday 53 = aInc 3 1 56 := (y_X1_friday_2 17).trans rfl
theorem n_X1_friday_56 : nth t_X1_friday 56 = aGoto 30 := (y_X1_friday_2 20).trans rfl
theorem y_X1_friday_3 (n : Nat) : nth t_X1_friday (n + 59) = nth t_X1_friday_c3 n := (y_X1_friday_2 (n + 23)).trans rfl
theorem n_X1_friday_59 : nth t_X1_friday 59 = aNew 1 3 62 := (y_X1_friday_3 0).trans rfl
theorem n_X1_friday_62 : nth t_X1_friday 62 = aDup 63 := (y_X1_friday_3 3).trans rfl
theorem n_X1_friday_63 : nth t_X1_friday 63 = aCalI 114 0 66 none := (y_X1_friday_3 4).trans rfl
theorem n_X1_friday_66 : nth t_X1_friday 66 = aStA 3 67 := (y_X1_friday_3 7).trans rfl
theorem n_X1_friday_67 : nth t_X1_friday 67 = aK (.int 0) 68 := (y_X1_friday_3 8).trans rfl
theorem n_X1_friday_68 : nth t_X1_friday 68 = aStI 4 70 := (y_X1_friday_3 9).trans rfl
theorem n_X1_friday_70 : nth t_X1_friday 70 = aLdI 4 72 := (y_X1_friday_3 11).trans rfl
theorem n_X1_friday_72 : nth t_X1_friday 72 = aLdI 2 73 := (y_X1_friday_3 13).trans rfl
theorem n_X1_friday_73 : nth t_X1_friday 73 = aIcLe 76 161 := (y_X1_friday_3 14).trans rfl
theorem n_X1_friday_76 : nth t_X1_friday 76 = aK (.int 0) 77 := (y_X1_friday_3 17).trans rfl
theorem n_X1_friday_77 : nth t_X1_friday 77 = aStI 5 79 := (y_X1_friday_3 18).trans rfl
theorem n_X1_friday_79 : nth t_X1_friday 79 = aLdI 5 81 := (y_X1_friday_3 20).trans rfl
theorem y_X1_friday_4 (n : Nat) : nth t_X1_friday (n + 81) = nth t_X1_friday_c4 n := (y_X1_friday_3 (n + 22)).trans rfl
theorem n_X1_friday_81 : nth t_X1_friday 81 = aLdI 2 82 := (y_X1_friday_4 0).trans rfl
theorem n_X1_friday_82 : nth t_X1_friday 82 = aIcLt 85 155 := (y_X1_friday_4 1).trans rfl
theorem n_X1_friday_85 : nth t_X1_friday 85 = aLdA 0 86 := (y_X1_friday_4 4).trans rfl
theorem n_X1_friday_86 : nth t_X1_friday 86 = aGetR 33 [0] 89 := (y_X1_friday_4 5).trans rfl
theorem n_X1_friday_89 : nth t_X1_friday 89 = aLdI 4 91 := (y_X1_friday_4 8).trans rfl
theorem n_X1_friday_91 : nth t_X1_friday 91 = aLdI 2 92 := (y_X1_friday_4 10).trans rfl
theorem n_X1_friday_92 : nth t_X1_friday 92 = aIcEq 95 100 := (y_X1_friday_4 11).trans rfl
theorem n_X1_friday_95 : nth t_X1_friday 95 = aK (.int 6) 97 := (y_X1_friday_4 14).trans rfl
theorem n_X1_friday_97 : nth t_X1_friday 97 = aGoto 102 := (y_X1_friday_4 16).trans rfl
theorem n_X1_friday_100 : nth t_X1_friday 100 = aLdI 4 102 := (y_X1_friday_4 19).trans rfl
theorem n_X1_friday_102 : nth t_X1_friday 102 = aAldA 103 := (y_X1_friday_4 21).trans rfl
theorem n_X1_friday_103 : nth t_X1_friday 103 = aLdI 5 105 := (y_X1_friday_4 22).trans rfl
theorem y_X1_friday_5 (n : Nat) : nth t_X1_friday (n + 105) = nth t_X1_friday_c5 n := (y_X1_friday_4 (n + 24)).trans rfl
theorem n_X1_friday_105 : nth t_X1_friday 105 = aK (.int 2) 106 := (y_X1_friday_5 0).trans rfl
theorem n_X1_friday_106 : nth t_X1_friday 106 = aLdA 0 107 := (y_X1_friday_5 1).trans rfl
theorem n_X1_friday_107 : nth t_X1_friday 107 = aGetR 29 [0] 110 := (y_X1_friday_5 2).trans rfl
theorem n_X1_friday_110 : nth t_X1_friday 110 = aLdA 0 111 := (y_X1_friday_5 5).trans rfl
theorem n_X1_friday_111 : nth t_X1_friday 111 = aGetR 0 [0] 114 := (y_X1_friday_5 6).trans rfl
theorem n_X1_friday_114 : nth t_X1_friday 114 = aK (.int 5) 115 := (y_X1_friday_5 9).trans rfl
theorem n_X1_friday_115 : nth t_X1_friday 115 = aLdI 5 117 := (y_X1_friday_5 10).trans rfl
theorem n_X1_friday_117 : nth t_X1_friday 117 = aB (fun x y => x * y) 118 := (y_X1_friday_5 12).trans rfl
theorem n_X1_friday_118 : nth t_X1_friday 118 = aAldB 119 := (y_X1_friday_5 13).trans rfl
theorem n_X1_friday_119 : nth t_X1_friday 119 = aAldA 120 := (y_X1_friday_5 14).trans rfl
theorem n_X1_friday_120 : nth t_X1_friday 120 = aLdI 4 122 := (y_X1_friday_5 15).trans rfl
theorem n_X1_friday_122 : nth t_X1_friday 122 = aLdI 2 123 := (y_X1_friday_5 17).trans rfl
theorem y_X1_friday_6 (n : Nat) : nth t_X1_friday (n + 123) = nth t_X1_friday_c6 n := (y_X1_friday_5 (n + 18)).trans rfl
theorem n_X1_friday_123 : nth t_X1_friday 123 = aIcEq 126 130 := (y_X1_friday_6 0).trans rfl
theorem n_X1_friday_126 : nth t_X1_friday 126 = aLdA 3 127 := (y_X1_friday_6 3).trans rfl
theorem n_X1_friday_127 : nth t_X1_friday 127 = aGoto 144 := (y_X1_friday_6 4).trans rfl
theorem n_X1_friday_130 : nth t_X1_friday 130 = aLdA 0 131 := (y_X1_friday_6 7).trans rfl
theorem n_X1_friday_131 : nth t_X1_friday 131 = aGetR 29 [0] 134 := (y_X1_friday_6 8).trans rfl
theorem n_X1_friday_134 : nth t_X1_friday 134 = aLdA 0 135 := (y_X1_friday_6 11).trans rfl
theorem n_X1_friday_135 : nth t_X1_friday 135 = aGetR 0 [0] 138 := (y_X1_friday_6 12).trans rfl
theorem n_X1_friday_138 : nth t_X1_friday 138 = aK (.int 5) 139 := (y_X1_friday_6 15).trans rfl
theorem n_X1_friday_139 : nth t_X1_friday 139 = aLdI 4 141 := (y_X1_friday_6 16).trans rfl
theorem n_X1_friday_141 : nth t_X1_friday 141 = aB (fun x y => x * y) 142 := (y_X1_friday_6 18).trans rfl
theorem n_X1_friday_142 : nth t_X1_friday 142 = aAldB 143 := (y_X1_friday_6 19).trans rfl
theorem n_X1_friday_143 : nth t_X1_friday 143 = aAldA 144 := (y_X1_friday_6 20).trans rfl
theorem y_X1_friday_7 (n : Nat) : nth t_X1_friday (n + 144) = nth t_X1_friday_c7 n := (y_X1_friday_6 (n + 21)).trans rfl
theorem n_X1_friday_144 : nth t_X1_friday 144 = aCalV 117 1 147 [1] none := (y_X1_friday_7 0).trans rfl
theorem n_X1_friday_147 : nth t_X1_friday 147 = aB (fun x y => x * y) 148 := (y_X1_friday_7 3).trans rfl
theorem n_X1_friday_148 : nth t_X1_friday 148 = aAstI 149 := (y_X1_friday_7 4).trans rfl
theorem n_X1_friday_149 : nth t_X1_friday 149 = aInc 5 1 152 := (y_X1_friday_7 5).trans rfl
theorem n_X1_friday_152 : nth t_X1_friday 152 = aGoto 79 := (y_X1_friday_7 8).trans rfl
theorem n_X1_friday_155 : nth t_X1_friday 155 = aInc 4 1 158 := (y_X1_friday_7 11).trans rfl
theorem n_X1_friday_158 : nth t_X1_friday 158 = aGoto 70 := (y_X1_friday_7 14).trans rfl
theorem n_X1_friday_161 : nth t_X1_friday 161 = aLdA 0 162 := (y_X1_friday_7 17).trans rfl
theorem n_X1_friday_162 : nth t_X1_friday 162 = aK (.int (-1)) 163 := (y_X1_friday_7 18).trans rfl
theorem n_X1_friday_163 : nth t_X1_friday 163 = aPutI 35 [0] 166 := (y_X1_friday_7 19).trans rfl
theorem n_X1_friday_166 : nth t_X1_friday 166 = aLdA 0 167 := (y_X1_friday_7 22).trans rfl
theorem n_X1_friday_167 : nth t_X1_friday 167 = aK (.int 0) 168 := (y_X1_friday_7 23).trans rfl
theorem y_X1_friday_8 (n : Nat) : nth t_X1_friday (n + 168) = nth t_X1_friday_c8 n := (y_X1_friday_7 (n + 24)).trans rfl
theorem n_X1_friday_168 : nth t_X1_friday 168 = aK (.int 0) 169 := (y_X1_friday_8 0).trans rfl
theorem n_X1_friday_169 : nth t_X1_friday 169 = aK (.int 0) 170 := (y_X1_friday_8 1).trans rfl
theorem n_X1_friday_170 : nth t_X1_friday 170 = aLdI 2 171 := (y_X1_friday_8 2).trans rfl
theorem n_X1_friday_171 : nth t_X1_friday 171 = aCalV 92 4 174 [0] none := (y_X1_friday_8 3).trans rfl
theorem n_X1_friday_174 : nth t_X1_friday 174 = aLdA 0 175 := (y_X1_friday_8 6).trans rfl
theorem n_X1_friday_175 : nth t_X1_friday 175 = aGetI 35 [0] 178 := (y_X1_friday_8 7).trans rfl
theorem n_X1_friday_178 : nth t_X1_friday 178 = aK (.int (-1)) 179 := (y_X1_friday_8 10).trans rfl
theorem n_X1_friday_179 : nth t_X1_friday 179 = aIcEq 182 184 := (y_X1_friday_8 11).trans rfl
theorem n_X1_friday_182 : nth t_X1_friday 182 = aK (.int (-1)) 183 := (y_X1_friday_8 14).trans rfl
theorem n_X1_friday_183 : nth t_X1_friday 183 = aRetI := (y_X1_friday_8 15).trans rfl
theorem n_X1_friday_184 : nth t_X1_friday 184 = aLdA 0 185 := (y_X1_friday_8 16).trans rfl
theorem n_X1_friday_185 : nth t_X1_friday 185 = aLdI 2 186 := (y_X1_friday_8 17).trans rfl
theorem y_X1_friday_9 (n : Nat) : nth t_X1_friday (n + 186) = nth t_X1_friday_c9 n := (y_X1_friday_8 (n + 18)).trans rfl
theorem n_X1_friday_186 : nth t_X1_friday 186 = aPutI 34 [0] 189 := (y_X1_friday_9 0).trans rfl
theorem n_X1_friday_189 : nth t_X1_friday 189 = aLdA 0 190 := (y_X1_friday_9 3).trans rfl
theorem n_X1_friday_190 : nth t_X1_friday 190 = aGetR 30 [0] 193 := (y_X1_friday_9 4).trans rfl
theorem n_X1_friday_193 : nth t_X1_friday 193 = aK (.int 0) 194 := (y_X1_friday_9 7).trans rfl
theorem n_X1_friday_194 : nth t_X1_friday 194 = aLdA 0 195 := (y_X1_friday_9 8).trans rfl
theorem n_X1_friday_195 : nth t_X1_friday 195 = aGetR 31 [0] 198 := (y_X1_friday_9 9).trans rfl
theorem n_X1_friday_198 : nth t_X1_friday 198 = aK (.int 0) 199 := (y_X1_friday_9 12).trans rfl
theorem n_X1_friday_199 : nth t_X1_friday 199 = aLdI 2 200 := (y_X1_friday_9 13).trans rfl
theorem n_X1_friday_200 : nth t_X1_friday 200 = aCopy 203 := (y_X1_friday_9 14).trans rfl
theorem n_X1_friday_203 : nth t_X1_friday 203 = aLdA 0 204 := (y_X1_friday_9 17).trans rfl
theorem n_X1_friday_204 : nth t_X1_friday 204 = aGetI 35 [0] 207 := (y_X1_friday_9 18).trans rfl
theorem n_X1_friday_207 : nth t_X1_friday 207 = aRetI := (y_X1_friday_9 21).trans rfl
theorem n_X1_plan_0 : nth t_X1_plan 0 = aLdI 1 1 := rfl
theorem n_X1_plan_1 : nth t_X1_plan 1 = aLdI 4 3 := rfl
theorem n_X1_plan_3 : nth t_X1_plan 3 = aIcEq 6 44 := rfl
theorem n_X1_plan_6 : nth t_X1_plan 6 = aLdA 0 7 := rfl
theorem n_X1_plan_7 : nth t_X1_plan 7 = aGetI 35 [0] 10 := rfl
theorem n_X1_plan_10 : nth t_X1_plan 10 = aK (.int (-1)) 11 := rfl
theorem n_X1_plan_11 : nth t_X1_plan 11 = aIcEq 23 14 := rfl
theorem n_X1_plan_14 : nth t_X1_plan 14 = aLdI 3 15 := rfl
theorem n_X1_plan_15 : nth t_X1_plan 15 = aLdA 0 16 := rfl
theorem n_X1_plan_16 : nth t_X1_plan 16 = aGetI 35 [0] 19 := rfl
theorem n_X1_plan_19 : nth t_X1_plan 19 = aIcLt 23 22 := rfl
theorem n_X1_plan_22 : nth t_X1_plan 22 = aRetV := rfl
theorem y_X1_plan_1 (n : Nat) : nth t_X1_plan (n + 23) = nth t_X1_plan_c1 n := rfl
theorem n_X1_plan_23 : nth t_X1_plan 23 = aLdA 0 24 := (y_X1_plan_1 0).trans rfl
theorem n_X1_plan_24 : nth t_X1_plan 24 = aLdI 3 25 := (y_X1_plan_1 1).trans rfl
theorem n_X1_plan_25 : nth t_X1_plan 25 = aPutI 35 [0] 28 := (y_X1_plan_1 2).trans rfl
theorem n_X1_plan_28 : nth t_X1_plan 28 = aLdA 0 29 := (y_X1_plan_1 5).trans rfl
theorem n_X1_plan_29 : nth t_X1_plan 29 = aGetR 32 [0] 32 := (y_X1_plan_1 6).trans rfl
theorem n_X1_plan_32 : nth t_X1_plan 32 = aK (.int 0) 33 := (y_X1_plan_1 9).trans rfl
theorem n_X1_plan_33 : nth t_X1_plan 33 = aLdA 0 34 := (y_X1_plan_1 10).trans rfl
theorem n_X1_plan_34 : nth t_X1_plan 34 = aGetR 30 [0] 37 := (y_X1_plan_1 11).trans rfl
theorem n_X1_plan_37 : nth t_X1_plan 37 = aK (.int 0) 38 := (y_X1_plan_1 14).trans rfl
theorem n_X1_plan_38 : nth t_X1_plan 38 = aLdI 4 40 := (y_X1_plan_1 15).trans rfl
theorem n_X1_plan_40 : nth t_X1_plan 40 = aCopy 43 := (y_X1_plan_1 17).trans rfl
theorem n_X1_plan_43 : nth t_X1_plan 43 = aRetV := (y_X1_plan_1 20).trans rfl
theorem y_X1_plan_2 (n : Nat) : nth t_X1_plan (n + 44) = nth t_X1_plan_c2 n := (y_X1_plan_1 (n + 21)).trans rfl
theorem n_X1_plan_44 : nth t_X1_plan 44 = aK (.int 0) 45 := (y_X1_plan_2 0).trans rfl
theorem n_X1_plan_45 : nth t_X1_plan 45 = aStI 5 47 := (y_X1_plan_2 1).trans rfl
theorem n_X1_plan_47 : nth t_X1_plan 47 = aLdI 5 49 := (y_X1_plan_2 3).trans rfl
theorem n_X1_plan_49 : nth t_X1_plan 49 = aLdI 4 51 := (y_X1_plan_2 5).trans rfl
theorem n_X1_plan_51 : nth t_X1_plan 51 = aIcLt 54 156 := (y_X1_plan_2 7).trans rfl
theorem n_X1_plan_54 : nth t_X1_plan 54 = aLdI 2 55 := (y_X1_plan_2 10).trans rfl
theorem n_X1_plan_55 : nth t_X1_plan 55 = aLdI 5 57 := (y_X1_plan_2 11).trans rfl
theorem n_X1_plan_57 : nth t_X1_plan 57 = aB (fun x y => x >>> (y &&& 31)) 58 := (y_X1_plan_2 13).trans rfl
theorem n_X1_plan_58 : nth t_X1_plan 58 = aK (.int 1) 59 := (y_X1_plan_2 14).trans rfl
theorem n_X1_plan_59 : nth t_X1_plan 59 = aB (fun x y => x &&& y) 60 := (y_X1_plan_2 15).trans rfl
theorem n_X1_plan_60 : nth t_X1_plan 60 = aK (.int 1) 61 := (y_X1_plan_2 16).trans rfl
theorem n_X1_plan_61 : nth t_X1_plan 61 = aIcEq 64 67 := (y_X1_plan_2 17).trans rfl
theorem y_X1_plan_3 (n : Nat) : nth t_X1_plan (n + 64) = nth t_X1_plan_c3 n := (y_X1_plan_2 (n + 20)).trans rfl
theorem n_X1_plan_64 : nth t_X1_plan 64 = aGoto 150 := (y_X1_plan_3 0).trans rfl
theorem n_X1_plan_67 : nth t_X1_plan 67 = aLdI 3 68 := (y_X1_plan_3 3).trans rfl
theorem n_X1_plan_68 : nth t_X1_plan 68 = aLdA 0 69 := (y_X1_plan_3 4).trans rfl
theorem n_X1_plan_69 : nth t_X1_plan 69 = aGetR 33 [0] 72 := (y_X1_plan_3 5).trans rfl
theorem n_X1_plan_72 : nth t_X1_plan 72 = aLdI 1 73 := (y_X1_plan_3 8).trans rfl
theorem n_X1_plan_73 : nth t_X1_plan 73 = aIfEq 76 81 := (y_X1_plan_3 9).trans rfl
theorem n_X1_plan_76 : nth t_X1_plan 76 = aK (.int 6) 78 := (y_X1_plan_3 12).trans rfl
theorem n_X1_plan_78 : nth t_X1_plan 78 = aGoto 89 := (y_X1_plan_3 14).trans rfl
theorem n_X1_plan_81 : nth t_X1_plan 81 = aLdA 0 82 := (y_X1_plan_3 17).trans rfl
theorem n_X1_plan_82 : nth t_X1_plan 82 = aGetR 32 [0] 85 := (y_X1_plan_3 18).trans rfl
theorem n_X1_plan_85 : nth t_X1_plan 85 = aLdI 1 86 := (y_X1_plan_3 21).trans rfl
theorem n_X1_plan_86 : nth t_X1_plan 86 = aK (.int 1) 87 := (y_X1_plan_3 22).trans rfl
theorem y_X1_plan_4 (n : Nat) : nth t_X1_plan (n + 87) = nth t_X1_plan_c4 n := (y_X1_plan_3 (n + 23)).trans rfl
theorem n_X1_plan_87 : nth t_X1_plan 87 = aB (fun x y => x - y) 88 := (y_X1_plan_4 0).trans rfl
theorem n_X1_plan_88 : nth t_X1_plan 88 = aAldI 89 := (y_X1_plan_4 1).trans rfl
theorem n_X1_plan_89 : nth t_X1_plan 89 = aAldA 90 := (y_X1_plan_4 2).trans rfl
theorem n_X1_plan_90 : nth t_X1_plan 90 = aLdI 5 92 := (y_X1_plan_4 3).trans rfl
theorem n_X1_plan_92 : nth t_X1_plan 92 = aAldI 93 := (y_X1_plan_4 5).trans rfl
theorem n_X1_plan_93 : nth t_X1_plan 93 = aB (fun x y => x + y) 94 := (y_X1_plan_4 6).trans rfl
theorem n_X1_plan_94 : nth t_X1_plan 94 = aLdA 0 95 := (y_X1_plan_4 7).trans rfl
theorem n_X1_plan_95 : nth t_X1_plan 95 = aK (.int 5) 96 := (y_X1_plan_4 8).trans rfl
theorem n_X1_plan_96 : nth t_X1_plan 96 = aLdI 5 98 := (y_X1_plan_4 9).trans rfl
theorem n_X1_plan_98 : nth t_X1_plan 98 = aB (fun x y => x * y) 99 := (y_X1_plan_4 11).trans rfl
theorem n_X1_plan_99 : nth t_X1_plan 99 = aK (.int 1) 100 := (y_X1_plan_4 12).trans rfl
theorem n_X1_plan_100 : nth t_X1_plan 100 = aB (fun x y => x + y) 101 := (y_X1_plan_4 13).trans rfl
theorem y_X1_plan_5 (n : Nat) : nth t_X1_plan (n + 101) = nth t_X1_plan_c5 n := (y_X1_plan_4 (n + 14)).trans rfl
theorem n_X1_plan_101 : nth t_X1_plan 101 = aCalV 93 1 104 [0] none := (y_X1_plan_5 0).trans rfl
theorem n_X1_plan_104 : nth t_X1_plan 104 = aB (fun x y => x + y) 105 := (y_X1_plan_5 3).trans rfl
theorem n_X1_plan_105 : nth t_X1_plan 105 = aStI 6 107 := (y_X1_plan_5 4).trans rfl
theorem n_X1_plan_107 : nth t_X1_plan 107 = aLdI 6 109 := (y_X1_plan_5 6).trans rfl
theorem n_X1_plan_109 : nth t_X1_plan 109 = aLdA 0 110 := (y_X1_plan_5 8).trans rfl
theorem n_X1_plan_110 : nth t_X1_plan 110 = aK (.int 5) 111 := (y_X1_plan_5 9).trans rfl
theorem n_X1_plan_111 : nth t_X1_plan 111 = aLdI 5 113 := (y_X1_plan_5 10).trans rfl
theorem n_X1_plan_113 : nth t_X1_plan 113 = aB (fun x y => x * y) 114 := (y_X1_plan_5 12).trans rfl
theorem n_X1_plan_114 : nth t_X1_plan 114 = aK (.int 3) 115 := (y_X1_plan_5 13).trans rfl
theorem n_X1_plan_115 : nth t_X1_plan 115 = aB (fun x y => x + y) 116 := (y_X1_plan_5 14).trans rfl
theorem n_X1_plan_116 : nth t_X1_plan 116 = aCalV 93 1 119 [0] none := (y_X1_plan_5 15).trans rfl
theorem n_X1_plan_119 : nth t_X1_plan 119 = aIcLe 125 122 := (y_X1_plan_5 18).trans rfl
theorem y_X1_plan_6 (n : Nat) : nth t_X1_plan (n + 122) = nth t_X1_plan_c6 n := (y_X1_plan_5 (n + 21)).trans rfl
theorem n_X1_plan_122 : nth t_X1_plan 122 = aGoto 150 := (y_X1_plan_6 0).trans rfl
theorem n_X1_plan_125 : nth t_X1_plan 125 = aLdA 0 126 := (y_X1_plan_6 3).trans rfl
theorem n_X1_plan_126 : nth t_X1_plan 126 = aGetR 32 [0] 129 := (y_X1_plan_6 4).trans rfl
theorem n_X1_plan_129 : nth t_X1_plan 129 = aLdI 1 130 := (y_X1_plan_6 7).trans rfl
theorem n_X1_plan_130 : nth t_X1_plan 130 = aLdI 5 132 := (y_X1_plan_6 8).trans rfl
theorem n_X1_plan_132 : nth t_X1_plan 132 = aAstI 133 := (y_X1_plan_6 10).trans rfl
theorem n_X1_plan_133 : nth t_X1_plan 133 = aLdA 0 134 := (y_X1_plan_6 11).trans rfl
theorem n_X1_plan_134 : nth t_X1_plan 134 = aLdI 1 135 := (y_X1_plan_6 12).trans rfl
theorem n_X1_plan_135 : nth t_X1_plan 135 = aK (.int 1) 136 := (y_X1_plan_6 13).trans rfl
theorem n_X1_plan_136 : nth t_X1_plan 136 = aB (fun x y => x + y) 137 := (y_X1_plan_6 14).trans rfl
theorem n_X1_plan_137 : nth t_X1_plan 137 = aLdI 2 138 := (y_X1_plan_6 15).trans rfl
theorem n_X1_plan_138 : nth t_X1_plan 138 = aK (.int 1) 139 := (y_X1_plan_6 16).trans rfl
theorem y_X1_plan_7 (n : Nat) : nth t_X1_plan (n + 139) = nth t_X1_plan_c7 n := (y_X1_plan_6 (n + 17)).trans rfl
theorem n_X1_plan_139 : nth t_X1_plan 139 = aLdI 5 141 := (y_X1_plan_7 0).trans rfl
theorem n_X1_plan_141 : nth t_X1_plan 141 = aB (fun x y => x <<< (y &&& 31)) 142 := (y_X1_plan_7 2).trans rfl
theorem n_X1_plan_142 : nth t_X1_plan 142 = aB (fun x y => x ||| y) 143 := (y_X1_plan_7 3).trans rfl
theorem n_X1_plan_143 : nth t_X1_plan 143 = aLdI 6 145 := (y_X1_plan_7 4).trans rfl
theorem n_X1_plan_145 : nth t_X1_plan 145 = aLdI 4 147 := (y_X1_plan_7 6).trans rfl
theorem n_X1_plan_147 : nth t_X1_plan 147 = aCalV 92 4 150 [0] none := (y_X1_plan_7 8).trans rfl
theorem n_X1_plan_150 : nth t_X1_plan 150 = aInc 5 1 153 := (y_X1_plan_7 11).trans rfl
theorem n_X1_plan_153 : nth t_X1_plan 153 = aGoto 47 := (y_X1_plan_7 14).trans rfl
theorem n_X1_plan_156 : nth t_X1_plan 156 = aRetV := (y_X1_plan_7 17).trans rfl
theorem n_X1_two_0 : nth t_X1_two 0 = aLdA 0 1 := rfl
theorem n_X1_two_1 : nth t_X1_two 1 = aGetR 0 [0] 4 := rfl
theorem n_X1_two_4 : nth t_X1_two 4 = aLdI 1 5 := rfl
theorem n_X1_two_5 : nth t_X1_two 5 = aAldB 6 := rfl
theorem n_X1_two_6 : nth t_X1_two 6 = aK (.int 255) 9 := rfl
theorem n_X1_two_9 : nth t_X1_two 9 = aB (fun x y => x &&& y) 10 := rfl
theorem n_X1_two_10 : nth t_X1_two 10 = aK (.int 8) 12 := rfl
theorem n_X1_two_12 : nth t_X1_two 12 = aB (fun x y => x <<< (y &&& 31)) 13 := rfl
theorem n_X1_two_13 : nth t_X1_two 13 = aLdA 0 14 := rfl
theorem n_X1_two_14 : nth t_X1_two 14 = aGetR 0 [0] 17 := rfl
theorem n_X1_two_17 : nth t_X1_two 17 = aLdI 1 18 := rfl
theorem n_X1_two_18 : nth t_X1_two 18 = aK (.int 1) 19 := rfl
theorem y_X1_two_1 (n : Nat) : nth t_X1_two (n + 19) = nth t_X1_two_c1 n := rfl
theorem n_X1_two_19 : nth t_X1_two 19 = aB (fun x y => x + y) 20 := (y_X1_two_1 0).trans rfl
theorem n_X1_two_20 : nth t_X1_two 20 = aAldB 21 := (y_X1_two_1 1).trans rfl
theorem n_X1_two_21 : nth t_X1_two 21 = aK (.int 255) 24 := (y_X1_two_1 2).trans rfl
theorem n_X1_two_24 : nth t_X1_two 24 = aB (fun x y => x &&& y) 25 := (y_X1_two_1 5).trans rfl
theorem n_X1_two_25 : nth t_X1_two 25 = aB (fun x y => x ||| y) 26 := (y_X1_two_1 6).trans rfl
theorem n_X1_two_26 : nth t_X1_two 26 = aRetI := (y_X1_two_1 7).trans rfl
theorem n_X1_fridayAt_0 : nth t_X1_fridayAt 0 = aLdI 1 1 := rfl
theorem n_X1_fridayAt_1 : nth t_X1_fridayAt 1 = aK (.int 0) 2 := rfl
theorem n_X1_fridayAt_2 : nth t_X1_fridayAt 2 = aLdA 0 3 := rfl
theorem n_X1_fridayAt_3 : nth t_X1_fridayAt 3 = aGetI 34 [0] 6 := rfl
theorem n_X1_fridayAt_6 : nth t_X1_fridayAt 6 = aK (.int 1) 7 := rfl
theorem n_X1_fridayAt_7 : nth t_X1_fridayAt 7 = aB (fun x y => x - y) 8 := rfl
theorem n_X1_fridayAt_8 : nth t_X1_fridayAt 8 = aCalS 43 3 11 none := rfl
theorem n_X1_fridayAt_11 : nth t_X1_fridayAt 11 = aIfEq 23 14 := rfl
theorem n_X1_fridayAt_14 : nth t_X1_fridayAt 14 = aLdA 0 15 := rfl
theorem n_X1_fridayAt_15 : nth t_X1_fridayAt 15 = aGetR 31 [0] 18 := rfl
theorem n_X1_fridayAt_18 : nth t_X1_fridayAt 18 = aLdI 1 19 := rfl
theorem n_X1_fridayAt_19 : nth t_X1_fridayAt 19 = aAldI 20 := rfl
theorem y_X1_fridayAt_1 (n : Nat) : nth t_X1_fridayAt (n + 20) = nth t_X1_fridayAt_c1 n := rfl
theorem n_X1_fridayAt_20 : nth t_X1_fridayAt 20 = aGoto 24 := (y_X1_fridayAt_1 0).trans rfl
theorem n_X1_fridayAt_23 : nth t_X1_fridayAt 23 = aK (.int (-1)) 24 := (y_X1_fridayAt_1 3).trans rfl
theorem n_X1_fridayAt_24 : nth t_X1_fridayAt 24 = aRetI := (y_X1_fridayAt_1 4).trans rfl
theorem n_X1_count_0 : nth t_X1_count 0 = aLdI 1 1 := rfl
theorem n_X1_count_1 : nth t_X1_count 1 = aSw 0 [28, 36, 79] 84 := rfl
theorem n_X1_count_28 : nth t_X1_count 28 = aLdA 0 29 := rfl
theorem n_X1_count_29 : nth t_X1_count 29 = aGetR 4 [0] 32 := rfl
theorem n_X1_count_32 : nth t_X1_count 32 = aGetI 2 [1] 35 := rfl
theorem n_X1_count_35 : nth t_X1_count 35 = aRetI := rfl
theorem n_X1_count_36 : nth t_X1_count 36 = aK (.int 0) 37 := rfl
theorem n_X1_count_37 : nth t_X1_count 37 = aStI 2 38 := rfl
theorem n_X1_count_38 : nth t_X1_count 38 = aLdA 0 39 := rfl
theorem n_X1_count_39 : nth t_X1_count 39 = aGetR 3 [0] 42 := rfl
theorem n_X1_count_42 : nth t_X1_count 42 = aStA 3 43 := rfl
theorem n_X1_count_43 : nth t_X1_count 43 = aLdA 3 44 := rfl
theorem y_X1_count_1 (n : Nat) : nth t_X1_count (n + 44) = nth t_X1_count_c1 n := rfl
theorem n_X1_count_44 : nth t_X1_count 44 = aLen 45 := (y_X1_count_1 0).trans rfl
theorem n_X1_count_45 : nth t_X1_count 45 = aStI 4 47 := (y_X1_count_1 1).trans rfl
theorem n_X1_count_47 : nth t_X1_count 47 = aK (.int 0) 48 := (y_X1_count_1 3).trans rfl
theorem n_X1_count_48 : nth t_X1_count 48 = aStI 5 50 := (y_X1_count_1 4).trans rfl
theorem n_X1_count_50 : nth t_X1_count 50 = aLdI 5 52 := (y_X1_count_1 6).trans rfl
theorem n_X1_count_52 : nth t_X1_count 52 = aLdI 4 54 := (y_X1_count_1 8).trans rfl
theorem n_X1_count_54 : nth t_X1_count 54 = aIcLt 57 77 := (y_X1_count_1 10).trans rfl
theorem n_X1_count_57 : nth t_X1_count 57 = aLdA 3 58 := (y_X1_count_1 13).trans rfl
theorem n_X1_count_58 : nth t_X1_count 58 = aLdI 5 60 := (y_X1_count_1 14).trans rfl
theorem n_X1_count_60 : nth t_X1_count 60 = aAldA 61 := (y_X1_count_1 16).trans rfl
theorem n_X1_count_61 : nth t_X1_count 61 = aStA 6 63 := (y_X1_count_1 17).trans rfl
theorem n_X1_count_63 : nth t_X1_count 63 = aLdI 2 64 := (y_X1_count_1 19).trans rfl
theorem y_X1_count_2 (n : Nat) : nth t_X1_count (n + 64) = nth t_X1_count_c2 n := (y_X1_count_1 (n + 20)).trans rfl
theorem n_X1_count_64 : nth t_X1_count 64 = aLdA 6 66 := (y_X1_count_2 0).trans rfl
theorem n_X1_count_66 : nth t_X1_count 66 = aGetI 1 [5] 69 := (y_X1_count_2 2).trans rfl
theorem n_X1_count_69 : nth t_X1_count 69 = aB (fun x y => x + y) 70 := (y_X1_count_2 5).trans rfl
theorem n_X1_count_70 : nth t_X1_count 70 = aStI 2 71 := (y_X1_count_2 6).trans rfl
theorem n_X1_count_71 : nth t_X1_count 71 = aInc 5 1 74 := (y_X1_count_2 7).trans rfl
theorem n_X1_count_74 : nth t_X1_count 74 = aGoto 50 := (y_X1_count_2 10).trans rfl
theorem n_X1_count_77 : nth t_X1_count 77 = aLdI 2 78 := (y_X1_count_2 13).trans rfl
theorem n_X1_count_78 : nth t_X1_count 78 = aRetI := (y_X1_count_2 14).trans rfl
theorem n_X1_count_79 : nth t_X1_count 79 = aLdA 0 80 := (y_X1_count_2 15).trans rfl
theorem n_X1_count_80 : nth t_X1_count 80 = aGetI 1 [0] 83 := (y_X1_count_2 16).trans rfl
theorem n_X1_count_83 : nth t_X1_count 83 = aRetI := (y_X1_count_2 19).trans rfl
theorem n_X1_count_84 : nth t_X1_count 84 = aK (.int (-1)) 85 := (y_X1_count_2 20).trans rfl
theorem y_X1_count_3 (n : Nat) : nth t_X1_count (n + 85) = nth t_X1_count_c3 n := (y_X1_count_2 (n + 21)).trans rfl
theorem n_X1_count_85 : nth t_X1_count 85 = aRetI := (y_X1_count_3 0).trans rfl
theorem n_X1_column_0 : nth t_X1_column 0 = aLdI 1 1 := rfl
theorem n_X1_column_1 : nth t_X1_column 1 = aCalS 42 1 4 none := rfl
theorem n_X1_column_4 : nth t_X1_column 4 = aIfEq 40 7 := rfl
theorem n_X1_column_7 : nth t_X1_column 7 = aLdI 2 8 := rfl
theorem n_X1_column_8 : nth t_X1_column 8 = aK (.int 0) 9 := rfl
theorem n_X1_column_9 : nth t_X1_column 9 = aLdA 0 10 := rfl
theorem n_X1_column_10 : nth t_X1_column 10 = aGetR 3 [0] 13 := rfl
theorem n_X1_column_13 : nth t_X1_column 13 = aLdI 1 14 := rfl
theorem n_X1_column_14 : nth t_X1_column 14 = aAldA 15 := rfl
theorem n_X1_column_15 : nth t_X1_column 15 = aGetI 1 [5] 18 := rfl
theorem n_X1_column_18 : nth t_X1_column 18 = aK (.int 1) 19 := rfl
theorem n_X1_column_19 : nth t_X1_column 19 = aB (fun x y => x - y) 20 := rfl
theorem y_X1_column_1 (n : Nat) : nth t_X1_column (n + 20) = nth t_X1_column_c1 n := rfl
theorem n_X1_column_20 : nth t_X1_column 20 = aCalS 43 3 23 none := (y_X1_column_1 0).trans rfl
theorem n_X1_column_23 : nth t_X1_column 23 = aIfEq 40 26 := (y_X1_column_1 3).trans rfl
theorem n_X1_column_26 : nth t_X1_column 26 = aLdI 3 27 := (y_X1_column_1 6).trans rfl
theorem n_X1_column_27 : nth t_X1_column 27 = aK (.int 1) 28 := (y_X1_column_1 7).trans rfl
theorem n_X1_column_28 : nth t_X1_column 28 = aK (.int 20) 30 := (y_X1_column_1 8).trans rfl
theorem n_X1_column_30 : nth t_X1_column 30 = aCalS 43 3 33 none := (y_X1_column_1 10).trans rfl
theorem n_X1_column_33 : nth t_X1_column 33 = aIfEq 40 36 := (y_X1_column_1 13).trans rfl
theorem n_X1_column_36 : nth t_X1_column 36 = aK (.int 1) 37 := (y_X1_column_1 16).trans rfl
theorem n_X1_column_37 : nth t_X1_column 37 = aGoto 41 := (y_X1_column_1 17).trans rfl
theorem n_X1_column_40 : nth t_X1_column 40 = aK (.int 0) 41 := (y_X1_column_1 20).trans rfl
theorem n_X1_column_41 : nth t_X1_column 41 = aCalS 97 1 44 none := (y_X1_column_1 21).trans rfl
theorem n_X1_column_44 : nth t_X1_column 44 = aLdA 0 45 := (y_X1_column_1 24).trans rfl
theorem y_X1_column_2 (n : Nat) : nth t_X1_column (n + 45) = nth t_X1_column_c2 n := (y_X1_column_1 (n + 25)).trans rfl
theorem n_X1_column_45 : nth t_X1_column 45 = aGetR 3 [0] 48 := (y_X1_column_2 0).trans rfl
theorem n_X1_column_48 : nth t_X1_column 48 = aLdI 1 49 := (y_X1_column_2 3).trans rfl
theorem n_X1_column_49 : nth t_X1_column 49 = aAldA 50 := (y_X1_column_2 4).trans rfl
theorem n_X1_column_50 : nth t_X1_column 50 = aGetR 0 [5] 53 := (y_X1_column_2 5).trans rfl
theorem n_X1_column_53 : nth t_X1_column 53 = aLdI 2 54 := (y_X1_column_2 8).trans rfl
theorem n_X1_column_54 : nth t_X1_column 54 = aAldA 55 := (y_X1_column_2 9).trans rfl
theorem n_X1_column_55 : nth t_X1_column 55 = aLdI 3 56 := (y_X1_column_2 10).trans rfl
theorem n_X1_column_56 : nth t_X1_column 56 = aK (.int 1) 57 := (y_X1_column_2 11).trans rfl
theorem n_X1_column_57 : nth t_X1_column 57 = aB (fun x y => x - y) 58 := (y_X1_column_2 12).trans rfl
theorem n_X1_column_58 : nth t_X1_column 58 = aAldB 59 := (y_X1_column_2 13).trans rfl
theorem n_X1_column_59 : nth t_X1_column 59 = aRetI := (y_X1_column_2 14).trans rfl
theorem n_X1_need_0 : nth t_X1_need 0 = aLdI 0 1 := rfl
theorem n_X1_need_1 : nth t_X1_need 1 = aIfEq 4 12 := rfl
theorem n_X1_need_4 : nth t_X1_need 4 = aNew 11 6 7 := rfl
theorem n_X1_need_7 : nth t_X1_need 7 = aDup 8 := rfl
theorem n_X1_need_11 : nth t_X1_need 11 = aThrow := rfl
theorem n_X1_need_12 : nth t_X1_need 12 = aRetV := rfl
theorem n_X1_bar_0 : nth t_X1_bar 0 = aLdA 0 1 := rfl
theorem n_X1_bar_1 : nth t_X1_bar 1 = aGetI 9 [0] 4 := rfl
theorem n_X1_bar_4 : nth t_X1_bar 4 = aIfEq 38 7 := rfl
theorem n_X1_bar_7 : nth t_X1_bar 7 = aLdI 1 8 := rfl
theorem n_X1_bar_8 : nth t_X1_bar 8 = aK (.int 0) 9 := rfl
theorem n_X1_bar_9 : nth t_X1_bar 9 = aLdA 0 10 := rfl
theorem n_X1_bar_10 : nth t_X1_bar 10 = aGetR 6 [0] 13 := rfl
theorem n_X1_bar_13 : nth t_X1_bar 13 = aGetI 3 [3] 16 := rfl
theorem n_X1_bar_16 : nth t_X1_bar 16 = aK (.int 1) 17 := rfl
theorem n_X1_bar_17 : nth t_X1_bar 17 = aB (fun x y => x - y) 18 := rfl
theorem n_X1_bar_18 : nth t_X1_bar 18 = aCalS 43 3 21 none := rfl
theorem n_X1_bar_21 : nth t_X1_bar 21 = aIfEq 38 24 := rfl
theorem y_X1_bar_1 (n : Nat) : nth t_X1_bar (n + 24) = nth t_X1_bar_c1 n := rfl
theorem n_X1_bar_24 : nth t_X1_bar 24 = aLdI 2 25 := (y_X1_bar_1 0).trans rfl
theorem n_X1_bar_25 : nth t_X1_bar 25 = aK (.int 1) 26 := (y_X1_bar_1 1).trans rfl
theorem n_X1_bar_26 : nth t_X1_bar 26 = aK (.int 12) 28 := (y_X1_bar_1 2).trans rfl
theorem n_X1_bar_28 : nth t_X1_bar 28 = aCalS 43 3 31 none := (y_X1_bar_1 4).trans rfl
theorem n_X1_bar_31 : nth t_X1_bar 31 = aIfEq 38 34 := (y_X1_bar_1 7).trans rfl
theorem n_X1_bar_34 : nth t_X1_bar 34 = aK (.int 1) 35 := (y_X1_bar_1 10).trans rfl
theorem n_X1_bar_35 : nth t_X1_bar 35 = aGoto 39 := (y_X1_bar_1 11).trans rfl
theorem n_X1_bar_38 : nth t_X1_bar 38 = aK (.int 0) 39 := (y_X1_bar_1 14).trans rfl
theorem n_X1_bar_39 : nth t_X1_bar 39 = aCalS 97 1 42 none := (y_X1_bar_1 15).trans rfl
theorem n_X1_bar_42 : nth t_X1_bar 42 = aLdA 0 43 := (y_X1_bar_1 18).trans rfl
theorem n_X1_bar_43 : nth t_X1_bar 43 = aGetR 6 [0] 46 := (y_X1_bar_1 19).trans rfl
theorem n_X1_bar_46 : nth t_X1_bar 46 = aGetR 8 [3] 49 := (y_X1_bar_1 22).trans rfl
theorem y_X1_bar_2 (n : Nat) : nth t_X1_bar (n + 49) = nth t_X1_bar_c2 n := (y_X1_bar_1 (n + 25)).trans rfl
theorem n_X1_bar_49 : nth t_X1_bar 49 = aLdI 1 50 := (y_X1_bar_2 0).trans rfl
theorem n_X1_bar_50 : nth t_X1_bar 50 = aAldA 51 := (y_X1_bar_2 1).trans rfl
theorem n_X1_bar_51 : nth t_X1_bar 51 = aLdI 2 52 := (y_X1_bar_2 2).trans rfl
theorem n_X1_bar_52 : nth t_X1_bar 52 = aK (.int 1) 53 := (y_X1_bar_2 3).trans rfl
theorem n_X1_bar_53 : nth t_X1_bar 53 = aB (fun x y => x - y) 54 := (y_X1_bar_2 4).trans rfl
theorem n_X1_bar_54 : nth t_X1_bar 54 = aAldB 55 := (y_X1_bar_2 5).trans rfl
theorem n_X1_bar_55 : nth t_X1_bar 55 = aRetI := (y_X1_bar_2 6).trans rfl
theorem n_X1_wheel_0 : nth t_X1_wheel 0 = aLdA 0 1 := rfl
theorem n_X1_wheel_1 : nth t_X1_wheel 1 = aGetI 9 [0] 4 := rfl
theorem n_X1_wheel_4 : nth t_X1_wheel 4 = aIfEq 20 7 := rfl
theorem n_X1_wheel_7 : nth t_X1_wheel 7 = aLdI 1 8 := rfl
theorem n_X1_wheel_8 : nth t_X1_wheel 8 = aK (.int 1) 9 := rfl
theorem n_X1_wheel_9 : nth t_X1_wheel 9 = aK (.int 4) 10 := rfl
theorem n_X1_wheel_10 : nth t_X1_wheel 10 = aCalS 43 3 13 none := rfl
theorem n_X1_wheel_13 : nth t_X1_wheel 13 = aIfEq 20 16 := rfl
theorem n_X1_wheel_16 : nth t_X1_wheel 16 = aK (.int 1) 17 := rfl
theorem n_X1_wheel_17 : nth t_X1_wheel 17 = aGoto 21 := rfl
theorem n_X1_wheel_20 : nth t_X1_wheel 20 = aK (.int 0) 21 := rfl
theorem n_X1_wheel_21 : nth t_X1_wheel 21 = aCalS 97 1 24 none := rfl
theorem y_X1_wheel_1 (n : Nat) : nth t_X1_wheel (n + 24) = nth t_X1_wheel_c1 n := rfl
theorem n_X1_wheel_24 : nth t_X1_wheel 24 = aLdA 0 25 := (y_X1_wheel_1 0).trans rfl
theorem n_X1_wheel_25 : nth t_X1_wheel 25 = aGetR 6 [0] 28 := (y_X1_wheel_1 1).trans rfl
theorem n_X1_wheel_28 : nth t_X1_wheel 28 = aGetR 10 [3] 31 := (y_X1_wheel_1 4).trans rfl
theorem n_X1_wheel_31 : nth t_X1_wheel 31 = aLdI 1 32 := (y_X1_wheel_1 7).trans rfl
theorem n_X1_wheel_32 : nth t_X1_wheel 32 = aK (.int 1) 33 := (y_X1_wheel_1 8).trans rfl
theorem n_X1_wheel_33 : nth t_X1_wheel 33 = aB (fun x y => x - y) 34 := (y_X1_wheel_1 9).trans rfl
theorem n_X1_wheel_34 : nth t_X1_wheel 34 = aAldI 35 := (y_X1_wheel_1 10).trans rfl
theorem n_X1_wheel_35 : nth t_X1_wheel 35 = aRetI := (y_X1_wheel_1 11).trans rfl
theorem n_X1_wantedAt_0 : nth t_X1_wantedAt 0 = aLdI 1 1 := rfl
theorem n_X1_wantedAt_1 : nth t_X1_wantedAt 1 = aK (.int 0) 2 := rfl
theorem n_X1_wantedAt_2 : nth t_X1_wantedAt 2 = aLdA 0 3 := rfl
theorem n_X1_wantedAt_3 : nth t_X1_wantedAt 3 = aGetI 20 [0] 6 := rfl
theorem n_X1_wantedAt_6 : nth t_X1_wantedAt 6 = aK (.int 1) 7 := rfl
theorem n_X1_wantedAt_7 : nth t_X1_wantedAt 7 = aB (fun x y => x - y) 8 := rfl
theorem n_X1_wantedAt_8 : nth t_X1_wantedAt 8 = aCalS 43 3 11 none := rfl
theorem n_X1_wantedAt_11 : nth t_X1_wantedAt 11 = aIfEq 28 14 := rfl
theorem n_X1_wantedAt_14 : nth t_X1_wantedAt 14 = aLdI 2 15 := rfl
theorem n_X1_wantedAt_15 : nth t_X1_wantedAt 15 = aK (.int 1) 16 := rfl
theorem n_X1_wantedAt_16 : nth t_X1_wantedAt 16 = aK (.int 12) 18 := rfl
theorem n_X1_wantedAt_18 : nth t_X1_wantedAt 18 = aCalS 43 3 21 none := rfl
theorem y_X1_wantedAt_1 (n : Nat) : nth t_X1_wantedAt (n + 21) = nth t_X1_wantedAt_c1 n := rfl
theorem n_X1_wantedAt_21 : nth t_X1_wantedAt 21 = aIfEq 28 24 := (y_X1_wantedAt_1 0).trans rfl
theorem n_X1_wantedAt_24 : nth t_X1_wantedAt 24 = aK (.int 1) 25 := (y_X1_wantedAt_1 3).trans rfl
theorem n_X1_wantedAt_25 : nth t_X1_wantedAt 25 = aGoto 29 := (y_X1_wantedAt_1 4).trans rfl
theorem n_X1_wantedAt_28 : nth t_X1_wantedAt 28 = aK (.int 0) 29 := (y_X1_wantedAt_1 7).trans rfl
theorem n_X1_wantedAt_29 : nth t_X1_wantedAt 29 = aCalS 97 1 32 none := (y_X1_wantedAt_1 8).trans rfl
theorem n_X1_wantedAt_32 : nth t_X1_wantedAt 32 = aLdA 0 33 := (y_X1_wantedAt_1 11).trans rfl
theorem n_X1_wantedAt_33 : nth t_X1_wantedAt 33 = aGetR 19 [0] 36 := (y_X1_wantedAt_1 12).trans rfl
theorem n_X1_wantedAt_36 : nth t_X1_wantedAt 36 = aGetR 8 [3] 39 := (y_X1_wantedAt_1 15).trans rfl
theorem n_X1_wantedAt_39 : nth t_X1_wantedAt 39 = aLdI 1 40 := (y_X1_wantedAt_1 18).trans rfl
theorem n_X1_wantedAt_40 : nth t_X1_wantedAt 40 = aAldA 41 := (y_X1_wantedAt_1 19).trans rfl
theorem n_X1_wantedAt_41 : nth t_X1_wantedAt 41 = aLdI 2 42 := (y_X1_wantedAt_1 20).trans rfl
theorem n_X1_wantedAt_42 : nth t_X1_wantedAt 42 = aK (.int 1) 43 := (y_X1_wantedAt_1 21).trans rfl
theorem y_X1_wantedAt_2 (n : Nat) : nth t_X1_wantedAt (n + 43) = nth t_X1_wantedAt_c2 n := (y_X1_wantedAt_1 (n + 22)).trans rfl
theorem n_X1_wantedAt_43 : nth t_X1_wantedAt 43 = aB (fun x y => x - y) 44 := (y_X1_wantedAt_2 0).trans rfl
theorem n_X1_wantedAt_44 : nth t_X1_wantedAt 44 = aAldB 45 := (y_X1_wantedAt_2 1).trans rfl
theorem n_X1_wantedAt_45 : nth t_X1_wantedAt 45 = aRetI := (y_X1_wantedAt_2 2).trans rfl
