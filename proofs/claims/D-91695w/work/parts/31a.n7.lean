/-! the instructions by their places (by program) -/
set_option maxRecDepth 100000
theorem n_X7_init_0 : nth t_X7_init 0 = aLdA 0 1 := rfl
theorem n_X7_init_1 : nth t_X7_init 1 = aObjI 4 := rfl
theorem n_X7_init_4 : nth t_X7_init 4 = aLdA 0 5 := rfl
theorem n_X7_init_5 : nth t_X7_init 5 = aK (.int 740) 8 := rfl
theorem n_X7_init_8 : nth t_X7_init 8 = aNewA 101 10 := rfl
theorem n_X7_init_10 : nth t_X7_init 10 = aPutR 1 [6] 13 := rfl
theorem n_X7_init_13 : nth t_X7_init 13 = aLdA 0 14 := rfl
theorem n_X7_init_14 : nth t_X7_init 14 = aK (.int 6400) 17 := rfl
theorem n_X7_init_17 : nth t_X7_init 17 = aNewA 100 19 := rfl
theorem n_X7_init_19 : nth t_X7_init 19 = aPutR 5 [6] 22 := rfl
theorem n_X7_init_22 : nth t_X7_init 22 = aLdA 0 23 := rfl
theorem n_X7_init_23 : nth t_X7_init 23 = aK (.int 8) 25 := rfl
theorem y_X7_init_1 (n : Nat) : nth t_X7_init (n + 25) = nth t_X7_init_c1 n := rfl
theorem n_X7_init_25 : nth t_X7_init 25 = aNewA 100 27 := (y_X7_init_1 0).trans rfl
theorem n_X7_init_27 : nth t_X7_init 27 = aPutR 6 [6] 30 := (y_X7_init_1 2).trans rfl
theorem n_X7_init_30 : nth t_X7_init 30 = aLdA 0 31 := (y_X7_init_1 5).trans rfl
theorem n_X7_init_31 : nth t_X7_init 31 = aK (.int 600) 34 := (y_X7_init_1 6).trans rfl
theorem n_X7_init_34 : nth t_X7_init 34 = aNewA 100 36 := (y_X7_init_1 9).trans rfl
theorem n_X7_init_36 : nth t_X7_init 36 = aPutR 15 [6] 39 := (y_X7_init_1 11).trans rfl
theorem n_X7_init_39 : nth t_X7_init 39 = aLdA 0 40 := (y_X7_init_1 14).trans rfl
theorem n_X7_init_40 : nth t_X7_init 40 = aK (.int 600) 43 := (y_X7_init_1 15).trans rfl
theorem n_X7_init_43 : nth t_X7_init 43 = aNewA 100 45 := (y_X7_init_1 18).trans rfl
theorem n_X7_init_45 : nth t_X7_init 45 = aPutR 16 [6] 48 := (y_X7_init_1 20).trans rfl
theorem n_X7_init_48 : nth t_X7_init 48 = aLdA 0 49 := (y_X7_init_1 23).trans rfl
theorem n_X7_init_49 : nth t_X7_init 49 = aK (.int 10) 51 := (y_X7_init_1 24).trans rfl
theorem y_X7_init_2 (n : Nat) : nth t_X7_init (n + 51) = nth t_X7_init_c2 n := (y_X7_init_1 (n + 26)).trans rfl
theorem n_X7_init_51 : nth t_X7_init 51 = aNewA 100 53 := (y_X7_init_2 0).trans rfl
theorem n_X7_init_53 : nth t_X7_init 53 = aPutR 17 [6] 56 := (y_X7_init_2 2).trans rfl
theorem n_X7_init_56 : nth t_X7_init 56 = aLdA 0 57 := (y_X7_init_2 5).trans rfl
theorem n_X7_init_57 : nth t_X7_init 57 = aK (.int 217) 60 := (y_X7_init_2 6).trans rfl
theorem n_X7_init_60 : nth t_X7_init 60 = aNewA 100 62 := (y_X7_init_2 9).trans rfl
theorem n_X7_init_62 : nth t_X7_init 62 = aPutR 18 [6] 65 := (y_X7_init_2 11).trans rfl
theorem n_X7_init_65 : nth t_X7_init 65 = aLdA 0 66 := (y_X7_init_2 14).trans rfl
theorem n_X7_init_66 : nth t_X7_init 66 = aK (.int 8) 68 := (y_X7_init_2 15).trans rfl
theorem n_X7_init_68 : nth t_X7_init 68 = aNewA 102 70 := (y_X7_init_2 17).trans rfl
theorem n_X7_init_70 : nth t_X7_init 70 = aPutR 19 [6] 73 := (y_X7_init_2 19).trans rfl
theorem n_X7_init_73 : nth t_X7_init 73 = aLdA 0 74 := (y_X7_init_2 22).trans rfl
theorem n_X7_init_74 : nth t_X7_init 74 = aK (.int 800) 77 := (y_X7_init_2 23).trans rfl
theorem y_X7_init_3 (n : Nat) : nth t_X7_init (n + 77) = nth t_X7_init_c3 n := (y_X7_init_2 (n + 26)).trans rfl
theorem n_X7_init_77 : nth t_X7_init 77 = aNewA 100 79 := (y_X7_init_3 0).trans rfl
theorem n_X7_init_79 : nth t_X7_init 79 = aPutR 23 [6] 82 := (y_X7_init_3 2).trans rfl
theorem n_X7_init_82 : nth t_X7_init 82 = aLdA 0 83 := (y_X7_init_3 5).trans rfl
theorem n_X7_init_83 : nth t_X7_init 83 = aK (.int 96) 85 := (y_X7_init_3 6).trans rfl
theorem n_X7_init_85 : nth t_X7_init 85 = aNewA 100 87 := (y_X7_init_3 8).trans rfl
theorem n_X7_init_87 : nth t_X7_init 87 = aPutR 24 [6] 90 := (y_X7_init_3 10).trans rfl
theorem n_X7_init_90 : nth t_X7_init 90 = aLdA 0 91 := (y_X7_init_3 13).trans rfl
theorem n_X7_init_91 : nth t_X7_init 91 = aK (.int 217) 94 := (y_X7_init_3 14).trans rfl
theorem n_X7_init_94 : nth t_X7_init 94 = aNewA 100 96 := (y_X7_init_3 17).trans rfl
theorem n_X7_init_96 : nth t_X7_init 96 = aPutR 25 [6] 99 := (y_X7_init_3 19).trans rfl
theorem n_X7_init_99 : nth t_X7_init 99 = aLdA 0 100 := (y_X7_init_3 22).trans rfl
theorem n_X7_init_100 : nth t_X7_init 100 = aK (.int 217) 103 := (y_X7_init_3 23).trans rfl
theorem y_X7_init_4 (n : Nat) : nth t_X7_init (n + 103) = nth t_X7_init_c4 n := (y_X7_init_3 (n + 26)).trans rfl
theorem n_X7_init_103 : nth t_X7_init 103 = aNewA 100 105 := (y_X7_init_4 0).trans rfl
theorem n_X7_init_105 : nth t_X7_init 105 = aPutR 26 [6] 108 := (y_X7_init_4 2).trans rfl
theorem n_X7_init_108 : nth t_X7_init 108 = aLdA 0 109 := (y_X7_init_4 5).trans rfl
theorem n_X7_init_109 : nth t_X7_init 109 = aK (.int 217) 112 := (y_X7_init_4 6).trans rfl
theorem n_X7_init_112 : nth t_X7_init 112 = aNewA 100 114 := (y_X7_init_4 9).trans rfl
theorem n_X7_init_114 : nth t_X7_init 114 = aPutR 27 [6] 117 := (y_X7_init_4 11).trans rfl
theorem n_X7_init_117 : nth t_X7_init 117 = aLdA 0 118 := (y_X7_init_4 14).trans rfl
theorem n_X7_init_118 : nth t_X7_init 118 = aK (.int 217) 121 := (y_X7_init_4 15).trans rfl
theorem n_X7_init_121 : nth t_X7_init 121 = aNewA 100 123 := (y_X7_init_4 18).trans rfl
theorem n_X7_init_123 : nth t_X7_init 123 = aPutR 28 [6] 126 := (y_X7_init_4 20).trans rfl
theorem n_X7_init_126 : nth t_X7_init 126 = aLdA 0 127 := (y_X7_init_4 23).trans rfl
theorem n_X7_init_127 : nth t_X7_init 127 = aK (.int 4) 128 := (y_X7_init_4 24).trans rfl
theorem y_X7_init_5 (n : Nat) : nth t_X7_init (n + 128) = nth t_X7_init_c5 n := (y_X7_init_4 (n + 25)).trans rfl
theorem n_X7_init_128 : nth t_X7_init 128 = aNewA 102 130 := (y_X7_init_5 0).trans rfl
theorem n_X7_init_130 : nth t_X7_init 130 = aPutR 29 [6] 133 := (y_X7_init_5 2).trans rfl
theorem n_X7_init_133 : nth t_X7_init 133 = aLdA 0 134 := (y_X7_init_5 5).trans rfl
theorem n_X7_init_134 : nth t_X7_init 134 = aK (.int 3) 135 := (y_X7_init_5 6).trans rfl
theorem n_X7_init_135 : nth t_X7_init 135 = aNewA 100 137 := (y_X7_init_5 7).trans rfl
theorem n_X7_init_137 : nth t_X7_init 137 = aPutR 30 [6] 140 := (y_X7_init_5 9).trans rfl
theorem n_X7_init_140 : nth t_X7_init 140 = aLdA 0 141 := (y_X7_init_5 12).trans rfl
theorem n_X7_init_141 : nth t_X7_init 141 = aK (.int 3) 142 := (y_X7_init_5 13).trans rfl
theorem n_X7_init_142 : nth t_X7_init 142 = aNewA 100 144 := (y_X7_init_5 14).trans rfl
theorem n_X7_init_144 : nth t_X7_init 144 = aPutR 31 [6] 147 := (y_X7_init_5 16).trans rfl
theorem n_X7_init_147 : nth t_X7_init 147 = aLdA 0 148 := (y_X7_init_5 19).trans rfl
theorem n_X7_init_148 : nth t_X7_init 148 = aK (.int 3) 149 := (y_X7_init_5 20).trans rfl
theorem y_X7_init_6 (n : Nat) : nth t_X7_init (n + 149) = nth t_X7_init_c6 n := (y_X7_init_5 (n + 21)).trans rfl
theorem n_X7_init_149 : nth t_X7_init 149 = aNewA 100 151 := (y_X7_init_6 0).trans rfl
theorem n_X7_init_151 : nth t_X7_init 151 = aPutR 32 [6] 154 := (y_X7_init_6 2).trans rfl
theorem n_X7_init_154 : nth t_X7_init 154 = aLdA 0 155 := (y_X7_init_6 5).trans rfl
theorem n_X7_init_155 : nth t_X7_init 155 = aK (.int 2160) 158 := (y_X7_init_6 6).trans rfl
theorem n_X7_init_158 : nth t_X7_init 158 = aNewA 100 160 := (y_X7_init_6 9).trans rfl
theorem n_X7_init_160 : nth t_X7_init 160 = aPutR 33 [6] 163 := (y_X7_init_6 11).trans rfl
theorem n_X7_init_163 : nth t_X7_init 163 = aLdA 0 164 := (y_X7_init_6 14).trans rfl
theorem n_X7_init_164 : nth t_X7_init 164 = aK (.int 12) 166 := (y_X7_init_6 15).trans rfl
theorem n_X7_init_166 : nth t_X7_init 166 = aNewA 100 168 := (y_X7_init_6 17).trans rfl
theorem n_X7_init_168 : nth t_X7_init 168 = aPutR 34 [6] 171 := (y_X7_init_6 19).trans rfl
theorem n_X7_init_171 : nth t_X7_init 171 = aLdA 0 172 := (y_X7_init_6 22).trans rfl
theorem n_X7_init_172 : nth t_X7_init 172 = aK (.int 2400) 175 := (y_X7_init_6 23).trans rfl
theorem y_X7_init_7 (n : Nat) : nth t_X7_init (n + 175) = nth t_X7_init_c7 n := (y_X7_init_6 (n + 26)).trans rfl
theorem n_X7_init_175 : nth t_X7_init 175 = aNewA 100 177 := (y_X7_init_7 0).trans rfl
theorem n_X7_init_177 : nth t_X7_init 177 = aPutR 35 [6] 180 := (y_X7_init_7 2).trans rfl
theorem n_X7_init_180 : nth t_X7_init 180 = aLdA 0 181 := (y_X7_init_7 5).trans rfl
theorem n_X7_init_181 : nth t_X7_init 181 = aK (.int 3) 182 := (y_X7_init_7 6).trans rfl
theorem n_X7_init_182 : nth t_X7_init 182 = aNewA 100 184 := (y_X7_init_7 7).trans rfl
theorem n_X7_init_184 : nth t_X7_init 184 = aPutR 36 [6] 187 := (y_X7_init_7 9).trans rfl
theorem n_X7_init_187 : nth t_X7_init 187 = aLdA 0 188 := (y_X7_init_7 12).trans rfl
theorem n_X7_init_188 : nth t_X7_init 188 = aK (.int 3) 189 := (y_X7_init_7 13).trans rfl
theorem n_X7_init_189 : nth t_X7_init 189 = aNewA 100 191 := (y_X7_init_7 14).trans rfl
theorem n_X7_init_191 : nth t_X7_init 191 = aPutR 37 [6] 194 := (y_X7_init_7 16).trans rfl
theorem n_X7_init_194 : nth t_X7_init 194 = aLdA 0 195 := (y_X7_init_7 19).trans rfl
theorem n_X7_init_195 : nth t_X7_init 195 = aK (.int 3) 196 := (y_X7_init_7 20).trans rfl
theorem y_X7_init_8 (n : Nat) : nth t_X7_init (n + 196) = nth t_X7_init_c8 n := (y_X7_init_7 (n + 21)).trans rfl
theorem n_X7_init_196 : nth t_X7_init 196 = aNewA 100 198 := (y_X7_init_8 0).trans rfl
theorem n_X7_init_198 : nth t_X7_init 198 = aPutR 38 [6] 201 := (y_X7_init_8 2).trans rfl
theorem n_X7_init_201 : nth t_X7_init 201 = aLdA 0 202 := (y_X7_init_8 5).trans rfl
theorem n_X7_init_202 : nth t_X7_init 202 = aK (.int 3) 203 := (y_X7_init_8 6).trans rfl
theorem n_X7_init_203 : nth t_X7_init 203 = aNewA 100 205 := (y_X7_init_8 7).trans rfl
theorem n_X7_init_205 : nth t_X7_init 205 = aPutR 39 [6] 208 := (y_X7_init_8 9).trans rfl
theorem n_X7_init_208 : nth t_X7_init 208 = aLdA 0 209 := (y_X7_init_8 12).trans rfl
theorem n_X7_init_209 : nth t_X7_init 209 = aK (.int 3) 210 := (y_X7_init_8 13).trans rfl
theorem n_X7_init_210 : nth t_X7_init 210 = aNewA 100 212 := (y_X7_init_8 14).trans rfl
theorem n_X7_init_212 : nth t_X7_init 212 = aPutR 40 [6] 215 := (y_X7_init_8 16).trans rfl
theorem n_X7_init_215 : nth t_X7_init 215 = aLdA 0 216 := (y_X7_init_8 19).trans rfl
theorem n_X7_init_216 : nth t_X7_init 216 = aK (.int 40) 218 := (y_X7_init_8 20).trans rfl
theorem y_X7_init_9 (n : Nat) : nth t_X7_init (n + 218) = nth t_X7_init_c9 n := (y_X7_init_8 (n + 22)).trans rfl
theorem n_X7_init_218 : nth t_X7_init 218 = aNewA 100 220 := (y_X7_init_9 0).trans rfl
theorem n_X7_init_220 : nth t_X7_init 220 = aPutR 45 [6] 223 := (y_X7_init_9 2).trans rfl
theorem n_X7_init_223 : nth t_X7_init 223 = aLdA 0 224 := (y_X7_init_9 5).trans rfl
theorem n_X7_init_224 : nth t_X7_init 224 = aK (.int 800) 227 := (y_X7_init_9 6).trans rfl
theorem n_X7_init_227 : nth t_X7_init 227 = aNewA 100 229 := (y_X7_init_9 9).trans rfl
theorem n_X7_init_229 : nth t_X7_init 229 = aPutR 46 [6] 232 := (y_X7_init_9 11).trans rfl
theorem n_X7_init_232 : nth t_X7_init 232 = aLdA 0 233 := (y_X7_init_9 14).trans rfl
theorem n_X7_init_233 : nth t_X7_init 233 = aK (.int 60) 235 := (y_X7_init_9 15).trans rfl
theorem n_X7_init_235 : nth t_X7_init 235 = aNewA 100 237 := (y_X7_init_9 17).trans rfl
theorem n_X7_init_237 : nth t_X7_init 237 = aPutR 48 [6] 240 := (y_X7_init_9 19).trans rfl
theorem n_X7_init_240 : nth t_X7_init 240 = aLdA 0 241 := (y_X7_init_9 22).trans rfl
theorem n_X7_init_241 : nth t_X7_init 241 = aK (.int 40) 243 := (y_X7_init_9 23).trans rfl
theorem y_X7_init_10 (n : Nat) : nth t_X7_init (n + 243) = nth t_X7_init_c10 n := (y_X7_init_9 (n + 25)).trans rfl
theorem n_X7_init_243 : nth t_X7_init 243 = aNewA 100 245 := (y_X7_init_10 0).trans rfl
theorem n_X7_init_245 : nth t_X7_init 245 = aPutR 49 [6] 248 := (y_X7_init_10 2).trans rfl
theorem n_X7_init_248 : nth t_X7_init 248 = aLdA 0 249 := (y_X7_init_10 5).trans rfl
theorem n_X7_init_249 : nth t_X7_init 249 = aK (.int 720) 252 := (y_X7_init_10 6).trans rfl
theorem n_X7_init_252 : nth t_X7_init 252 = aNewA 100 254 := (y_X7_init_10 9).trans rfl
theorem n_X7_init_254 : nth t_X7_init 254 = aPutR 50 [6] 257 := (y_X7_init_10 11).trans rfl
theorem n_X7_init_257 : nth t_X7_init 257 = aLdA 0 258 := (y_X7_init_10 14).trans rfl
theorem n_X7_init_258 : nth t_X7_init 258 = aK (.int 3) 259 := (y_X7_init_10 15).trans rfl
theorem n_X7_init_259 : nth t_X7_init 259 = aNewA 100 261 := (y_X7_init_10 16).trans rfl
theorem n_X7_init_261 : nth t_X7_init 261 = aPutR 51 [6] 264 := (y_X7_init_10 18).trans rfl
theorem n_X7_init_264 : nth t_X7_init 264 = aLdA 0 265 := (y_X7_init_10 21).trans rfl
theorem n_X7_init_265 : nth t_X7_init 265 = aK (.int 10) 267 := (y_X7_init_10 22).trans rfl
theorem y_X7_init_11 (n : Nat) : nth t_X7_init (n + 267) = nth t_X7_init_c11 n := (y_X7_init_10 (n + 24)).trans rfl
theorem n_X7_init_267 : nth t_X7_init 267 = aNewA 103 269 := (y_X7_init_11 0).trans rfl
theorem n_X7_init_269 : nth t_X7_init 269 = aPutR 52 [6] 272 := (y_X7_init_11 2).trans rfl
theorem n_X7_init_272 : nth t_X7_init 272 = aLdA 0 273 := (y_X7_init_11 5).trans rfl
theorem n_X7_init_273 : nth t_X7_init 273 = aK (.int 100) 275 := (y_X7_init_11 6).trans rfl
theorem n_X7_init_275 : nth t_X7_init 275 = aNewA 100 277 := (y_X7_init_11 8).trans rfl
theorem n_X7_init_277 : nth t_X7_init 277 = aPutR 58 [6] 280 := (y_X7_init_11 10).trans rfl
theorem n_X7_init_280 : nth t_X7_init 280 = aLdA 0 281 := (y_X7_init_11 13).trans rfl
theorem n_X7_init_281 : nth t_X7_init 281 = aK (.int 100) 283 := (y_X7_init_11 14).trans rfl
theorem n_X7_init_283 : nth t_X7_init 283 = aNewA 100 285 := (y_X7_init_11 16).trans rfl
theorem n_X7_init_285 : nth t_X7_init 285 = aPutR 59 [6] 288 := (y_X7_init_11 18).trans rfl
theorem n_X7_init_288 : nth t_X7_init 288 = aLdA 0 289 := (y_X7_init_11 21).trans rfl
theorem n_X7_init_289 : nth t_X7_init 289 = aK (.int 100) 291 := (y_X7_init_11 22).trans rfl
theorem y_X7_init_12 (n : Nat) : nth t_X7_init (n + 291) = nth t_X7_init_c12 n := (y_X7_init_11 (n + 24)).trans rfl
theorem n_X7_init_291 : nth t_X7_init 291 = aNewA 100 293 := (y_X7_init_12 0).trans rfl
theorem n_X7_init_293 : nth t_X7_init 293 = aPutR 60 [6] 296 := (y_X7_init_12 2).trans rfl
theorem n_X7_init_296 : nth t_X7_init 296 = aLdA 0 297 := (y_X7_init_12 5).trans rfl
theorem n_X7_init_297 : nth t_X7_init 297 = aK (.int 2) 298 := (y_X7_init_12 6).trans rfl
theorem n_X7_init_298 : nth t_X7_init 298 = aNewA 100 300 := (y_X7_init_12 7).trans rfl
theorem n_X7_init_300 : nth t_X7_init 300 = aPutR 62 [6] 303 := (y_X7_init_12 9).trans rfl
theorem n_X7_init_303 : nth t_X7_init 303 = aLdA 0 304 := (y_X7_init_12 12).trans rfl
theorem n_X7_init_304 : nth t_X7_init 304 = aK (.int 12) 306 := (y_X7_init_12 13).trans rfl
theorem n_X7_init_306 : nth t_X7_init 306 = aNewA 100 308 := (y_X7_init_12 15).trans rfl
theorem n_X7_init_308 : nth t_X7_init 308 = aPutR 63 [6] 311 := (y_X7_init_12 17).trans rfl
theorem n_X7_init_311 : nth t_X7_init 311 = aLdA 0 312 := (y_X7_init_12 20).trans rfl
theorem n_X7_init_312 : nth t_X7_init 312 = aK (.int 12) 314 := (y_X7_init_12 21).trans rfl
theorem y_X7_init_13 (n : Nat) : nth t_X7_init (n + 314) = nth t_X7_init_c13 n := (y_X7_init_12 (n + 23)).trans rfl
theorem n_X7_init_314 : nth t_X7_init 314 = aNewA 100 316 := (y_X7_init_13 0).trans rfl
theorem n_X7_init_316 : nth t_X7_init 316 = aPutR 64 [6] 319 := (y_X7_init_13 2).trans rfl
theorem n_X7_init_319 : nth t_X7_init 319 = aLdA 0 320 := (y_X7_init_13 5).trans rfl
theorem n_X7_init_320 : nth t_X7_init 320 = aK (.int 6) 322 := (y_X7_init_13 6).trans rfl
theorem n_X7_init_322 : nth t_X7_init 322 = aNewA 100 324 := (y_X7_init_13 8).trans rfl
theorem n_X7_init_324 : nth t_X7_init 324 = aPutR 65 [6] 327 := (y_X7_init_13 10).trans rfl
theorem n_X7_init_327 : nth t_X7_init 327 = aLdA 0 328 := (y_X7_init_13 13).trans rfl
theorem n_X7_init_328 : nth t_X7_init 328 = aK (.int 2) 329 := (y_X7_init_13 14).trans rfl
theorem n_X7_init_329 : nth t_X7_init 329 = aNewA 100 331 := (y_X7_init_13 15).trans rfl
theorem n_X7_init_331 : nth t_X7_init 331 = aPutR 66 [6] 334 := (y_X7_init_13 17).trans rfl
theorem n_X7_init_334 : nth t_X7_init 334 = aLdA 0 335 := (y_X7_init_13 20).trans rfl
theorem n_X7_init_335 : nth t_X7_init 335 = aK (.int 16) 337 := (y_X7_init_13 21).trans rfl
theorem y_X7_init_14 (n : Nat) : nth t_X7_init (n + 337) = nth t_X7_init_c14 n := (y_X7_init_13 (n + 23)).trans rfl
theorem n_X7_init_337 : nth t_X7_init 337 = aNewA 100 339 := (y_X7_init_14 0).trans rfl
theorem n_X7_init_339 : nth t_X7_init 339 = aPutR 67 [6] 342 := (y_X7_init_14 2).trans rfl
theorem n_X7_init_342 : nth t_X7_init 342 = aLdA 0 343 := (y_X7_init_14 5).trans rfl
theorem n_X7_init_343 : nth t_X7_init 343 = aK (.int 16) 345 := (y_X7_init_14 6).trans rfl
theorem n_X7_init_345 : nth t_X7_init 345 = aNewA 100 347 := (y_X7_init_14 8).trans rfl
theorem n_X7_init_347 : nth t_X7_init 347 = aPutR 68 [6] 350 := (y_X7_init_14 10).trans rfl
theorem n_X7_init_350 : nth t_X7_init 350 = aLdA 0 351 := (y_X7_init_14 13).trans rfl
theorem n_X7_init_351 : nth t_X7_init 351 = aK (.int 16) 353 := (y_X7_init_14 14).trans rfl
theorem n_X7_init_353 : nth t_X7_init 353 = aNewA 100 355 := (y_X7_init_14 16).trans rfl
theorem n_X7_init_355 : nth t_X7_init 355 = aPutR 69 [6] 358 := (y_X7_init_14 18).trans rfl
theorem n_X7_init_358 : nth t_X7_init 358 = aLdA 0 359 := (y_X7_init_14 21).trans rfl
theorem n_X7_init_359 : nth t_X7_init 359 = aK (.int 16) 361 := (y_X7_init_14 22).trans rfl
theorem y_X7_init_15 (n : Nat) : nth t_X7_init (n + 361) = nth t_X7_init_c15 n := (y_X7_init_14 (n + 24)).trans rfl
theorem n_X7_init_361 : nth t_X7_init 361 = aNewA 100 363 := (y_X7_init_15 0).trans rfl
theorem n_X7_init_363 : nth t_X7_init 363 = aPutR 70 [6] 366 := (y_X7_init_15 2).trans rfl
theorem n_X7_init_366 : nth t_X7_init 366 = aLdA 0 367 := (y_X7_init_15 5).trans rfl
theorem n_X7_init_367 : nth t_X7_init 367 = aK (.int 12) 369 := (y_X7_init_15 6).trans rfl
theorem n_X7_init_369 : nth t_X7_init 369 = aNewA 103 371 := (y_X7_init_15 8).trans rfl
theorem n_X7_init_371 : nth t_X7_init 371 = aPutR 71 [6] 374 := (y_X7_init_15 10).trans rfl
theorem n_X7_init_374 : nth t_X7_init 374 = aLdA 0 375 := (y_X7_init_15 13).trans rfl
theorem n_X7_init_375 : nth t_X7_init 375 = aK (.int 200) 378 := (y_X7_init_15 14).trans rfl
theorem n_X7_init_378 : nth t_X7_init 378 = aNewA 100 380 := (y_X7_init_15 17).trans rfl
theorem n_X7_init_380 : nth t_X7_init 380 = aPutR 72 [6] 383 := (y_X7_init_15 19).trans rfl
theorem n_X7_init_383 : nth t_X7_init 383 = aLdA 0 384 := (y_X7_init_15 22).trans rfl
theorem n_X7_init_384 : nth t_X7_init 384 = aK (.int 200) 387 := (y_X7_init_15 23).trans rfl
theorem y_X7_init_16 (n : Nat) : nth t_X7_init (n + 387) = nth t_X7_init_c16 n := (y_X7_init_15 (n + 26)).trans rfl
theorem n_X7_init_387 : nth t_X7_init 387 = aNewA 100 389 := (y_X7_init_16 0).trans rfl
theorem n_X7_init_389 : nth t_X7_init 389 = aPutR 73 [6] 392 := (y_X7_init_16 2).trans rfl
theorem n_X7_init_392 : nth t_X7_init 392 = aLdA 0 393 := (y_X7_init_16 5).trans rfl
theorem n_X7_init_393 : nth t_X7_init 393 = aK (.int 4) 394 := (y_X7_init_16 6).trans rfl
theorem n_X7_init_394 : nth t_X7_init 394 = aNewA 100 396 := (y_X7_init_16 7).trans rfl
theorem n_X7_init_396 : nth t_X7_init 396 = aPutR 74 [6] 399 := (y_X7_init_16 9).trans rfl
theorem n_X7_init_399 : nth t_X7_init 399 = aLdA 0 400 := (y_X7_init_16 12).trans rfl
theorem n_X7_init_400 : nth t_X7_init 400 = aK (.int 4) 401 := (y_X7_init_16 13).trans rfl
theorem n_X7_init_401 : nth t_X7_init 401 = aNewA 100 403 := (y_X7_init_16 14).trans rfl
theorem n_X7_init_403 : nth t_X7_init 403 = aPutR 75 [6] 406 := (y_X7_init_16 16).trans rfl
theorem n_X7_init_406 : nth t_X7_init 406 = aLdA 0 407 := (y_X7_init_16 19).trans rfl
theorem n_X7_init_407 : nth t_X7_init 407 = aK (.int 256) 410 := (y_X7_init_16 20).trans rfl
theorem y_X7_init_17 (n : Nat) : nth t_X7_init (n + 410) = nth t_X7_init_c17 n := (y_X7_init_16 (n + 23)).trans rfl
theorem n_X7_init_410 : nth t_X7_init 410 = aNewA 100 412 := (y_X7_init_17 0).trans rfl
theorem n_X7_init_412 : nth t_X7_init 412 = aPutR 76 [6] 415 := (y_X7_init_17 2).trans rfl
theorem n_X7_init_415 : nth t_X7_init 415 = aLdA 0 416 := (y_X7_init_17 5).trans rfl
theorem n_X7_init_416 : nth t_X7_init 416 = aK (.int 256) 419 := (y_X7_init_17 6).trans rfl
theorem n_X7_init_419 : nth t_X7_init 419 = aNewA 100 421 := (y_X7_init_17 9).trans rfl
theorem n_X7_init_421 : nth t_X7_init 421 = aPutR 77 [6] 424 := (y_X7_init_17 11).trans rfl
theorem n_X7_init_424 : nth t_X7_init 424 = aLdA 0 425 := (y_X7_init_17 14).trans rfl
theorem n_X7_init_425 : nth t_X7_init 425 = aK (.int 256) 428 := (y_X7_init_17 15).trans rfl
theorem n_X7_init_428 : nth t_X7_init 428 = aNewA 102 430 := (y_X7_init_17 18).trans rfl
theorem n_X7_init_430 : nth t_X7_init 430 = aPutR 78 [6] 433 := (y_X7_init_17 20).trans rfl
theorem n_X7_init_433 : nth t_X7_init 433 = aLdA 0 434 := (y_X7_init_17 23).trans rfl
theorem n_X7_init_434 : nth t_X7_init 434 = aK (.int 720) 437 := (y_X7_init_17 24).trans rfl
theorem y_X7_init_18 (n : Nat) : nth t_X7_init (n + 437) = nth t_X7_init_c18 n := (y_X7_init_17 (n + 27)).trans rfl
theorem n_X7_init_437 : nth t_X7_init 437 = aNewA 100 439 := (y_X7_init_18 0).trans rfl
theorem n_X7_init_439 : nth t_X7_init 439 = aPutR 82 [6] 442 := (y_X7_init_18 2).trans rfl
theorem n_X7_init_442 : nth t_X7_init 442 = aLdA 0 443 := (y_X7_init_18 5).trans rfl
theorem n_X7_init_443 : nth t_X7_init 443 = aK (.int 8) 445 := (y_X7_init_18 6).trans rfl
theorem n_X7_init_445 : nth t_X7_init 445 = aNewA 100 447 := (y_X7_init_18 8).trans rfl
theorem n_X7_init_447 : nth t_X7_init 447 = aPutR 83 [6] 450 := (y_X7_init_18 10).trans rfl
theorem n_X7_init_450 : nth t_X7_init 450 = aLdA 0 451 := (y_X7_init_18 13).trans rfl
theorem n_X7_init_451 : nth t_X7_init 451 = aK (.int 720) 454 := (y_X7_init_18 14).trans rfl
theorem n_X7_init_454 : nth t_X7_init 454 = aNewA 100 456 := (y_X7_init_18 17).trans rfl
theorem n_X7_init_456 : nth t_X7_init 456 = aPutR 87 [6] 459 := (y_X7_init_18 19).trans rfl
theorem n_X7_init_459 : nth t_X7_init 459 = aLdA 0 460 := (y_X7_init_18 22).trans rfl
theorem n_X7_init_460 : nth t_X7_init 460 = aK (.int 6) 462 := (y_X7_init_18 23).trans rfl
theorem y_X7_init_19 (n : Nat) : nth t_X7_init (n + 462) = nth t_X7_init_c19 n := (y_X7_init_18 (n + 25)).trans rfl
theorem n_X7_init_462 : nth t_X7_init 462 = aNewA 100 464 := (y_X7_init_19 0).trans rfl
theorem n_X7_init_464 : nth t_X7_init 464 = aPutR 88 [6] 467 := (y_X7_init_19 2).trans rfl
theorem n_X7_init_467 : nth t_X7_init 467 = aLdA 0 468 := (y_X7_init_19 5).trans rfl
theorem n_X7_init_468 : nth t_X7_init 468 = aK (.int 6) 470 := (y_X7_init_19 6).trans rfl
theorem n_X7_init_470 : nth t_X7_init 470 = aNewA 100 472 := (y_X7_init_19 8).trans rfl
theorem n_X7_init_472 : nth t_X7_init 472 = aPutR 89 [6] 475 := (y_X7_init_19 10).trans rfl
theorem n_X7_init_475 : nth t_X7_init 475 = aLdA 0 476 := (y_X7_init_19 13).trans rfl
theorem n_X7_init_476 : nth t_X7_init 476 = aK (.int 60) 478 := (y_X7_init_19 14).trans rfl
theorem n_X7_init_478 : nth t_X7_init 478 = aNewA 102 480 := (y_X7_init_19 16).trans rfl
theorem n_X7_init_480 : nth t_X7_init 480 = aPutR 91 [6] 483 := (y_X7_init_19 18).trans rfl
theorem n_X7_init_483 : nth t_X7_init 483 = aRetV := (y_X7_init_19 21).trans rfl
theorem n_X7_thrown_0 : nth t_X7_thrown 0 = aLdA 0 1 := rfl
theorem n_X7_thrown_1 : nth t_X7_thrown 1 = aGetI 0 [6] 4 := rfl
theorem n_X7_thrown_4 : nth t_X7_thrown 4 = aRetI := rfl
theorem n_X7_feed_0 : nth t_X7_feed 0 = aLdA 0 1 := rfl
theorem n_X7_feed_1 : nth t_X7_feed 1 = aK (.int 0) 2 := rfl
theorem n_X7_feed_2 : nth t_X7_feed 2 = aPutI 0 [6] 5 := rfl
theorem n_X7_feed_5 : nth t_X7_feed 5 = aLdA 0 6 := rfl
theorem n_X7_feed_6 : nth t_X7_feed 6 = aGetI 2 [6] 9 := rfl
theorem n_X7_feed_9 : nth t_X7_feed 9 = aK (.int 20) 11 := rfl
theorem n_X7_feed_11 : nth t_X7_feed 11 = aB (fun x y => x + y) 12 := rfl
theorem n_X7_feed_12 : nth t_X7_feed 12 = aK (.int 740) 15 := rfl
theorem n_X7_feed_15 : nth t_X7_feed 15 = aIcLe 20 18 := rfl
theorem n_X7_feed_18 : nth t_X7_feed 18 = aK (.int (-1)) 19 := rfl
theorem n_X7_feed_19 : nth t_X7_feed 19 = aRetI := rfl
theorem n_X7_feed_20 : nth t_X7_feed 20 = aLdA 0 21 := rfl
theorem y_X7_feed_1 (n : Nat) : nth t_X7_feed (n + 21) = nth t_X7_feed_c1 n := rfl
theorem n_X7_feed_21 : nth t_X7_feed 21 = aLdI 1 22 := (y_X7_feed_1 0).trans rfl
theorem n_X7_feed_22 : nth t_X7_feed 22 = aCalV 149 1 25 [6] none := (y_X7_feed_1 1).trans rfl
theorem n_X7_feed_25 : nth t_X7_feed 25 = aLdA 0 26 := (y_X7_feed_1 4).trans rfl
theorem n_X7_feed_26 : nth t_X7_feed 26 = aLdI 2 27 := (y_X7_feed_1 5).trans rfl
theorem n_X7_feed_27 : nth t_X7_feed 27 = aCalV 149 1 30 [6] none := (y_X7_feed_1 6).trans rfl
theorem n_X7_feed_30 : nth t_X7_feed 30 = aLdA 0 31 := (y_X7_feed_1 9).trans rfl
theorem n_X7_feed_31 : nth t_X7_feed 31 = aLdI 3 32 := (y_X7_feed_1 10).trans rfl
theorem n_X7_feed_32 : nth t_X7_feed 32 = aCalV 149 1 35 [6] none := (y_X7_feed_1 11).trans rfl
theorem n_X7_feed_35 : nth t_X7_feed 35 = aLdA 0 36 := (y_X7_feed_1 14).trans rfl
theorem n_X7_feed_36 : nth t_X7_feed 36 = aLdI 4 38 := (y_X7_feed_1 15).trans rfl
theorem n_X7_feed_38 : nth t_X7_feed 38 = aCalV 149 1 41 [6] none := (y_X7_feed_1 17).trans rfl
theorem n_X7_feed_41 : nth t_X7_feed 41 = aLdA 0 42 := (y_X7_feed_1 20).trans rfl
theorem y_X7_feed_2 (n : Nat) : nth t_X7_feed (n + 42) = nth t_X7_feed_c2 n := (y_X7_feed_1 (n + 21)).trans rfl
theorem n_X7_feed_42 : nth t_X7_feed 42 = aLdI 5 44 := (y_X7_feed_2 0).trans rfl
theorem n_X7_feed_44 : nth t_X7_feed 44 = aCalV 149 1 47 [6] none := (y_X7_feed_2 2).trans rfl
theorem n_X7_feed_47 : nth t_X7_feed 47 = aLdA 0 48 := (y_X7_feed_2 5).trans rfl
theorem n_X7_feed_48 : nth t_X7_feed 48 = aGetI 2 [6] 51 := (y_X7_feed_2 6).trans rfl
theorem n_X7_feed_51 : nth t_X7_feed 51 = aRetI := (y_X7_feed_2 9).trans rfl
theorem n_X7_four_0 : nth t_X7_four 0 = aK (.int 24) 2 := rfl
theorem n_X7_four_2 : nth t_X7_four 2 = aStI 2 3 := rfl
theorem n_X7_four_3 : nth t_X7_four 3 = aLdI 2 4 := rfl
theorem n_X7_four_4 : nth t_X7_four 4 = aIfLt 36 7 := rfl
theorem n_X7_four_7 : nth t_X7_four 7 = aLdA 0 8 := rfl
theorem n_X7_four_8 : nth t_X7_four 8 = aGetR 1 [6] 11 := rfl
theorem n_X7_four_11 : nth t_X7_four 11 = aLdA 0 12 := rfl
theorem n_X7_four_12 : nth t_X7_four 12 = aGetI 2 [6] 15 := rfl
theorem n_X7_four_15 : nth t_X7_four 15 = aLdI 1 16 := rfl
theorem n_X7_four_16 : nth t_X7_four 16 = aLdI 2 17 := rfl
theorem n_X7_four_17 : nth t_X7_four 17 = aB (fun x y => x >>> (y &&& 31)) 18 := rfl
theorem n_X7_four_18 : nth t_X7_four 18 = aU (fun x => x.toInt8.toInt32) 19 := rfl
theorem y_X7_four_1 (n : Nat) : nth t_X7_four (n + 19) = nth t_X7_four_c1 n := rfl
theorem n_X7_four_19 : nth t_X7_four 19 = aAstB 20 := (y_X7_four_1 0).trans rfl
theorem n_X7_four_20 : nth t_X7_four 20 = aLdA 0 21 := (y_X7_four_1 1).trans rfl
theorem n_X7_four_21 : nth t_X7_four 21 = aDup 22 := (y_X7_four_1 2).trans rfl
theorem n_X7_four_22 : nth t_X7_four 22 = aGetI 2 [6] 25 := (y_X7_four_1 3).trans rfl
theorem n_X7_four_25 : nth t_X7_four 25 = aK (.int 1) 26 := (y_X7_four_1 6).trans rfl
theorem n_X7_four_26 : nth t_X7_four 26 = aB (fun x y => x + y) 27 := (y_X7_four_1 7).trans rfl
theorem n_X7_four_27 : nth t_X7_four 27 = aPutI 2 [6] 30 := (y_X7_four_1 8).trans rfl
theorem n_X7_four_30 : nth t_X7_four 30 = aInc 2 (-8) 33 := (y_X7_four_1 11).trans rfl
theorem n_X7_four_33 : nth t_X7_four 33 = aGoto 3 := (y_X7_four_1 14).trans rfl
theorem n_X7_four_36 : nth t_X7_four 36 = aRetV := (y_X7_four_1 17).trans rfl
theorem n_X7_end_0 : nth t_X7_end 0 = aLdA 0 1 := rfl
theorem n_X7_end_1 : nth t_X7_end 1 = aK (.int 0) 2 := rfl
theorem n_X7_end_2 : nth t_X7_end 2 = aPutI 0 [6] 5 := rfl
theorem n_X7_end_5 : nth t_X7_end 5 = aLdI 1 6 := rfl
theorem n_X7_end_6 : nth t_X7_end 6 = aIfLt 17 9 := rfl
theorem n_X7_end_9 : nth t_X7_end 9 = aLdI 1 10 := rfl
theorem n_X7_end_10 : nth t_X7_end 10 = aLdA 0 11 := rfl
theorem n_X7_end_11 : nth t_X7_end 11 = aGetI 2 [6] 14 := rfl
theorem n_X7_end_14 : nth t_X7_end 14 = aIcLe 19 17 := rfl
theorem n_X7_end_17 : nth t_X7_end 17 = aK (.int 0) 18 := rfl
theorem n_X7_end_18 : nth t_X7_end 18 = aRetZ := rfl
theorem n_X7_end_19 : nth t_X7_end 19 = aLdA 0 20 := rfl
theorem y_X7_end_1 (n : Nat) : nth t_X7_end (n + 20) = nth t_X7_end_c1 n := rfl
theorem n_X7_end_20 : nth t_X7_end 20 = aLdI 1 21 := (y_X7_end_1 0).trans rfl
theorem n_X7_end_21 : nth t_X7_end 21 = aPutI 2 [6] 24 := (y_X7_end_1 1).trans rfl
theorem n_X7_end_24 : nth t_X7_end 24 = aK (.int 1) 25 := (y_X7_end_1 4).trans rfl
theorem n_X7_end_25 : nth t_X7_end 25 = aRetZ := (y_X7_end_1 5).trans rfl
theorem n_X7_card_0 : nth t_X7_card 0 = aLdA 0 1 := rfl
theorem n_X7_card_1 : nth t_X7_card 1 = aK (.int 0) 2 := rfl
theorem n_X7_card_2 : nth t_X7_card 2 = aPutI 0 [6] 5 := rfl
theorem n_X7_card_5 : nth t_X7_card 5 = aLdA 0 6 := rfl
theorem n_X7_card_6 : nth t_X7_card 6 = aCalV 152 0 9 [6] none := rfl
theorem n_X7_card_9 : nth t_X7_card 9 = aLdI 1 10 := rfl
theorem n_X7_card_10 : nth t_X7_card 10 = aCalS 153 1 13 none := rfl
theorem n_X7_card_13 : nth t_X7_card 13 = aIfEq 36 16 := rfl
theorem n_X7_card_16 : nth t_X7_card 16 = aLdA 0 17 := rfl
theorem n_X7_card_17 : nth t_X7_card 17 = aGetR 6 [6] 20 := rfl
theorem n_X7_card_20 : nth t_X7_card 20 = aLdI 1 21 := rfl
theorem n_X7_card_21 : nth t_X7_card 21 = aAldI 22 := rfl
theorem y_X7_card_1 (n : Nat) : nth t_X7_card (n + 22) = nth t_X7_card_c1 n := rfl
theorem n_X7_card_22 : nth t_X7_card 22 = aK (.int 40) 24 := (y_X7_card_1 0).trans rfl
theorem n_X7_card_24 : nth t_X7_card 24 = aIcEq 36 27 := (y_X7_card_1 2).trans rfl
theorem n_X7_card_27 : nth t_X7_card 27 = aLdA 0 28 := (y_X7_card_1 5).trans rfl
theorem n_X7_card_28 : nth t_X7_card 28 = aGetI 3 [6] 31 := (y_X7_card_1 6).trans rfl
theorem n_X7_card_31 : nth t_X7_card 31 = aK (.int 20) 33 := (y_X7_card_1 9).trans rfl
theorem n_X7_card_33 : nth t_X7_card 33 = aIcEq 38 36 := (y_X7_card_1 11).trans rfl
theorem n_X7_card_36 : nth t_X7_card 36 = aK (.int (-1)) 37 := (y_X7_card_1 14).trans rfl
theorem n_X7_card_37 : nth t_X7_card 37 = aRetI := (y_X7_card_1 15).trans rfl
theorem n_X7_card_38 : nth t_X7_card 38 = aK (.int 0) 39 := (y_X7_card_1 16).trans rfl
theorem n_X7_card_39 : nth t_X7_card 39 = aStI 2 40 := (y_X7_card_1 17).trans rfl
theorem n_X7_card_40 : nth t_X7_card 40 = aLdI 2 41 := (y_X7_card_1 18).trans rfl
theorem n_X7_card_41 : nth t_X7_card 41 = aK (.int 20) 43 := (y_X7_card_1 19).trans rfl
theorem y_X7_card_2 (n : Nat) : nth t_X7_card (n + 43) = nth t_X7_card_c2 n := (y_X7_card_1 (n + 21)).trans rfl
theorem n_X7_card_43 : nth t_X7_card 43 = aIcLt 46 90 := (y_X7_card_2 0).trans rfl
theorem n_X7_card_46 : nth t_X7_card 46 = aLdA 0 47 := (y_X7_card_2 3).trans rfl
theorem n_X7_card_47 : nth t_X7_card 47 = aLdI 2 48 := (y_X7_card_2 4).trans rfl
theorem n_X7_card_48 : nth t_X7_card 48 = aCalV 155 1 51 [6] none := (y_X7_card_2 5).trans rfl
theorem n_X7_card_51 : nth t_X7_card 51 = aK (.int 31) 53 := (y_X7_card_2 8).trans rfl
theorem n_X7_card_53 : nth t_X7_card 53 = aIcLe 56 82 := (y_X7_card_2 10).trans rfl
theorem n_X7_card_56 : nth t_X7_card 56 = aLdA 0 57 := (y_X7_card_2 13).trans rfl
theorem n_X7_card_57 : nth t_X7_card 57 = aLdI 2 58 := (y_X7_card_2 14).trans rfl
theorem n_X7_card_58 : nth t_X7_card 58 = aCalV 155 1 61 [6] none := (y_X7_card_2 15).trans rfl
theorem n_X7_card_61 : nth t_X7_card 61 = aK (.int 16) 63 := (y_X7_card_2 18).trans rfl
theorem n_X7_card_63 : nth t_X7_card 63 = aRem 64 := (y_X7_card_2 20).trans rfl
theorem n_X7_card_64 : nth t_X7_card 64 = aK (.int 9) 66 := (y_X7_card_2 21).trans rfl
theorem y_X7_card_3 (n : Nat) : nth t_X7_card (n + 66) = nth t_X7_card_c3 n := (y_X7_card_2 (n + 23)).trans rfl
theorem n_X7_card_66 : nth t_X7_card 66 = aIcLe 84 69 := (y_X7_card_3 0).trans rfl
theorem n_X7_card_69 : nth t_X7_card 69 = aLdA 0 70 := (y_X7_card_3 3).trans rfl
theorem n_X7_card_70 : nth t_X7_card 70 = aLdI 2 71 := (y_X7_card_3 4).trans rfl
theorem n_X7_card_71 : nth t_X7_card 71 = aCalV 155 1 74 [6] none := (y_X7_card_3 5).trans rfl
theorem n_X7_card_74 : nth t_X7_card 74 = aK (.int 16) 76 := (y_X7_card_3 8).trans rfl
theorem n_X7_card_76 : nth t_X7_card 76 = aRem 77 := (y_X7_card_3 10).trans rfl
theorem n_X7_card_77 : nth t_X7_card 77 = aK (.int 15) 79 := (y_X7_card_3 11).trans rfl
theorem n_X7_card_79 : nth t_X7_card 79 = aIcEq 84 82 := (y_X7_card_3 13).trans rfl
theorem n_X7_card_82 : nth t_X7_card 82 = aK (.int (-1)) 83 := (y_X7_card_3 16).trans rfl
theorem n_X7_card_83 : nth t_X7_card 83 = aRetI := (y_X7_card_3 17).trans rfl
theorem n_X7_card_84 : nth t_X7_card 84 = aInc 2 1 87 := (y_X7_card_3 18).trans rfl
theorem n_X7_card_87 : nth t_X7_card 87 = aGoto 40 := (y_X7_card_3 21).trans rfl
theorem y_X7_card_4 (n : Nat) : nth t_X7_card (n + 90) = nth t_X7_card_c4 n := (y_X7_card_3 (n + 24)).trans rfl
theorem n_X7_card_90 : nth t_X7_card 90 = aK (.int 0) 91 := (y_X7_card_4 0).trans rfl
theorem n_X7_card_91 : nth t_X7_card 91 = aStI 2 92 := (y_X7_card_4 1).trans rfl
theorem n_X7_card_92 : nth t_X7_card 92 = aLdI 2 93 := (y_X7_card_4 2).trans rfl
theorem n_X7_card_93 : nth t_X7_card 93 = aK (.int 20) 95 := (y_X7_card_4 3).trans rfl
theorem n_X7_card_95 : nth t_X7_card 95 = aIcLt 98 130 := (y_X7_card_4 5).trans rfl
theorem n_X7_card_98 : nth t_X7_card 98 = aLdA 0 99 := (y_X7_card_4 8).trans rfl
theorem n_X7_card_99 : nth t_X7_card 99 = aGetR 5 [6] 102 := (y_X7_card_4 9).trans rfl
theorem n_X7_card_102 : nth t_X7_card 102 = aK (.int 20) 104 := (y_X7_card_4 12).trans rfl
theorem n_X7_card_104 : nth t_X7_card 104 = aK (.int 40) 106 := (y_X7_card_4 14).trans rfl
theorem n_X7_card_106 : nth t_X7_card 106 = aLdI 1 107 := (y_X7_card_4 16).trans rfl
theorem n_X7_card_107 : nth t_X7_card 107 = aB (fun x y => x * y) 108 := (y_X7_card_4 17).trans rfl
theorem n_X7_card_108 : nth t_X7_card 108 = aLdA 0 109 := (y_X7_card_4 18).trans rfl
theorem y_X7_card_5 (n : Nat) : nth t_X7_card (n + 109) = nth t_X7_card_c5 n := (y_X7_card_4 (n + 19)).trans rfl
theorem n_X7_card_109 : nth t_X7_card 109 = aGetR 6 [6] 112 := (y_X7_card_5 0).trans rfl
theorem n_X7_card_112 : nth t_X7_card 112 = aLdI 1 113 := (y_X7_card_5 3).trans rfl
theorem n_X7_card_113 : nth t_X7_card 113 = aAldI 114 := (y_X7_card_5 4).trans rfl
theorem n_X7_card_114 : nth t_X7_card 114 = aB (fun x y => x + y) 115 := (y_X7_card_5 5).trans rfl
theorem n_X7_card_115 : nth t_X7_card 115 = aB (fun x y => x * y) 116 := (y_X7_card_5 6).trans rfl
theorem n_X7_card_116 : nth t_X7_card 116 = aLdI 2 117 := (y_X7_card_5 7).trans rfl
theorem n_X7_card_117 : nth t_X7_card 117 = aB (fun x y => x + y) 118 := (y_X7_card_5 8).trans rfl
theorem n_X7_card_118 : nth t_X7_card 118 = aLdA 0 119 := (y_X7_card_5 9).trans rfl
theorem n_X7_card_119 : nth t_X7_card 119 = aLdI 2 120 := (y_X7_card_5 10).trans rfl
theorem n_X7_card_120 : nth t_X7_card 120 = aCalV 155 1 123 [6] none := (y_X7_card_5 11).trans rfl
theorem n_X7_card_123 : nth t_X7_card 123 = aAstI 124 := (y_X7_card_5 14).trans rfl
theorem n_X7_card_124 : nth t_X7_card 124 = aInc 2 1 127 := (y_X7_card_5 15).trans rfl
theorem y_X7_card_6 (n : Nat) : nth t_X7_card (n + 127) = nth t_X7_card_c6 n := (y_X7_card_5 (n + 18)).trans rfl
theorem n_X7_card_127 : nth t_X7_card 127 = aGoto 92 := (y_X7_card_6 0).trans rfl
theorem n_X7_card_130 : nth t_X7_card 130 = aLdA 0 131 := (y_X7_card_6 3).trans rfl
theorem n_X7_card_131 : nth t_X7_card 131 = aGetR 6 [6] 134 := (y_X7_card_6 4).trans rfl
theorem n_X7_card_134 : nth t_X7_card 134 = aLdI 1 135 := (y_X7_card_6 7).trans rfl
theorem n_X7_card_135 : nth t_X7_card 135 = aDup2 136 := (y_X7_card_6 8).trans rfl
theorem n_X7_card_136 : nth t_X7_card 136 = aAldI 137 := (y_X7_card_6 9).trans rfl
theorem n_X7_card_137 : nth t_X7_card 137 = aK (.int 1) 138 := (y_X7_card_6 10).trans rfl
theorem n_X7_card_138 : nth t_X7_card 138 = aB (fun x y => x + y) 139 := (y_X7_card_6 11).trans rfl
theorem n_X7_card_139 : nth t_X7_card 139 = aAstI 140 := (y_X7_card_6 12).trans rfl
theorem n_X7_card_140 : nth t_X7_card 140 = aLdA 0 141 := (y_X7_card_6 13).trans rfl
theorem n_X7_card_141 : nth t_X7_card 141 = aGetR 6 [6] 144 := (y_X7_card_6 14).trans rfl
theorem n_X7_card_144 : nth t_X7_card 144 = aLdI 1 145 := (y_X7_card_6 17).trans rfl
theorem y_X7_card_7 (n : Nat) : nth t_X7_card (n + 145) = nth t_X7_card_c7 n := (y_X7_card_6 (n + 18)).trans rfl
theorem n_X7_card_145 : nth t_X7_card 145 = aAldI 146 := (y_X7_card_7 0).trans rfl
theorem n_X7_card_146 : nth t_X7_card 146 = aRetI := (y_X7_card_7 1).trans rfl
theorem n_X7_taken_0 : nth t_X7_taken 0 = aLdA 0 1 := rfl
theorem n_X7_taken_1 : nth t_X7_taken 1 = aLdA 0 2 := rfl
theorem n_X7_taken_2 : nth t_X7_taken 2 = aGetI 2 [6] 5 := rfl
theorem n_X7_taken_5 : nth t_X7_taken 5 = aPutI 3 [6] 8 := rfl
theorem n_X7_taken_8 : nth t_X7_taken 8 = aLdA 0 9 := rfl
theorem n_X7_taken_9 : nth t_X7_taken 9 = aK (.int 0) 10 := rfl
theorem n_X7_taken_10 : nth t_X7_taken 10 = aPutI 2 [6] 13 := rfl
theorem n_X7_taken_13 : nth t_X7_taken 13 = aLdA 0 14 := rfl
theorem n_X7_taken_14 : nth t_X7_taken 14 = aK (.int 0) 15 := rfl
theorem n_X7_taken_15 : nth t_X7_taken 15 = aPutI 4 [6] 18 := rfl
theorem n_X7_taken_18 : nth t_X7_taken 18 = aRetV := rfl
theorem n_X7_isBox_0 : nth t_X7_isBox 0 = aLdI 0 1 := rfl
theorem n_X7_isBox_1 : nth t_X7_isBox 1 = aK (.int 0) 2 := rfl
theorem n_X7_isBox_2 : nth t_X7_isBox 2 = aK (.int 7) 4 := rfl
theorem n_X7_isBox_4 : nth t_X7_isBox 4 = aCalS 154 3 7 none := rfl
theorem n_X7_isBox_7 : nth t_X7_isBox 7 = aRetZ := rfl
theorem n_X7_isIn_0 : nth t_X7_isIn 0 = aLdI 0 1 := rfl
theorem n_X7_isIn_1 : nth t_X7_isIn 1 = aLdI 1 2 := rfl
theorem n_X7_isIn_2 : nth t_X7_isIn 2 = aIcLt 14 5 := rfl
theorem n_X7_isIn_5 : nth t_X7_isIn 5 = aLdI 0 6 := rfl
theorem n_X7_isIn_6 : nth t_X7_isIn 6 = aLdI 2 7 := rfl
theorem n_X7_isIn_7 : nth t_X7_isIn 7 = aIcLe 10 14 := rfl
theorem n_X7_isIn_10 : nth t_X7_isIn 10 = aK (.int 1) 11 := rfl
theorem n_X7_isIn_11 : nth t_X7_isIn 11 = aGoto 15 := rfl
theorem n_X7_isIn_14 : nth t_X7_isIn 14 = aK (.int 0) 15 := rfl
theorem n_X7_isIn_15 : nth t_X7_isIn 15 = aRetZ := rfl
theorem n_X7_octet_0 : nth t_X7_octet 0 = aLdA 0 1 := rfl
theorem n_X7_octet_1 : nth t_X7_octet 1 = aGetR 1 [6] 4 := rfl
theorem n_X7_octet_4 : nth t_X7_octet 4 = aLdI 1 5 := rfl
theorem n_X7_octet_5 : nth t_X7_octet 5 = aAldB 6 := rfl
theorem n_X7_octet_6 : nth t_X7_octet 6 = aK (.int 255) 9 := rfl
theorem n_X7_octet_9 : nth t_X7_octet 9 = aB (fun x y => x &&& y) 10 := rfl
theorem n_X7_octet_10 : nth t_X7_octet 10 = aRetI := rfl
theorem n_X7_cards_0 : nth t_X7_cards 0 = aLdA 0 1 := rfl
theorem n_X7_cards_1 : nth t_X7_cards 1 = aK (.int 0) 2 := rfl
theorem n_X7_cards_2 : nth t_X7_cards 2 = aPutI 0 [6] 5 := rfl
theorem n_X7_cards_5 : nth t_X7_cards 5 = aLdI 1 6 := rfl
theorem n_X7_cards_6 : nth t_X7_cards 6 = aCalS 153 1 9 none := rfl
theorem n_X7_cards_9 : nth t_X7_cards 9 = aIfEq 21 12 := rfl
theorem n_X7_cards_12 : nth t_X7_cards 12 = aLdA 0 13 := rfl
theorem n_X7_cards_13 : nth t_X7_cards 13 = aGetR 6 [6] 16 := rfl
theorem n_X7_cards_16 : nth t_X7_cards 16 = aLdI 1 17 := rfl
theorem n_X7_cards_17 : nth t_X7_cards 17 = aAldI 18 := rfl
theorem n_X7_cards_18 : nth t_X7_cards 18 = aGoto 22 := rfl
theorem n_X7_cards_21 : nth t_X7_cards 21 = aK (.int (-1)) 22 := rfl
theorem y_X7_cards_1 (n : Nat) : nth t_X7_cards (n + 22) = nth t_X7_cards_c1 n := rfl
theorem n_X7_cards_22 : nth t_X7_cards 22 = aRetI := (y_X7_cards_1 0).trans rfl
theorem n_X7_column_0 : nth t_X7_column 0 = aLdA 0 1 := rfl
theorem n_X7_column_1 : nth t_X7_column 1 = aLdI 1 2 := rfl
theorem n_X7_column_2 : nth t_X7_column 2 = aCalS 153 1 5 none := rfl
theorem n_X7_column_5 : nth t_X7_column 5 = aIfEq 43 8 := rfl
theorem n_X7_column_8 : nth t_X7_column 8 = aLdI 3 9 := rfl
theorem n_X7_column_9 : nth t_X7_column 9 = aK (.int 1) 10 := rfl
theorem n_X7_column_10 : nth t_X7_column 10 = aK (.int 20) 12 := rfl
theorem n_X7_column_12 : nth t_X7_column 12 = aCalS 154 3 15 none := rfl
theorem n_X7_column_15 : nth t_X7_column 15 = aIfEq 43 18 := rfl
theorem n_X7_column_18 : nth t_X7_column 18 = aLdI 2 19 := rfl
theorem n_X7_column_19 : nth t_X7_column 19 = aIfLt 43 22 := rfl
theorem n_X7_column_22 : nth t_X7_column 22 = aLdI 2 23 := rfl
theorem y_X7_column_1 (n : Nat) : nth t_X7_column (n + 23) = nth t_X7_column_c1 n := rfl
theorem n_X7_column_23 : nth t_X7_column 23 = aLdA 0 24 := (y_X7_column_1 0).trans rfl
theorem n_X7_column_24 : nth t_X7_column 24 = aGetR 6 [6] 27 := (y_X7_column_1 1).trans rfl
theorem n_X7_column_27 : nth t_X7_column 27 = aLdI 1 28 := (y_X7_column_1 4).trans rfl
theorem n_X7_column_28 : nth t_X7_column 28 = aCalS 153 1 31 none := (y_X7_column_1 5).trans rfl
theorem n_X7_column_31 : nth t_X7_column 31 = aIfEq 38 34 := (y_X7_column_1 8).trans rfl
theorem n_X7_column_34 : nth t_X7_column 34 = aLdI 1 35 := (y_X7_column_1 11).trans rfl
theorem n_X7_column_35 : nth t_X7_column 35 = aGoto 39 := (y_X7_column_1 12).trans rfl
theorem n_X7_column_38 : nth t_X7_column 38 = aK (.int 0) 39 := (y_X7_column_1 15).trans rfl
theorem n_X7_column_39 : nth t_X7_column 39 = aAldI 40 := (y_X7_column_1 16).trans rfl
theorem n_X7_column_40 : nth t_X7_column 40 = aIcLt 47 43 := (y_X7_column_1 17).trans rfl
theorem n_X7_column_43 : nth t_X7_column 43 = aK (.int 1) 44 := (y_X7_column_1 20).trans rfl
theorem n_X7_column_44 : nth t_X7_column 44 = aGoto 48 := (y_X7_column_1 21).trans rfl
theorem y_X7_column_2 (n : Nat) : nth t_X7_column (n + 47) = nth t_X7_column_c2 n := (y_X7_column_1 (n + 24)).trans rfl
theorem n_X7_column_47 : nth t_X7_column 47 = aK (.int 0) 48 := (y_X7_column_2 0).trans rfl
theorem n_X7_column_48 : nth t_X7_column 48 = aCalV 158 1 51 [6] none := (y_X7_column_2 1).trans rfl
theorem n_X7_column_51 : nth t_X7_column 51 = aIfEq 56 54 := (y_X7_column_2 4).trans rfl
theorem n_X7_column_54 : nth t_X7_column 54 = aK (.int 0) 55 := (y_X7_column_2 7).trans rfl
theorem n_X7_column_55 : nth t_X7_column 55 = aRetI := (y_X7_column_2 8).trans rfl
theorem n_X7_column_56 : nth t_X7_column 56 = aLdA 0 57 := (y_X7_column_2 9).trans rfl
theorem n_X7_column_57 : nth t_X7_column 57 = aGetR 5 [6] 60 := (y_X7_column_2 10).trans rfl
theorem n_X7_column_60 : nth t_X7_column 60 = aK (.int 20) 62 := (y_X7_column_2 13).trans rfl
theorem n_X7_column_62 : nth t_X7_column 62 = aK (.int 40) 64 := (y_X7_column_2 15).trans rfl
theorem n_X7_column_64 : nth t_X7_column 64 = aLdI 1 65 := (y_X7_column_2 17).trans rfl
theorem n_X7_column_65 : nth t_X7_column 65 = aB (fun x y => x * y) 66 := (y_X7_column_2 18).trans rfl
theorem n_X7_column_66 : nth t_X7_column 66 = aLdI 2 67 := (y_X7_column_2 19).trans rfl
theorem y_X7_column_3 (n : Nat) : nth t_X7_column (n + 67) = nth t_X7_column_c3 n := (y_X7_column_2 (n + 20)).trans rfl
theorem n_X7_column_67 : nth t_X7_column 67 = aB (fun x y => x + y) 68 := (y_X7_column_3 0).trans rfl
theorem n_X7_column_68 : nth t_X7_column 68 = aB (fun x y => x * y) 69 := (y_X7_column_3 1).trans rfl
theorem n_X7_column_69 : nth t_X7_column 69 = aLdI 3 70 := (y_X7_column_3 2).trans rfl
theorem n_X7_column_70 : nth t_X7_column 70 = aB (fun x y => x + y) 71 := (y_X7_column_3 3).trans rfl
theorem n_X7_column_71 : nth t_X7_column 71 = aK (.int 1) 72 := (y_X7_column_3 4).trans rfl
theorem n_X7_column_72 : nth t_X7_column 72 = aB (fun x y => x - y) 73 := (y_X7_column_3 5).trans rfl
theorem n_X7_column_73 : nth t_X7_column 73 = aAldI 74 := (y_X7_column_3 6).trans rfl
theorem n_X7_column_74 : nth t_X7_column 74 = aRetI := (y_X7_column_3 7).trans rfl
theorem n_X7_throwsIf_0 : nth t_X7_throwsIf 0 = aLdA 0 1 := rfl
theorem n_X7_throwsIf_1 : nth t_X7_throwsIf 1 = aLdI 1 2 := rfl
theorem n_X7_throwsIf_2 : nth t_X7_throwsIf 2 = aIfEq 9 5 := rfl
theorem n_X7_throwsIf_5 : nth t_X7_throwsIf 5 = aK (.int 1) 6 := rfl
theorem n_X7_throwsIf_6 : nth t_X7_throwsIf 6 = aGoto 10 := rfl
theorem n_X7_throwsIf_9 : nth t_X7_throwsIf 9 = aK (.int 0) 10 := rfl
theorem n_X7_throwsIf_10 : nth t_X7_throwsIf 10 = aPutI 0 [6] 13 := rfl
theorem n_X7_throwsIf_13 : nth t_X7_throwsIf 13 = aLdI 1 14 := rfl
theorem n_X7_throwsIf_14 : nth t_X7_throwsIf 14 = aRetZ := rfl
theorem n_X7_empty_0 : nth t_X7_empty 0 = aLdA 0 1 := rfl
theorem n_X7_empty_1 : nth t_X7_empty 1 = aK (.int 0) 2 := rfl
theorem n_X7_empty_2 : nth t_X7_empty 2 = aPutI 0 [6] 5 := rfl
theorem n_X7_empty_5 : nth t_X7_empty 5 = aLdI 1 6 := rfl
theorem n_X7_empty_6 : nth t_X7_empty 6 = aCalS 153 1 9 none := rfl
theorem n_X7_empty_9 : nth t_X7_empty 9 = aIfEq 12 14 := rfl
theorem n_X7_empty_12 : nth t_X7_empty 12 = aK (.int (-1)) 13 := rfl
theorem n_X7_empty_13 : nth t_X7_empty 13 = aRetI := rfl
theorem n_X7_empty_14 : nth t_X7_empty 14 = aLdA 0 15 := rfl
theorem n_X7_empty_15 : nth t_X7_empty 15 = aGetR 6 [6] 18 := rfl
theorem n_X7_empty_18 : nth t_X7_empty 18 = aLdI 1 19 := rfl
theorem n_X7_empty_19 : nth t_X7_empty 19 = aAldI 20 := rfl
theorem y_X7_empty_1 (n : Nat) : nth t_X7_empty (n + 20) = nth t_X7_empty_c1 n := rfl
theorem n_X7_empty_20 : nth t_X7_empty 20 = aStI 2 21 := (y_X7_empty_1 0).trans rfl
theorem n_X7_empty_21 : nth t_X7_empty 21 = aLdA 0 22 := (y_X7_empty_1 1).trans rfl
theorem n_X7_empty_22 : nth t_X7_empty 22 = aGetR 6 [6] 25 := (y_X7_empty_1 2).trans rfl
theorem n_X7_empty_25 : nth t_X7_empty 25 = aLdI 1 26 := (y_X7_empty_1 5).trans rfl
theorem n_X7_empty_26 : nth t_X7_empty 26 = aK (.int 0) 27 := (y_X7_empty_1 6).trans rfl
theorem n_X7_empty_27 : nth t_X7_empty 27 = aAstI 28 := (y_X7_empty_1 7).trans rfl
theorem n_X7_empty_28 : nth t_X7_empty 28 = aLdI 2 29 := (y_X7_empty_1 8).trans rfl
theorem n_X7_empty_29 : nth t_X7_empty 29 = aRetI := (y_X7_empty_1 9).trans rfl
theorem n_X7_fault_0 : nth t_X7_fault 0 = aLdA 0 1 := rfl
theorem n_X7_fault_1 : nth t_X7_fault 1 = aK (.int 0) 2 := rfl
theorem n_X7_fault_2 : nth t_X7_fault 2 = aPutI 0 [6] 5 := rfl
theorem n_X7_fault_5 : nth t_X7_fault 5 = aLdA 0 6 := rfl
theorem n_X7_fault_6 : nth t_X7_fault 6 = aGetI 10 [6] 9 := rfl
theorem n_X7_fault_9 : nth t_X7_fault 9 = aRetI := rfl
theorem n_X7_board_0 : nth t_X7_board 0 = aLdA 0 1 := rfl
theorem n_X7_board_1 : nth t_X7_board 1 = aK (.int 0) 2 := rfl
theorem n_X7_board_2 : nth t_X7_board 2 = aPutI 0 [6] 5 := rfl
theorem n_X7_board_5 : nth t_X7_board 5 = aLdA 0 6 := rfl
theorem n_X7_board_6 : nth t_X7_board 6 = aCalV 152 0 9 [6] none := rfl
theorem n_X7_board_9 : nth t_X7_board 9 = aLdA 0 10 := rfl
theorem n_X7_board_10 : nth t_X7_board 10 = aK (.int 0) 11 := rfl
theorem n_X7_board_11 : nth t_X7_board 11 = aPutI 10 [6] 14 := rfl
theorem n_X7_board_14 : nth t_X7_board 14 = aLdA 0 15 := rfl
theorem n_X7_board_15 : nth t_X7_board 15 = aK (.int 700) 18 := rfl
theorem n_X7_board_18 : nth t_X7_board 18 = aPutI 12 [6] 21 := rfl
theorem n_X7_board_21 : nth t_X7_board 21 = aLdA 0 22 := rfl
theorem y_X7_board_1 (n : Nat) : nth t_X7_board (n + 22) = nth t_X7_board_c1 n := rfl
theorem n_X7_board_22 : nth t_X7_board 22 = aGetR 17 [6] 25 := (y_X7_board_1 0).trans rfl
theorem n_X7_board_25 : nth t_X7_board 25 = aK (.int 1) 26 := (y_X7_board_1 3).trans rfl
theorem n_X7_board_26 : nth t_X7_board 26 = aK (.int 0) 27 := (y_X7_board_1 4).trans rfl
theorem n_X7_board_27 : nth t_X7_board 27 = aAstI 28 := (y_X7_board_1 5).trans rfl
theorem n_X7_board_28 : nth t_X7_board 28 = aK (.int 0) 29 := (y_X7_board_1 6).trans rfl
theorem n_X7_board_29 : nth t_X7_board 29 = aStI 1 30 := (y_X7_board_1 7).trans rfl
theorem n_X7_board_30 : nth t_X7_board 30 = aLdI 1 31 := (y_X7_board_1 8).trans rfl
theorem n_X7_board_31 : nth t_X7_board 31 = aK (.int 217) 34 := (y_X7_board_1 9).trans rfl
theorem n_X7_board_34 : nth t_X7_board 34 = aIcLt 37 50 := (y_X7_board_1 12).trans rfl
theorem n_X7_board_37 : nth t_X7_board 37 = aLdA 0 38 := (y_X7_board_1 15).trans rfl
theorem n_X7_board_38 : nth t_X7_board 38 = aGetR 18 [6] 41 := (y_X7_board_1 16).trans rfl
theorem n_X7_board_41 : nth t_X7_board 41 = aLdI 1 42 := (y_X7_board_1 19).trans rfl
theorem y_X7_board_2 (n : Nat) : nth t_X7_board (n + 42) = nth t_X7_board_c2 n := (y_X7_board_1 (n + 20)).trans rfl
theorem n_X7_board_42 : nth t_X7_board 42 = aK (.int 0) 43 := (y_X7_board_2 0).trans rfl
theorem n_X7_board_43 : nth t_X7_board 43 = aAstI 44 := (y_X7_board_2 1).trans rfl
theorem n_X7_board_44 : nth t_X7_board 44 = aInc 1 1 47 := (y_X7_board_2 2).trans rfl
theorem n_X7_board_47 : nth t_X7_board 47 = aGoto 30 := (y_X7_board_2 5).trans rfl
theorem n_X7_board_50 : nth t_X7_board 50 = aLdA 0 51 := (y_X7_board_2 8).trans rfl
theorem n_X7_board_51 : nth t_X7_board 51 = aCalV 162 0 54 [6] none := (y_X7_board_2 9).trans rfl
theorem n_X7_board_54 : nth t_X7_board 54 = aLdA 0 55 := (y_X7_board_2 12).trans rfl
theorem n_X7_board_55 : nth t_X7_board 55 = aCalV 166 0 58 [6] none := (y_X7_board_2 13).trans rfl
theorem n_X7_board_58 : nth t_X7_board 58 = aIfEq 61 68 := (y_X7_board_2 16).trans rfl
theorem n_X7_board_61 : nth t_X7_board 61 = aK (.int (-1)) 62 := (y_X7_board_2 19).trans rfl
theorem n_X7_board_62 : nth t_X7_board 62 = aLdA 0 63 := (y_X7_board_2 20).trans rfl
theorem n_X7_board_63 : nth t_X7_board 63 = aGetI 11 [6] 66 := (y_X7_board_2 21).trans rfl
theorem y_X7_board_3 (n : Nat) : nth t_X7_board (n + 66) = nth t_X7_board_c3 n := (y_X7_board_2 (n + 24)).trans rfl
theorem n_X7_board_66 : nth t_X7_board 66 = aB (fun x y => x - y) 67 := (y_X7_board_3 0).trans rfl
theorem n_X7_board_67 : nth t_X7_board 67 = aRetI := (y_X7_board_3 1).trans rfl
theorem n_X7_board_68 : nth t_X7_board 68 = aLdA 0 69 := (y_X7_board_3 2).trans rfl
theorem n_X7_board_69 : nth t_X7_board 69 = aK (.int 1) 70 := (y_X7_board_3 3).trans rfl
theorem n_X7_board_70 : nth t_X7_board 70 = aK (.int 0) 71 := (y_X7_board_3 4).trans rfl
theorem n_X7_board_71 : nth t_X7_board 71 = aCalV 174 2 74 [6] none := (y_X7_board_3 5).trans rfl
theorem n_X7_board_74 : nth t_X7_board 74 = aLdA 0 75 := (y_X7_board_3 8).trans rfl
theorem n_X7_board_75 : nth t_X7_board 75 = aGetR 17 [6] 78 := (y_X7_board_3 9).trans rfl
theorem n_X7_board_78 : nth t_X7_board 78 = aK (.int 0) 79 := (y_X7_board_3 12).trans rfl
theorem n_X7_board_79 : nth t_X7_board 79 = aAldI 80 := (y_X7_board_3 13).trans rfl
theorem n_X7_board_80 : nth t_X7_board 80 = aRetI := (y_X7_board_3 14).trans rfl
theorem n_X7_next_0 : nth t_X7_next 0 = aLdA 0 1 := rfl
theorem n_X7_next_1 : nth t_X7_next 1 = aCalV 163 0 4 [6] none := rfl
theorem n_X7_next_4 : nth t_X7_next 4 = aK (.int 32) 6 := rfl
theorem n_X7_next_6 : nth t_X7_next 6 = aIcEq 18 9 := rfl
theorem n_X7_next_9 : nth t_X7_next 9 = aLdA 0 10 := rfl
theorem n_X7_next_10 : nth t_X7_next 10 = aCalV 163 0 13 [6] none := rfl
theorem n_X7_next_13 : nth t_X7_next 13 = aK (.int 10) 15 := rfl
theorem n_X7_next_15 : nth t_X7_next 15 = aIcEq 18 31 := rfl
theorem n_X7_next_18 : nth t_X7_next 18 = aLdA 0 19 := rfl
theorem n_X7_next_19 : nth t_X7_next 19 = aDup 20 := rfl
theorem n_X7_next_20 : nth t_X7_next 20 = aGetI 4 [6] 23 := rfl
theorem n_X7_next_23 : nth t_X7_next 23 = aK (.int 1) 24 := rfl
theorem y_X7_next_1 (n : Nat) : nth t_X7_next (n + 24) = nth t_X7_next_c1 n := rfl
theorem n_X7_next_24 : nth t_X7_next 24 = aB (fun x y => x + y) 25 := (y_X7_next_1 0).trans rfl
theorem n_X7_next_25 : nth t_X7_next 25 = aPutI 4 [6] 28 := (y_X7_next_1 1).trans rfl
theorem n_X7_next_28 : nth t_X7_next 28 = aGoto 0 := (y_X7_next_1 4).trans rfl
theorem n_X7_next_31 : nth t_X7_next 31 = aLdA 0 32 := (y_X7_next_1 7).trans rfl
theorem n_X7_next_32 : nth t_X7_next 32 = aLdA 0 33 := (y_X7_next_1 8).trans rfl
theorem n_X7_next_33 : nth t_X7_next 33 = aGetI 4 [6] 36 := (y_X7_next_1 9).trans rfl
theorem n_X7_next_36 : nth t_X7_next 36 = aPutI 8 [6] 39 := (y_X7_next_1 12).trans rfl
theorem n_X7_next_39 : nth t_X7_next 39 = aLdA 0 40 := (y_X7_next_1 15).trans rfl
theorem n_X7_next_40 : nth t_X7_next 40 = aGetI 3 [6] 43 := (y_X7_next_1 16).trans rfl
theorem n_X7_next_43 : nth t_X7_next 43 = aLdA 0 44 := (y_X7_next_1 19).trans rfl
theorem n_X7_next_44 : nth t_X7_next 44 = aGetI 12 [6] 47 := (y_X7_next_1 20).trans rfl
theorem n_X7_next_47 : nth t_X7_next 47 = aIcLe 75 50 := (y_X7_next_1 23).trans rfl
theorem y_X7_next_2 (n : Nat) : nth t_X7_next (n + 50) = nth t_X7_next_c2 n := (y_X7_next_1 (n + 26)).trans rfl
theorem n_X7_next_50 : nth t_X7_next 50 = aLdA 0 51 := (y_X7_next_2 0).trans rfl
theorem n_X7_next_51 : nth t_X7_next 51 = aGetI 4 [6] 54 := (y_X7_next_2 1).trans rfl
theorem n_X7_next_54 : nth t_X7_next 54 = aLdA 0 55 := (y_X7_next_2 4).trans rfl
theorem n_X7_next_55 : nth t_X7_next 55 = aGetI 12 [6] 58 := (y_X7_next_2 5).trans rfl
theorem n_X7_next_58 : nth t_X7_next 58 = aIcLt 75 61 := (y_X7_next_2 8).trans rfl
theorem n_X7_next_61 : nth t_X7_next 61 = aLdA 0 62 := (y_X7_next_2 11).trans rfl
theorem n_X7_next_62 : nth t_X7_next 62 = aLdA 0 63 := (y_X7_next_2 12).trans rfl
theorem n_X7_next_63 : nth t_X7_next 63 = aGetI 12 [6] 66 := (y_X7_next_2 13).trans rfl
theorem n_X7_next_66 : nth t_X7_next 66 = aPutI 8 [6] 69 := (y_X7_next_2 16).trans rfl
theorem n_X7_next_69 : nth t_X7_next 69 = aLdA 0 70 := (y_X7_next_2 19).trans rfl
theorem n_X7_next_70 : nth t_X7_next 70 = aK (.int 4) 71 := (y_X7_next_2 20).trans rfl
theorem n_X7_next_71 : nth t_X7_next 71 = aPutI 7 [6] 74 := (y_X7_next_2 21).trans rfl
theorem y_X7_next_3 (n : Nat) : nth t_X7_next (n + 74) = nth t_X7_next_c3 n := (y_X7_next_2 (n + 24)).trans rfl
theorem n_X7_next_74 : nth t_X7_next 74 = aRetV := (y_X7_next_3 0).trans rfl
theorem n_X7_next_75 : nth t_X7_next 75 = aLdA 0 76 := (y_X7_next_3 1).trans rfl
theorem n_X7_next_76 : nth t_X7_next 76 = aCalV 163 0 79 [6] none := (y_X7_next_3 2).trans rfl
theorem n_X7_next_79 : nth t_X7_next 79 = aStI 1 80 := (y_X7_next_3 5).trans rfl
theorem n_X7_next_80 : nth t_X7_next 80 = aLdA 0 81 := (y_X7_next_3 6).trans rfl
theorem n_X7_next_81 : nth t_X7_next 81 = aK (.long 0) 82 := (y_X7_next_3 7).trans rfl
theorem n_X7_next_82 : nth t_X7_next 82 = aPutL 13 [6] 85 := (y_X7_next_3 8).trans rfl
theorem n_X7_next_85 : nth t_X7_next 85 = aLdA 0 86 := (y_X7_next_3 11).trans rfl
theorem n_X7_next_86 : nth t_X7_next 86 = aK (.int 0) 87 := (y_X7_next_3 12).trans rfl
theorem n_X7_next_87 : nth t_X7_next 87 = aPutI 9 [6] 90 := (y_X7_next_3 13).trans rfl
theorem n_X7_next_90 : nth t_X7_next 90 = aK (.int 0) 91 := (y_X7_next_3 16).trans rfl
theorem n_X7_next_91 : nth t_X7_next 91 = aStI 2 92 := (y_X7_next_3 17).trans rfl
theorem y_X7_next_4 (n : Nat) : nth t_X7_next (n + 92) = nth t_X7_next_c4 n := (y_X7_next_3 (n + 18)).trans rfl
theorem n_X7_next_92 : nth t_X7_next 92 = aLdI 1 93 := (y_X7_next_4 0).trans rfl
theorem n_X7_next_93 : nth t_X7_next 93 = aIfLt 96 104 := (y_X7_next_4 1).trans rfl
theorem n_X7_next_96 : nth t_X7_next 96 = aLdA 0 97 := (y_X7_next_4 4).trans rfl
theorem n_X7_next_97 : nth t_X7_next 97 = aK (.int 0) 98 := (y_X7_next_4 5).trans rfl
theorem n_X7_next_98 : nth t_X7_next 98 = aPutI 7 [6] 101 := (y_X7_next_4 6).trans rfl
theorem n_X7_next_101 : nth t_X7_next 101 = aGoto 306 := (y_X7_next_4 9).trans rfl
theorem n_X7_next_104 : nth t_X7_next 104 = aLdI 1 105 := (y_X7_next_4 12).trans rfl
theorem n_X7_next_105 : nth t_X7_next 105 = aCalS 164 1 108 none := (y_X7_next_4 13).trans rfl
theorem n_X7_next_108 : nth t_X7_next 108 = aIfEq 183 111 := (y_X7_next_4 16).trans rfl
theorem n_X7_next_111 : nth t_X7_next 111 = aLdA 0 112 := (y_X7_next_4 19).trans rfl
theorem n_X7_next_112 : nth t_X7_next 112 = aCalV 163 0 115 [6] none := (y_X7_next_4 20).trans rfl
theorem n_X7_next_115 : nth t_X7_next 115 = aCalS 164 1 118 none := (y_X7_next_4 23).trans rfl
theorem y_X7_next_5 (n : Nat) : nth t_X7_next (n + 118) = nth t_X7_next_c5 n := (y_X7_next_4 (n + 26)).trans rfl
theorem n_X7_next_118 : nth t_X7_next 118 = aIfEq 166 121 := (y_X7_next_5 0).trans rfl
theorem n_X7_next_121 : nth t_X7_next 121 = aLdA 0 122 := (y_X7_next_5 3).trans rfl
theorem n_X7_next_122 : nth t_X7_next 122 = aLdI 2 123 := (y_X7_next_5 4).trans rfl
theorem n_X7_next_123 : nth t_X7_next 123 = aK (.int 5) 124 := (y_X7_next_5 5).trans rfl
theorem n_X7_next_124 : nth t_X7_next 124 = aIcLt 127 143 := (y_X7_next_5 6).trans rfl
theorem n_X7_next_127 : nth t_X7_next 127 = aLdA 0 128 := (y_X7_next_5 9).trans rfl
theorem n_X7_next_128 : nth t_X7_next 128 = aGetL 13 [6] 131 := (y_X7_next_5 10).trans rfl
theorem n_X7_next_131 : nth t_X7_next 131 = aK (.int 8) 133 := (y_X7_next_5 13).trans rfl
theorem n_X7_next_133 : nth t_X7_next 133 = aLS (fun x y => x <<< (y.toInt64 &&& 63)) 134 := (y_X7_next_5 15).trans rfl
theorem n_X7_next_134 : nth t_X7_next 134 = aLdA 0 135 := (y_X7_next_5 16).trans rfl
theorem n_X7_next_135 : nth t_X7_next 135 = aCalV 163 0 138 [6] none := (y_X7_next_5 17).trans rfl
theorem n_X7_next_138 : nth t_X7_next 138 = aI2L 139 := (y_X7_next_5 20).trans rfl
theorem y_X7_next_6 (n : Nat) : nth t_X7_next (n + 139) = nth t_X7_next_c6 n := (y_X7_next_5 (n + 21)).trans rfl
theorem n_X7_next_139 : nth t_X7_next 139 = aLB (fun x y => x ||| y) 140 := (y_X7_next_6 0).trans rfl
theorem n_X7_next_140 : nth t_X7_next 140 = aGoto 147 := (y_X7_next_6 1).trans rfl
theorem n_X7_next_143 : nth t_X7_next 143 = aLdA 0 144 := (y_X7_next_6 4).trans rfl
theorem n_X7_next_144 : nth t_X7_next 144 = aGetL 13 [6] 147 := (y_X7_next_6 5).trans rfl
theorem n_X7_next_147 : nth t_X7_next 147 = aPutL 13 [6] 150 := (y_X7_next_6 8).trans rfl
theorem n_X7_next_150 : nth t_X7_next 150 = aInc 2 1 153 := (y_X7_next_6 11).trans rfl
theorem n_X7_next_153 : nth t_X7_next 153 = aLdA 0 154 := (y_X7_next_6 14).trans rfl
theorem n_X7_next_154 : nth t_X7_next 154 = aDup 155 := (y_X7_next_6 15).trans rfl
theorem n_X7_next_155 : nth t_X7_next 155 = aGetI 4 [6] 158 := (y_X7_next_6 16).trans rfl
theorem n_X7_next_158 : nth t_X7_next 158 = aK (.int 1) 159 := (y_X7_next_6 19).trans rfl
theorem n_X7_next_159 : nth t_X7_next 159 = aB (fun x y => x + y) 160 := (y_X7_next_6 20).trans rfl
theorem n_X7_next_160 : nth t_X7_next 160 = aPutI 4 [6] 163 := (y_X7_next_6 21).trans rfl
theorem y_X7_next_7 (n : Nat) : nth t_X7_next (n + 163) = nth t_X7_next_c7 n := (y_X7_next_6 (n + 24)).trans rfl
theorem n_X7_next_163 : nth t_X7_next 163 = aGoto 111 := (y_X7_next_7 0).trans rfl
theorem n_X7_next_166 : nth t_X7_next 166 = aLdA 0 167 := (y_X7_next_7 3).trans rfl
theorem n_X7_next_167 : nth t_X7_next 167 = aLdI 2 168 := (y_X7_next_7 4).trans rfl
theorem n_X7_next_168 : nth t_X7_next 168 = aK (.int 5) 169 := (y_X7_next_7 5).trans rfl
theorem n_X7_next_169 : nth t_X7_next 169 = aIcLe 176 172 := (y_X7_next_7 6).trans rfl
theorem n_X7_next_172 : nth t_X7_next 172 = aK (.int 4) 173 := (y_X7_next_7 9).trans rfl
theorem n_X7_next_173 : nth t_X7_next 173 = aGoto 177 := (y_X7_next_7 10).trans rfl
theorem n_X7_next_176 : nth t_X7_next 176 = aK (.int 1) 177 := (y_X7_next_7 13).trans rfl
theorem n_X7_next_177 : nth t_X7_next 177 = aPutI 7 [6] 180 := (y_X7_next_7 14).trans rfl
theorem n_X7_next_180 : nth t_X7_next 180 = aGoto 306 := (y_X7_next_7 17).trans rfl
theorem n_X7_next_183 : nth t_X7_next 183 = aLdI 1 184 := (y_X7_next_7 20).trans rfl
theorem n_X7_next_184 : nth t_X7_next 184 = aCalS 165 1 187 none := (y_X7_next_7 21).trans rfl
theorem y_X7_next_8 (n : Nat) : nth t_X7_next (n + 187) = nth t_X7_next_c8 n := (y_X7_next_7 (n + 24)).trans rfl
theorem n_X7_next_187 : nth t_X7_next 187 = aIfEq 264 190 := (y_X7_next_8 0).trans rfl
theorem n_X7_next_190 : nth t_X7_next 190 = aLdA 0 191 := (y_X7_next_8 3).trans rfl
theorem n_X7_next_191 : nth t_X7_next 191 = aCalV 163 0 194 [6] none := (y_X7_next_8 4).trans rfl
theorem n_X7_next_194 : nth t_X7_next 194 = aCalS 165 1 197 none := (y_X7_next_8 7).trans rfl
theorem n_X7_next_197 : nth t_X7_next 197 = aIfEq 247 200 := (y_X7_next_8 10).trans rfl
theorem n_X7_next_200 : nth t_X7_next 200 = aLdA 0 201 := (y_X7_next_8 13).trans rfl
theorem n_X7_next_201 : nth t_X7_next 201 = aLdI 2 202 := (y_X7_next_8 14).trans rfl
theorem n_X7_next_202 : nth t_X7_next 202 = aK (.int 2) 203 := (y_X7_next_8 15).trans rfl
theorem n_X7_next_203 : nth t_X7_next 203 = aIcLt 206 224 := (y_X7_next_8 16).trans rfl
theorem n_X7_next_206 : nth t_X7_next 206 = aK (.int 10) 208 := (y_X7_next_8 19).trans rfl
theorem n_X7_next_208 : nth t_X7_next 208 = aLdA 0 209 := (y_X7_next_8 21).trans rfl
theorem n_X7_next_209 : nth t_X7_next 209 = aGetI 9 [6] 212 := (y_X7_next_8 22).trans rfl
theorem y_X7_next_9 (n : Nat) : nth t_X7_next (n + 212) = nth t_X7_next_c9 n := (y_X7_next_8 (n + 25)).trans rfl
theorem n_X7_next_212 : nth t_X7_next 212 = aB (fun x y => x * y) 213 := (y_X7_next_9 0).trans rfl
theorem n_X7_next_213 : nth t_X7_next 213 = aLdA 0 214 := (y_X7_next_9 1).trans rfl
theorem n_X7_next_214 : nth t_X7_next 214 = aCalV 163 0 217 [6] none := (y_X7_next_9 2).trans rfl
theorem n_X7_next_217 : nth t_X7_next 217 = aB (fun x y => x + y) 218 := (y_X7_next_9 5).trans rfl
theorem n_X7_next_218 : nth t_X7_next 218 = aK (.int 48) 220 := (y_X7_next_9 6).trans rfl
theorem n_X7_next_220 : nth t_X7_next 220 = aB (fun x y => x - y) 221 := (y_X7_next_9 8).trans rfl
theorem n_X7_next_221 : nth t_X7_next 221 = aGoto 228 := (y_X7_next_9 9).trans rfl
theorem n_X7_next_224 : nth t_X7_next 224 = aLdA 0 225 := (y_X7_next_9 12).trans rfl
theorem n_X7_next_225 : nth t_X7_next 225 = aGetI 9 [6] 228 := (y_X7_next_9 13).trans rfl
theorem n_X7_next_228 : nth t_X7_next 228 = aPutI 9 [6] 231 := (y_X7_next_9 16).trans rfl
theorem n_X7_next_231 : nth t_X7_next 231 = aInc 2 1 234 := (y_X7_next_9 19).trans rfl
theorem n_X7_next_234 : nth t_X7_next 234 = aLdA 0 235 := (y_X7_next_9 22).trans rfl
theorem y_X7_next_10 (n : Nat) : nth t_X7_next (n + 235) = nth t_X7_next_c10 n := (y_X7_next_9 (n + 23)).trans rfl
theorem n_X7_next_235 : nth t_X7_next 235 = aDup 236 := (y_X7_next_10 0).trans rfl
theorem n_X7_next_236 : nth t_X7_next 236 = aGetI 4 [6] 239 := (y_X7_next_10 1).trans rfl
theorem n_X7_next_239 : nth t_X7_next 239 = aK (.int 1) 240 := (y_X7_next_10 4).trans rfl
theorem n_X7_next_240 : nth t_X7_next 240 = aB (fun x y => x + y) 241 := (y_X7_next_10 5).trans rfl
theorem n_X7_next_241 : nth t_X7_next 241 = aPutI 4 [6] 244 := (y_X7_next_10 6).trans rfl
theorem n_X7_next_244 : nth t_X7_next 244 = aGoto 190 := (y_X7_next_10 9).trans rfl
theorem n_X7_next_247 : nth t_X7_next 247 = aLdA 0 248 := (y_X7_next_10 12).trans rfl
theorem n_X7_next_248 : nth t_X7_next 248 = aLdI 2 249 := (y_X7_next_10 13).trans rfl
theorem n_X7_next_249 : nth t_X7_next 249 = aK (.int 2) 250 := (y_X7_next_10 14).trans rfl
theorem n_X7_next_250 : nth t_X7_next 250 = aIcLe 257 253 := (y_X7_next_10 15).trans rfl
theorem n_X7_next_253 : nth t_X7_next 253 = aK (.int 4) 254 := (y_X7_next_10 18).trans rfl
theorem n_X7_next_254 : nth t_X7_next 254 = aGoto 258 := (y_X7_next_10 19).trans rfl
theorem y_X7_next_11 (n : Nat) : nth t_X7_next (n + 257) = nth t_X7_next_c11 n := (y_X7_next_10 (n + 22)).trans rfl
theorem n_X7_next_257 : nth t_X7_next 257 = aK (.int 2) 258 := (y_X7_next_11 0).trans rfl
theorem n_X7_next_258 : nth t_X7_next 258 = aPutI 7 [6] 261 := (y_X7_next_11 1).trans rfl
theorem n_X7_next_261 : nth t_X7_next 261 = aGoto 306 := (y_X7_next_11 4).trans rfl
theorem n_X7_next_264 : nth t_X7_next 264 = aLdA 0 265 := (y_X7_next_11 7).trans rfl
theorem n_X7_next_265 : nth t_X7_next 265 = aLdI 1 266 := (y_X7_next_11 8).trans rfl
theorem n_X7_next_266 : nth t_X7_next 266 = aK (.int 45) 268 := (y_X7_next_11 9).trans rfl
theorem n_X7_next_268 : nth t_X7_next 268 = aIcEq 283 271 := (y_X7_next_11 11).trans rfl
theorem n_X7_next_271 : nth t_X7_next 271 = aLdI 1 272 := (y_X7_next_11 14).trans rfl
theorem n_X7_next_272 : nth t_X7_next 272 = aK (.int 59) 274 := (y_X7_next_11 15).trans rfl
theorem n_X7_next_274 : nth t_X7_next 274 = aIcEq 283 277 := (y_X7_next_11 17).trans rfl
theorem n_X7_next_277 : nth t_X7_next 277 = aLdI 1 278 := (y_X7_next_11 20).trans rfl
theorem n_X7_next_278 : nth t_X7_next 278 = aK (.int 46) 280 := (y_X7_next_11 21).trans rfl
theorem y_X7_next_12 (n : Nat) : nth t_X7_next (n + 280) = nth t_X7_next_c12 n := (y_X7_next_11 (n + 23)).trans rfl
theorem n_X7_next_280 : nth t_X7_next 280 = aIcEq 283 287 := (y_X7_next_12 0).trans rfl
theorem n_X7_next_283 : nth t_X7_next 283 = aK (.int 3) 284 := (y_X7_next_12 3).trans rfl
theorem n_X7_next_284 : nth t_X7_next 284 = aGoto 288 := (y_X7_next_12 4).trans rfl
theorem n_X7_next_287 : nth t_X7_next 287 = aK (.int 4) 288 := (y_X7_next_12 7).trans rfl
theorem n_X7_next_288 : nth t_X7_next 288 = aPutI 7 [6] 291 := (y_X7_next_12 8).trans rfl
theorem n_X7_next_291 : nth t_X7_next 291 = aLdA 0 292 := (y_X7_next_12 11).trans rfl
theorem n_X7_next_292 : nth t_X7_next 292 = aLdI 1 293 := (y_X7_next_12 12).trans rfl
theorem n_X7_next_293 : nth t_X7_next 293 = aPutI 9 [6] 296 := (y_X7_next_12 13).trans rfl
theorem n_X7_next_296 : nth t_X7_next 296 = aLdA 0 297 := (y_X7_next_12 16).trans rfl
theorem n_X7_next_297 : nth t_X7_next 297 = aDup 298 := (y_X7_next_12 17).trans rfl
theorem n_X7_next_298 : nth t_X7_next 298 = aGetI 4 [6] 301 := (y_X7_next_12 18).trans rfl
theorem n_X7_next_301 : nth t_X7_next 301 = aK (.int 1) 302 := (y_X7_next_12 21).trans rfl
theorem y_X7_next_13 (n : Nat) : nth t_X7_next (n + 302) = nth t_X7_next_c13 n := (y_X7_next_12 (n + 22)).trans rfl
theorem n_X7_next_302 : nth t_X7_next 302 = aB (fun x y => x + y) 303 := (y_X7_next_13 0).trans rfl
theorem n_X7_next_303 : nth t_X7_next 303 = aPutI 4 [6] 306 := (y_X7_next_13 1).trans rfl
theorem n_X7_next_306 : nth t_X7_next 306 = aRetV := (y_X7_next_13 4).trans rfl
theorem n_X7_peek_0 : nth t_X7_peek 0 = aLdA 0 1 := rfl
theorem n_X7_peek_1 : nth t_X7_peek 1 = aGetI 4 [6] 4 := rfl
theorem n_X7_peek_4 : nth t_X7_peek 4 = aLdA 0 5 := rfl
theorem n_X7_peek_5 : nth t_X7_peek 5 = aGetI 3 [6] 8 := rfl
theorem n_X7_peek_8 : nth t_X7_peek 8 = aIcLt 11 27 := rfl
theorem n_X7_peek_11 : nth t_X7_peek 11 = aLdA 0 12 := rfl
theorem n_X7_peek_12 : nth t_X7_peek 12 = aGetR 1 [6] 15 := rfl
theorem n_X7_peek_15 : nth t_X7_peek 15 = aLdA 0 16 := rfl
theorem n_X7_peek_16 : nth t_X7_peek 16 = aGetI 4 [6] 19 := rfl
theorem n_X7_peek_19 : nth t_X7_peek 19 = aAldB 20 := rfl
theorem n_X7_peek_20 : nth t_X7_peek 20 = aK (.int 255) 23 := rfl
theorem n_X7_peek_23 : nth t_X7_peek 23 = aB (fun x y => x &&& y) 24 := rfl
theorem y_X7_peek_1 (n : Nat) : nth t_X7_peek (n + 24) = nth t_X7_peek_c1 n := rfl
theorem n_X7_peek_24 : nth t_X7_peek 24 = aGoto 28 := (y_X7_peek_1 0).trans rfl
theorem n_X7_peek_27 : nth t_X7_peek 27 = aK (.int (-1)) 28 := (y_X7_peek_1 3).trans rfl
theorem n_X7_peek_28 : nth t_X7_peek 28 = aRetI := (y_X7_peek_1 4).trans rfl
theorem n_X7_isSmall_0 : nth t_X7_isSmall 0 = aLdI 0 1 := rfl
theorem n_X7_isSmall_1 : nth t_X7_isSmall 1 = aK (.int 97) 3 := rfl
theorem n_X7_isSmall_3 : nth t_X7_isSmall 3 = aIcLt 16 6 := rfl
theorem n_X7_isSmall_6 : nth t_X7_isSmall 6 = aLdI 0 7 := rfl
theorem n_X7_isSmall_7 : nth t_X7_isSmall 7 = aK (.int 122) 9 := rfl
theorem n_X7_isSmall_9 : nth t_X7_isSmall 9 = aIcLe 12 16 := rfl
theorem n_X7_isSmall_12 : nth t_X7_isSmall 12 = aK (.int 1) 13 := rfl
theorem n_X7_isSmall_13 : nth t_X7_isSmall 13 = aGoto 17 := rfl
theorem n_X7_isSmall_16 : nth t_X7_isSmall 16 = aK (.int 0) 17 := rfl
theorem n_X7_isSmall_17 : nth t_X7_isSmall 17 = aRetZ := rfl
theorem n_X7_isDigit_0 : nth t_X7_isDigit 0 = aLdI 0 1 := rfl
theorem n_X7_isDigit_1 : nth t_X7_isDigit 1 = aK (.int 48) 3 := rfl
theorem n_X7_isDigit_3 : nth t_X7_isDigit 3 = aIcLt 16 6 := rfl
theorem n_X7_isDigit_6 : nth t_X7_isDigit 6 = aLdI 0 7 := rfl
theorem n_X7_isDigit_7 : nth t_X7_isDigit 7 = aK (.int 57) 9 := rfl
theorem n_X7_isDigit_9 : nth t_X7_isDigit 9 = aIcLe 12 16 := rfl
theorem n_X7_isDigit_12 : nth t_X7_isDigit 12 = aK (.int 1) 13 := rfl
theorem n_X7_isDigit_13 : nth t_X7_isDigit 13 = aGoto 17 := rfl
theorem n_X7_isDigit_16 : nth t_X7_isDigit 16 = aK (.int 0) 17 := rfl
theorem n_X7_isDigit_17 : nth t_X7_isDigit 17 = aRetZ := rfl
theorem n_X7_read_0 : nth t_X7_read 0 = aLdA 0 1 := rfl
theorem n_X7_read_1 : nth t_X7_read 1 = aGetI 7 [6] 4 := rfl
theorem n_X7_read_4 : nth t_X7_read 4 = aIfEq 150 7 := rfl
theorem n_X7_read_7 : nth t_X7_read 7 = aLdA 0 8 := rfl
theorem n_X7_read_8 : nth t_X7_read 8 = aGetI 7 [6] 11 := rfl
theorem n_X7_read_11 : nth t_X7_read 11 = aK (.int 1) 12 := rfl
theorem n_X7_read_12 : nth t_X7_read 12 = aIcEq 15 30 := rfl
theorem n_X7_read_15 : nth t_X7_read 15 = aLdA 0 16 := rfl
theorem n_X7_read_16 : nth t_X7_read 16 = aLdA 0 17 := rfl
theorem n_X7_read_17 : nth t_X7_read 17 = aGetL 13 [6] 20 := rfl
theorem n_X7_read_20 : nth t_X7_read 20 = aCalV 167 1 23 [6] none := rfl
theorem n_X7_read_23 : nth t_X7_read 23 = aIfEq 30 26 := rfl
theorem y_X7_read_1 (n : Nat) : nth t_X7_read (n + 26) = nth t_X7_read_c1 n := rfl
theorem n_X7_read_26 : nth t_X7_read 26 = aK (.int 1) 27 := (y_X7_read_1 0).trans rfl
theorem n_X7_read_27 : nth t_X7_read 27 = aGoto 31 := (y_X7_read_1 1).trans rfl
theorem n_X7_read_30 : nth t_X7_read 30 = aK (.int 0) 31 := (y_X7_read_1 4).trans rfl
theorem n_X7_read_31 : nth t_X7_read 31 = aStI 1 32 := (y_X7_read_1 5).trans rfl
theorem n_X7_read_32 : nth t_X7_read 32 = aLdI 1 33 := (y_X7_read_1 6).trans rfl
theorem n_X7_read_33 : nth t_X7_read 33 = aIfEq 47 36 := (y_X7_read_1 7).trans rfl
theorem n_X7_read_36 : nth t_X7_read 36 = aLdA 0 37 := (y_X7_read_1 10).trans rfl
theorem n_X7_read_37 : nth t_X7_read 37 = aGetR 17 [6] 40 := (y_X7_read_1 11).trans rfl
theorem n_X7_read_40 : nth t_X7_read 40 = aK (.int 1) 41 := (y_X7_read_1 14).trans rfl
theorem n_X7_read_41 : nth t_X7_read 41 = aAldI 42 := (y_X7_read_1 15).trans rfl
theorem n_X7_read_42 : nth t_X7_read 42 = aK (.int 60) 44 := (y_X7_read_1 16).trans rfl
theorem n_X7_read_44 : nth t_X7_read 44 = aIcEq 47 65 := (y_X7_read_1 18).trans rfl
theorem y_X7_read_2 (n : Nat) : nth t_X7_read (n + 47) = nth t_X7_read_c2 n := (y_X7_read_1 (n + 21)).trans rfl
theorem n_X7_read_47 : nth t_X7_read 47 = aLdA 0 48 := (y_X7_read_2 0).trans rfl
theorem n_X7_read_48 : nth t_X7_read 48 = aLdI 1 49 := (y_X7_read_2 1).trans rfl
theorem n_X7_read_49 : nth t_X7_read 49 = aIfEq 56 52 := (y_X7_read_2 2).trans rfl
theorem n_X7_read_52 : nth t_X7_read 52 = aK (.int 4) 53 := (y_X7_read_2 5).trans rfl
theorem n_X7_read_53 : nth t_X7_read 53 = aGoto 57 := (y_X7_read_2 6).trans rfl
theorem n_X7_read_56 : nth t_X7_read 56 = aK (.int 1) 57 := (y_X7_read_2 9).trans rfl
theorem n_X7_read_57 : nth t_X7_read 57 = aLdA 0 58 := (y_X7_read_2 10).trans rfl
theorem n_X7_read_58 : nth t_X7_read 58 = aGetI 8 [6] 61 := (y_X7_read_2 11).trans rfl
theorem n_X7_read_61 : nth t_X7_read 61 = aCalV 168 2 64 [6] none := (y_X7_read_2 14).trans rfl
theorem n_X7_read_64 : nth t_X7_read 64 = aRetZ := (y_X7_read_2 17).trans rfl
theorem n_X7_read_65 : nth t_X7_read 65 = aLdA 0 66 := (y_X7_read_2 18).trans rfl
theorem n_X7_read_66 : nth t_X7_read 66 = aK (.int (-1)) 67 := (y_X7_read_2 19).trans rfl
theorem y_X7_read_3 (n : Nat) : nth t_X7_read (n + 67) = nth t_X7_read_c3 n := (y_X7_read_2 (n + 20)).trans rfl
theorem n_X7_read_67 : nth t_X7_read 67 = aCalV 169 1 70 [6] none := (y_X7_read_3 0).trans rfl
theorem n_X7_read_70 : nth t_X7_read 70 = aStI 2 71 := (y_X7_read_3 3).trans rfl
theorem n_X7_read_71 : nth t_X7_read 71 = aLdI 2 72 := (y_X7_read_3 4).trans rfl
theorem n_X7_read_72 : nth t_X7_read 72 = aIfLt 84 75 := (y_X7_read_3 5).trans rfl
theorem n_X7_read_75 : nth t_X7_read 75 = aLdA 0 76 := (y_X7_read_3 8).trans rfl
theorem n_X7_read_76 : nth t_X7_read 76 = aK (.int 45) 78 := (y_X7_read_3 9).trans rfl
theorem n_X7_read_78 : nth t_X7_read 78 = aCalV 171 1 81 [6] none := (y_X7_read_3 11).trans rfl
theorem n_X7_read_81 : nth t_X7_read 81 = aIfEq 84 86 := (y_X7_read_3 14).trans rfl
theorem n_X7_read_84 : nth t_X7_read 84 = aK (.int 0) 85 := (y_X7_read_3 17).trans rfl
theorem n_X7_read_85 : nth t_X7_read 85 = aRetZ := (y_X7_read_3 18).trans rfl
theorem n_X7_read_86 : nth t_X7_read 86 = aLdA 0 87 := (y_X7_read_3 19).trans rfl
theorem n_X7_read_87 : nth t_X7_read 87 = aLdI 2 88 := (y_X7_read_3 20).trans rfl
theorem y_X7_read_4 (n : Nat) : nth t_X7_read (n + 88) = nth t_X7_read_c4 n := (y_X7_read_3 (n + 21)).trans rfl
theorem n_X7_read_88 : nth t_X7_read 88 = aCalV 169 1 91 [6] none := (y_X7_read_4 0).trans rfl
theorem n_X7_read_91 : nth t_X7_read 91 = aStI 3 92 := (y_X7_read_4 3).trans rfl
theorem n_X7_read_92 : nth t_X7_read 92 = aLdI 3 93 := (y_X7_read_4 4).trans rfl
theorem n_X7_read_93 : nth t_X7_read 93 = aIfLt 105 96 := (y_X7_read_4 5).trans rfl
theorem n_X7_read_96 : nth t_X7_read 96 = aLdA 0 97 := (y_X7_read_4 8).trans rfl
theorem n_X7_read_97 : nth t_X7_read 97 = aK (.int 59) 99 := (y_X7_read_4 9).trans rfl
theorem n_X7_read_99 : nth t_X7_read 99 = aCalV 171 1 102 [6] none := (y_X7_read_4 11).trans rfl
theorem n_X7_read_102 : nth t_X7_read 102 = aIfEq 105 107 := (y_X7_read_4 14).trans rfl
theorem n_X7_read_105 : nth t_X7_read 105 = aK (.int 0) 106 := (y_X7_read_4 17).trans rfl
theorem n_X7_read_106 : nth t_X7_read 106 = aRetZ := (y_X7_read_4 18).trans rfl
theorem n_X7_read_107 : nth t_X7_read 107 = aLdA 0 108 := (y_X7_read_4 19).trans rfl
theorem n_X7_read_108 : nth t_X7_read 108 = aGetR 15 [6] 111 := (y_X7_read_4 20).trans rfl
theorem y_X7_read_5 (n : Nat) : nth t_X7_read (n + 111) = nth t_X7_read_c5 n := (y_X7_read_4 (n + 23)).trans rfl
theorem n_X7_read_111 : nth t_X7_read 111 = aK (.int 60) 113 := (y_X7_read_5 0).trans rfl
theorem n_X7_read_113 : nth t_X7_read 113 = aLdA 0 114 := (y_X7_read_5 2).trans rfl
theorem n_X7_read_114 : nth t_X7_read 114 = aGetR 17 [6] 117 := (y_X7_read_5 3).trans rfl
theorem n_X7_read_117 : nth t_X7_read 117 = aK (.int 1) 118 := (y_X7_read_5 6).trans rfl
theorem n_X7_read_118 : nth t_X7_read 118 = aAldI 119 := (y_X7_read_5 7).trans rfl
theorem n_X7_read_119 : nth t_X7_read 119 = aB (fun x y => x + y) 120 := (y_X7_read_5 8).trans rfl
theorem n_X7_read_120 : nth t_X7_read 120 = aLdI 2 121 := (y_X7_read_5 9).trans rfl
theorem n_X7_read_121 : nth t_X7_read 121 = aAstI 122 := (y_X7_read_5 10).trans rfl
theorem n_X7_read_122 : nth t_X7_read 122 = aLdA 0 123 := (y_X7_read_5 11).trans rfl
theorem n_X7_read_123 : nth t_X7_read 123 = aGetR 16 [6] 126 := (y_X7_read_5 12).trans rfl
theorem n_X7_read_126 : nth t_X7_read 126 = aK (.int 60) 128 := (y_X7_read_5 15).trans rfl
theorem n_X7_read_128 : nth t_X7_read 128 = aLdA 0 129 := (y_X7_read_5 17).trans rfl
theorem y_X7_read_6 (n : Nat) : nth t_X7_read (n + 129) = nth t_X7_read_c6 n := (y_X7_read_5 (n + 18)).trans rfl
theorem n_X7_read_129 : nth t_X7_read 129 = aGetR 17 [6] 132 := (y_X7_read_6 0).trans rfl
theorem n_X7_read_132 : nth t_X7_read 132 = aK (.int 1) 133 := (y_X7_read_6 3).trans rfl
theorem n_X7_read_133 : nth t_X7_read 133 = aAldI 134 := (y_X7_read_6 4).trans rfl
theorem n_X7_read_134 : nth t_X7_read 134 = aB (fun x y => x + y) 135 := (y_X7_read_6 5).trans rfl
theorem n_X7_read_135 : nth t_X7_read 135 = aLdI 3 136 := (y_X7_read_6 6).trans rfl
theorem n_X7_read_136 : nth t_X7_read 136 = aAstI 137 := (y_X7_read_6 7).trans rfl
theorem n_X7_read_137 : nth t_X7_read 137 = aLdA 0 138 := (y_X7_read_6 8).trans rfl
theorem n_X7_read_138 : nth t_X7_read 138 = aGetR 17 [6] 141 := (y_X7_read_6 9).trans rfl
theorem n_X7_read_141 : nth t_X7_read 141 = aK (.int 1) 142 := (y_X7_read_6 12).trans rfl
theorem n_X7_read_142 : nth t_X7_read 142 = aDup2 143 := (y_X7_read_6 13).trans rfl
theorem n_X7_read_143 : nth t_X7_read 143 = aAldI 144 := (y_X7_read_6 14).trans rfl
theorem n_X7_read_144 : nth t_X7_read 144 = aK (.int 1) 145 := (y_X7_read_6 15).trans rfl
theorem y_X7_read_7 (n : Nat) : nth t_X7_read (n + 145) = nth t_X7_read_c7 n := (y_X7_read_6 (n + 16)).trans rfl
theorem n_X7_read_145 : nth t_X7_read 145 = aB (fun x y => x + y) 146 := (y_X7_read_7 0).trans rfl
theorem n_X7_read_146 : nth t_X7_read 146 = aAstI 147 := (y_X7_read_7 1).trans rfl
theorem n_X7_read_147 : nth t_X7_read 147 = aGoto 0 := (y_X7_read_7 2).trans rfl
theorem n_X7_read_150 : nth t_X7_read 150 = aK (.int 1) 151 := (y_X7_read_7 5).trans rfl
theorem n_X7_read_151 : nth t_X7_read 151 = aRetZ := (y_X7_read_7 6).trans rfl
theorem n_X7_isHub_0 : nth t_X7_isHub 0 = aLdA 0 1 := rfl
theorem n_X7_isHub_1 : nth t_X7_isHub 1 = aK (.int 1) 2 := rfl
theorem n_X7_isHub_2 : nth t_X7_isHub 2 = aPutI 22 [6] 5 := rfl
theorem n_X7_isHub_5 : nth t_X7_isHub 5 = aLdA 0 6 := rfl
theorem n_X7_isHub_6 : nth t_X7_isHub 6 = aK (.int 20) 8 := rfl
theorem n_X7_isHub_8 : nth t_X7_isHub 8 = aPutI 21 [6] 11 := rfl
theorem n_X7_isHub_11 : nth t_X7_isHub 11 = aLdA 0 12 := rfl
theorem n_X7_isHub_12 : nth t_X7_isHub 12 = aLdL 1 13 := rfl
theorem n_X7_isHub_13 : nth t_X7_isHub 13 = aK (.long 99) 16 := rfl
theorem n_X7_isHub_16 : nth t_X7_isHub 16 = aLcmp 17 := rfl
theorem n_X7_isHub_17 : nth t_X7_isHub 17 = aIfEq 20 24 := rfl
theorem n_X7_isHub_20 : nth t_X7_isHub 20 = aK (.int 0) 21 := rfl
theorem y_X7_isHub_1 (n : Nat) : nth t_X7_isHub (n + 21) = nth t_X7_isHub_c1 n := rfl
theorem n_X7_isHub_21 : nth t_X7_isHub 21 = aGoto 65 := (y_X7_isHub_1 0).trans rfl
theorem n_X7_isHub_24 : nth t_X7_isHub 24 = aLdL 1 25 := (y_X7_isHub_1 3).trans rfl
theorem n_X7_isHub_25 : nth t_X7_isHub 25 = aK (.long 97) 28 := (y_X7_isHub_1 4).trans rfl
theorem n_X7_isHub_28 : nth t_X7_isHub 28 = aLcmp 29 := (y_X7_isHub_1 7).trans rfl
theorem n_X7_isHub_29 : nth t_X7_isHub 29 = aIfEq 32 37 := (y_X7_isHub_1 8).trans rfl
theorem n_X7_isHub_32 : nth t_X7_isHub 32 = aK (.int 20) 34 := (y_X7_isHub_1 11).trans rfl
theorem n_X7_isHub_34 : nth t_X7_isHub 34 = aGoto 65 := (y_X7_isHub_1 13).trans rfl
theorem n_X7_isHub_37 : nth t_X7_isHub 37 = aLdL 1 38 := (y_X7_isHub_1 16).trans rfl
theorem n_X7_isHub_38 : nth t_X7_isHub 38 = aK (.long 120) 41 := (y_X7_isHub_1 17).trans rfl
theorem n_X7_isHub_41 : nth t_X7_isHub 41 = aLcmp 42 := (y_X7_isHub_1 20).trans rfl
theorem n_X7_isHub_42 : nth t_X7_isHub 42 = aIfEq 45 50 := (y_X7_isHub_1 21).trans rfl
theorem n_X7_isHub_45 : nth t_X7_isHub 45 = aK (.int 40) 47 := (y_X7_isHub_1 24).trans rfl
theorem y_X7_isHub_2 (n : Nat) : nth t_X7_isHub (n + 47) = nth t_X7_isHub_c2 n := (y_X7_isHub_1 (n + 26)).trans rfl
theorem n_X7_isHub_47 : nth t_X7_isHub 47 = aGoto 65 := (y_X7_isHub_2 0).trans rfl
theorem n_X7_isHub_50 : nth t_X7_isHub 50 = aLdL 1 51 := (y_X7_isHub_2 3).trans rfl
theorem n_X7_isHub_51 : nth t_X7_isHub 51 = aK (.long 113) 54 := (y_X7_isHub_2 4).trans rfl
theorem n_X7_isHub_54 : nth t_X7_isHub 54 = aLcmp 55 := (y_X7_isHub_2 7).trans rfl
theorem n_X7_isHub_55 : nth t_X7_isHub 55 = aIfEq 58 64 := (y_X7_isHub_2 8).trans rfl
theorem n_X7_isHub_58 : nth t_X7_isHub 58 = aK (.int 159) 61 := (y_X7_isHub_2 11).trans rfl
theorem n_X7_isHub_61 : nth t_X7_isHub 61 = aGoto 65 := (y_X7_isHub_2 14).trans rfl
theorem n_X7_isHub_64 : nth t_X7_isHub 64 = aK (.int (-1)) 65 := (y_X7_isHub_2 17).trans rfl
theorem n_X7_isHub_65 : nth t_X7_isHub 65 = aPutI 20 [6] 68 := (y_X7_isHub_2 18).trans rfl
theorem n_X7_isHub_68 : nth t_X7_isHub 68 = aLdA 0 69 := (y_X7_isHub_2 21).trans rfl
theorem n_X7_isHub_69 : nth t_X7_isHub 69 = aGetI 20 [6] 72 := (y_X7_isHub_2 22).trans rfl
theorem n_X7_isHub_72 : nth t_X7_isHub 72 = aIfLt 77 75 := (y_X7_isHub_2 25).trans rfl
theorem y_X7_isHub_3 (n : Nat) : nth t_X7_isHub (n + 75) = nth t_X7_isHub_c3 n := (y_X7_isHub_2 (n + 28)).trans rfl
theorem n_X7_isHub_75 : nth t_X7_isHub 75 = aK (.int 1) 76 := (y_X7_isHub_3 0).trans rfl
theorem n_X7_isHub_76 : nth t_X7_isHub 76 = aRetZ := (y_X7_isHub_3 1).trans rfl
theorem n_X7_isHub_77 : nth t_X7_isHub 77 = aLdA 0 78 := (y_X7_isHub_3 2).trans rfl
theorem n_X7_isHub_78 : nth t_X7_isHub 78 = aK (.int 1) 79 := (y_X7_isHub_3 3).trans rfl
theorem n_X7_isHub_79 : nth t_X7_isHub 79 = aPutI 21 [6] 82 := (y_X7_isHub_3 4).trans rfl
theorem n_X7_isHub_82 : nth t_X7_isHub 82 = aLdA 0 83 := (y_X7_isHub_3 7).trans rfl
theorem n_X7_isHub_83 : nth t_X7_isHub 83 = aLdL 1 84 := (y_X7_isHub_3 8).trans rfl
theorem n_X7_isHub_84 : nth t_X7_isHub 84 = aK (.long 101) 87 := (y_X7_isHub_3 9).trans rfl
theorem n_X7_isHub_87 : nth t_X7_isHub 87 = aLcmp 88 := (y_X7_isHub_3 12).trans rfl
theorem n_X7_isHub_88 : nth t_X7_isHub 88 = aIfEq 91 96 := (y_X7_isHub_3 13).trans rfl
theorem n_X7_isHub_91 : nth t_X7_isHub 91 = aK (.int 60) 93 := (y_X7_isHub_3 16).trans rfl
theorem n_X7_isHub_93 : nth t_X7_isHub 93 = aGoto 125 := (y_X7_isHub_3 18).trans rfl
theorem y_X7_isHub_4 (n : Nat) : nth t_X7_isHub (n + 96) = nth t_X7_isHub_c4 n := (y_X7_isHub_3 (n + 21)).trans rfl
theorem n_X7_isHub_96 : nth t_X7_isHub 96 = aLdL 1 97 := (y_X7_isHub_4 0).trans rfl
theorem n_X7_isHub_97 : nth t_X7_isHub 97 = aK (.long 109) 100 := (y_X7_isHub_4 1).trans rfl
theorem n_X7_isHub_100 : nth t_X7_isHub 100 = aLcmp 101 := (y_X7_isHub_4 4).trans rfl
theorem n_X7_isHub_101 : nth t_X7_isHub 101 = aIfEq 104 110 := (y_X7_isHub_4 5).trans rfl
theorem n_X7_isHub_104 : nth t_X7_isHub 104 = aK (.int 179) 107 := (y_X7_isHub_4 8).trans rfl
theorem n_X7_isHub_107 : nth t_X7_isHub 107 = aGoto 125 := (y_X7_isHub_4 11).trans rfl
theorem n_X7_isHub_110 : nth t_X7_isHub 110 = aLdL 1 111 := (y_X7_isHub_4 14).trans rfl
theorem n_X7_isHub_111 : nth t_X7_isHub 111 = aK (.long 1751215220) 114 := (y_X7_isHub_4 15).trans rfl
theorem n_X7_isHub_114 : nth t_X7_isHub 114 = aLcmp 115 := (y_X7_isHub_4 18).trans rfl
theorem n_X7_isHub_115 : nth t_X7_isHub 115 = aIfEq 118 124 := (y_X7_isHub_4 19).trans rfl
theorem n_X7_isHub_118 : nth t_X7_isHub 118 = aK (.int 180) 121 := (y_X7_isHub_4 22).trans rfl
theorem n_X7_isHub_121 : nth t_X7_isHub 121 = aGoto 125 := (y_X7_isHub_4 25).trans rfl
theorem y_X7_isHub_5 (n : Nat) : nth t_X7_isHub (n + 124) = nth t_X7_isHub_c5 n := (y_X7_isHub_4 (n + 28)).trans rfl
theorem n_X7_isHub_124 : nth t_X7_isHub 124 = aK (.int (-1)) 125 := (y_X7_isHub_5 0).trans rfl
theorem n_X7_isHub_125 : nth t_X7_isHub 125 = aPutI 20 [6] 128 := (y_X7_isHub_5 1).trans rfl
theorem n_X7_isHub_128 : nth t_X7_isHub 128 = aLdA 0 129 := (y_X7_isHub_5 4).trans rfl
theorem n_X7_isHub_129 : nth t_X7_isHub 129 = aGetI 20 [6] 132 := (y_X7_isHub_5 5).trans rfl
theorem n_X7_isHub_132 : nth t_X7_isHub 132 = aIfLt 137 135 := (y_X7_isHub_5 8).trans rfl
theorem n_X7_isHub_135 : nth t_X7_isHub 135 = aK (.int 1) 136 := (y_X7_isHub_5 11).trans rfl
theorem n_X7_isHub_136 : nth t_X7_isHub 136 = aRetZ := (y_X7_isHub_5 12).trans rfl
theorem n_X7_isHub_137 : nth t_X7_isHub 137 = aLdA 0 138 := (y_X7_isHub_5 13).trans rfl
theorem n_X7_isHub_138 : nth t_X7_isHub 138 = aK (.int 4) 139 := (y_X7_isHub_5 14).trans rfl
theorem n_X7_isHub_139 : nth t_X7_isHub 139 = aPutI 21 [6] 142 := (y_X7_isHub_5 15).trans rfl
theorem n_X7_isHub_142 : nth t_X7_isHub 142 = aLdA 0 143 := (y_X7_isHub_5 18).trans rfl
theorem n_X7_isHub_143 : nth t_X7_isHub 143 = aLdL 1 144 := (y_X7_isHub_5 19).trans rfl
theorem y_X7_isHub_6 (n : Nat) : nth t_X7_isHub (n + 144) = nth t_X7_isHub_c6 n := (y_X7_isHub_5 (n + 20)).trans rfl
theorem n_X7_isHub_144 : nth t_X7_isHub 144 = aK (.long 117) 147 := (y_X7_isHub_6 0).trans rfl
theorem n_X7_isHub_147 : nth t_X7_isHub 147 = aLcmp 148 := (y_X7_isHub_6 3).trans rfl
theorem n_X7_isHub_148 : nth t_X7_isHub 148 = aIfEq 151 156 := (y_X7_isHub_6 4).trans rfl
theorem n_X7_isHub_151 : nth t_X7_isHub 151 = aK (.int 61) 153 := (y_X7_isHub_6 7).trans rfl
theorem n_X7_isHub_153 : nth t_X7_isHub 153 = aGoto 252 := (y_X7_isHub_6 9).trans rfl
theorem n_X7_isHub_156 : nth t_X7_isHub 156 = aLdL 1 157 := (y_X7_isHub_6 12).trans rfl
theorem n_X7_isHub_157 : nth t_X7_isHub 157 = aK (.long 122) 160 := (y_X7_isHub_6 13).trans rfl
theorem n_X7_isHub_160 : nth t_X7_isHub 160 = aLcmp 161 := (y_X7_isHub_6 16).trans rfl
theorem n_X7_isHub_161 : nth t_X7_isHub 161 = aIfEq 164 169 := (y_X7_isHub_6 17).trans rfl
theorem n_X7_isHub_164 : nth t_X7_isHub 164 = aK (.int 92) 166 := (y_X7_isHub_6 20).trans rfl
theorem n_X7_isHub_166 : nth t_X7_isHub 166 = aGoto 252 := (y_X7_isHub_6 22).trans rfl
theorem n_X7_isHub_169 : nth t_X7_isHub 169 = aLdL 1 170 := (y_X7_isHub_6 25).trans rfl
theorem y_X7_isHub_7 (n : Nat) : nth t_X7_isHub (n + 170) = nth t_X7_isHub_c7 n := (y_X7_isHub_6 (n + 26)).trans rfl
theorem n_X7_isHub_170 : nth t_X7_isHub 170 = aK (.long 1886156147) 173 := (y_X7_isHub_7 0).trans rfl
theorem n_X7_isHub_173 : nth t_X7_isHub 173 = aLcmp 174 := (y_X7_isHub_7 3).trans rfl
theorem n_X7_isHub_174 : nth t_X7_isHub 174 = aIfEq 177 182 := (y_X7_isHub_7 4).trans rfl
theorem n_X7_isHub_177 : nth t_X7_isHub 177 = aK (.int 120) 179 := (y_X7_isHub_7 7).trans rfl
theorem n_X7_isHub_179 : nth t_X7_isHub 179 = aGoto 252 := (y_X7_isHub_7 9).trans rfl
theorem n_X7_isHub_182 : nth t_X7_isHub 182 = aLdL 1 183 := (y_X7_isHub_7 12).trans rfl
theorem n_X7_isHub_183 : nth t_X7_isHub 183 = aK (.long 469920281971) 186 := (y_X7_isHub_7 13).trans rfl
theorem n_X7_isHub_186 : nth t_X7_isHub 186 = aLcmp 187 := (y_X7_isHub_7 16).trans rfl
theorem n_X7_isHub_187 : nth t_X7_isHub 187 = aIfEq 190 195 := (y_X7_isHub_7 17).trans rfl
theorem n_X7_isHub_190 : nth t_X7_isHub 190 = aK (.int 124) 192 := (y_X7_isHub_7 20).trans rfl
theorem n_X7_isHub_192 : nth t_X7_isHub 192 = aGoto 252 := (y_X7_isHub_7 22).trans rfl
theorem n_X7_isHub_195 : nth t_X7_isHub 195 = aLdL 1 196 := (y_X7_isHub_7 25).trans rfl
theorem y_X7_isHub_8 (n : Nat) : nth t_X7_isHub (n + 196) = nth t_X7_isHub_c8 n := (y_X7_isHub_7 (n + 26)).trans rfl
theorem n_X7_isHub_196 : nth t_X7_isHub 196 = aK (.long 427020345714) 199 := (y_X7_isHub_8 0).trans rfl
theorem n_X7_isHub_199 : nth t_X7_isHub 199 = aLcmp 200 := (y_X7_isHub_8 3).trans rfl
theorem n_X7_isHub_200 : nth t_X7_isHub 200 = aIfEq 203 209 := (y_X7_isHub_8 4).trans rfl
theorem n_X7_isHub_203 : nth t_X7_isHub 203 = aK (.int 128) 206 := (y_X7_isHub_8 7).trans rfl
theorem n_X7_isHub_206 : nth t_X7_isHub 206 = aGoto 252 := (y_X7_isHub_8 10).trans rfl
theorem n_X7_isHub_209 : nth t_X7_isHub 209 = aLdL 1 210 := (y_X7_isHub_8 13).trans rfl
theorem n_X7_isHub_210 : nth t_X7_isHub 210 = aK (.long 115) 213 := (y_X7_isHub_8 14).trans rfl
theorem n_X7_isHub_213 : nth t_X7_isHub 213 = aLcmp 214 := (y_X7_isHub_8 17).trans rfl
theorem n_X7_isHub_214 : nth t_X7_isHub 214 = aIfEq 217 223 := (y_X7_isHub_8 18).trans rfl
theorem n_X7_isHub_217 : nth t_X7_isHub 217 = aK (.int 144) 220 := (y_X7_isHub_8 21).trans rfl
theorem n_X7_isHub_220 : nth t_X7_isHub 220 = aGoto 252 := (y_X7_isHub_8 24).trans rfl
theorem n_X7_isHub_223 : nth t_X7_isHub 223 = aLdL 1 224 := (y_X7_isHub_8 27).trans rfl
theorem y_X7_isHub_9 (n : Nat) : nth t_X7_isHub (n + 224) = nth t_X7_isHub_c9 n := (y_X7_isHub_8 (n + 28)).trans rfl
theorem n_X7_isHub_224 : nth t_X7_isHub 224 = aK (.long 27489) 227 := (y_X7_isHub_9 0).trans rfl
theorem n_X7_isHub_227 : nth t_X7_isHub 227 = aLcmp 228 := (y_X7_isHub_9 3).trans rfl
theorem n_X7_isHub_228 : nth t_X7_isHub 228 = aIfEq 231 237 := (y_X7_isHub_9 4).trans rfl
theorem n_X7_isHub_231 : nth t_X7_isHub 231 = aK (.int 148) 234 := (y_X7_isHub_9 7).trans rfl
theorem n_X7_isHub_234 : nth t_X7_isHub 234 = aGoto 252 := (y_X7_isHub_9 10).trans rfl
theorem n_X7_isHub_237 : nth t_X7_isHub 237 = aLdL 1 238 := (y_X7_isHub_9 13).trans rfl
theorem n_X7_isHub_238 : nth t_X7_isHub 238 = aK (.long 27490) 241 := (y_X7_isHub_9 14).trans rfl
theorem n_X7_isHub_241 : nth t_X7_isHub 241 = aLcmp 242 := (y_X7_isHub_9 17).trans rfl
theorem n_X7_isHub_242 : nth t_X7_isHub 242 = aIfEq 245 251 := (y_X7_isHub_9 18).trans rfl
theorem n_X7_isHub_245 : nth t_X7_isHub 245 = aK (.int 152) 248 := (y_X7_isHub_9 21).trans rfl
theorem n_X7_isHub_248 : nth t_X7_isHub 248 = aGoto 252 := (y_X7_isHub_9 24).trans rfl
theorem n_X7_isHub_251 : nth t_X7_isHub 251 = aK (.int (-1)) 252 := (y_X7_isHub_9 27).trans rfl
theorem y_X7_isHub_10 (n : Nat) : nth t_X7_isHub (n + 252) = nth t_X7_isHub_c10 n := (y_X7_isHub_9 (n + 28)).trans rfl
theorem n_X7_isHub_252 : nth t_X7_isHub 252 = aPutI 20 [6] 255 := (y_X7_isHub_10 0).trans rfl
theorem n_X7_isHub_255 : nth t_X7_isHub 255 = aLdA 0 256 := (y_X7_isHub_10 3).trans rfl
theorem n_X7_isHub_256 : nth t_X7_isHub 256 = aGetI 20 [6] 259 := (y_X7_isHub_10 4).trans rfl
theorem n_X7_isHub_259 : nth t_X7_isHub 259 = aIfLt 264 262 := (y_X7_isHub_10 7).trans rfl
theorem n_X7_isHub_262 : nth t_X7_isHub 262 = aK (.int 1) 263 := (y_X7_isHub_10 10).trans rfl
theorem n_X7_isHub_263 : nth t_X7_isHub 263 = aRetZ := (y_X7_isHub_10 11).trans rfl
theorem n_X7_isHub_264 : nth t_X7_isHub 264 = aLdA 0 265 := (y_X7_isHub_10 12).trans rfl
theorem n_X7_isHub_265 : nth t_X7_isHub 265 = aLdL 1 266 := (y_X7_isHub_10 13).trans rfl
theorem n_X7_isHub_266 : nth t_X7_isHub 266 = aK (.long 111) 269 := (y_X7_isHub_10 14).trans rfl
theorem n_X7_isHub_269 : nth t_X7_isHub 269 = aLcmp 270 := (y_X7_isHub_10 17).trans rfl
theorem n_X7_isHub_270 : nth t_X7_isHub 270 = aIfEq 281 273 := (y_X7_isHub_10 18).trans rfl
theorem n_X7_isHub_273 : nth t_X7_isHub 273 = aLdL 1 274 := (y_X7_isHub_10 21).trans rfl
theorem y_X7_isHub_11 (n : Nat) : nth t_X7_isHub (n + 274) = nth t_X7_isHub_c11 n := (y_X7_isHub_10 (n + 22)).trans rfl
theorem n_X7_isHub_274 : nth t_X7_isHub 274 = aK (.long 105) 277 := (y_X7_isHub_11 0).trans rfl
theorem n_X7_isHub_277 : nth t_X7_isHub 277 = aLcmp 278 := (y_X7_isHub_11 3).trans rfl
theorem n_X7_isHub_278 : nth t_X7_isHub 278 = aIfEq 281 286 := (y_X7_isHub_11 4).trans rfl
theorem n_X7_isHub_281 : nth t_X7_isHub 281 = aK (.int 6) 283 := (y_X7_isHub_11 7).trans rfl
theorem n_X7_isHub_283 : nth t_X7_isHub 283 = aGoto 287 := (y_X7_isHub_11 9).trans rfl
theorem n_X7_isHub_286 : nth t_X7_isHub 286 = aK (.int 3) 287 := (y_X7_isHub_11 12).trans rfl
theorem n_X7_isHub_287 : nth t_X7_isHub 287 = aPutI 22 [6] 290 := (y_X7_isHub_11 13).trans rfl
theorem n_X7_isHub_290 : nth t_X7_isHub 290 = aLdA 0 291 := (y_X7_isHub_11 16).trans rfl
theorem n_X7_isHub_291 : nth t_X7_isHub 291 = aLdL 1 292 := (y_X7_isHub_11 17).trans rfl
theorem n_X7_isHub_292 : nth t_X7_isHub 292 = aK (.long 111) 295 := (y_X7_isHub_11 18).trans rfl
theorem n_X7_isHub_295 : nth t_X7_isHub 295 = aLcmp 296 := (y_X7_isHub_11 21).trans rfl
theorem n_X7_isHub_296 : nth t_X7_isHub 296 = aIfEq 299 304 := (y_X7_isHub_11 22).trans rfl
theorem y_X7_isHub_12 (n : Nat) : nth t_X7_isHub (n + 299) = nth t_X7_isHub_c12 n := (y_X7_isHub_11 (n + 25)).trans rfl
theorem n_X7_isHub_299 : nth t_X7_isHub 299 = aK (.int 68) 301 := (y_X7_isHub_12 0).trans rfl
theorem n_X7_isHub_301 : nth t_X7_isHub 301 = aGoto 360 := (y_X7_isHub_12 2).trans rfl
theorem n_X7_isHub_304 : nth t_X7_isHub 304 = aLdL 1 305 := (y_X7_isHub_12 5).trans rfl
theorem n_X7_isHub_305 : nth t_X7_isHub 305 = aK (.long 105) 308 := (y_X7_isHub_12 6).trans rfl
theorem n_X7_isHub_308 : nth t_X7_isHub 308 = aLcmp 309 := (y_X7_isHub_12 9).trans rfl
theorem n_X7_isHub_309 : nth t_X7_isHub 309 = aIfEq 312 317 := (y_X7_isHub_12 10).trans rfl
theorem n_X7_isHub_312 : nth t_X7_isHub 312 = aK (.int 96) 314 := (y_X7_isHub_12 13).trans rfl
theorem n_X7_isHub_314 : nth t_X7_isHub 314 = aGoto 360 := (y_X7_isHub_12 15).trans rfl
theorem n_X7_isHub_317 : nth t_X7_isHub 317 = aLdL 1 318 := (y_X7_isHub_12 18).trans rfl
theorem n_X7_isHub_318 : nth t_X7_isHub 318 = aK (.long 29283) 321 := (y_X7_isHub_12 19).trans rfl
theorem n_X7_isHub_321 : nth t_X7_isHub 321 = aLcmp 322 := (y_X7_isHub_12 22).trans rfl
theorem n_X7_isHub_322 : nth t_X7_isHub 322 = aIfEq 325 331 := (y_X7_isHub_12 23).trans rfl
theorem y_X7_isHub_13 (n : Nat) : nth t_X7_isHub (n + 325) = nth t_X7_isHub_c13 n := (y_X7_isHub_12 (n + 26)).trans rfl
theorem n_X7_isHub_325 : nth t_X7_isHub 325 = aK (.int 181) 328 := (y_X7_isHub_13 0).trans rfl
theorem n_X7_isHub_328 : nth t_X7_isHub 328 = aGoto 360 := (y_X7_isHub_13 3).trans rfl
theorem n_X7_isHub_331 : nth t_X7_isHub 331 = aLdL 1 332 := (y_X7_isHub_13 6).trans rfl
theorem n_X7_isHub_332 : nth t_X7_isHub 332 = aK (.long 29294) 335 := (y_X7_isHub_13 7).trans rfl
theorem n_X7_isHub_335 : nth t_X7_isHub 335 = aLcmp 336 := (y_X7_isHub_13 10).trans rfl
theorem n_X7_isHub_336 : nth t_X7_isHub 336 = aIfEq 339 345 := (y_X7_isHub_13 11).trans rfl
theorem n_X7_isHub_339 : nth t_X7_isHub 339 = aK (.int 193) 342 := (y_X7_isHub_13 14).trans rfl
theorem n_X7_isHub_342 : nth t_X7_isHub 342 = aGoto 360 := (y_X7_isHub_13 17).trans rfl
theorem n_X7_isHub_345 : nth t_X7_isHub 345 = aLdL 1 346 := (y_X7_isHub_13 20).trans rfl
theorem n_X7_isHub_346 : nth t_X7_isHub 346 = aK (.long 29300) 349 := (y_X7_isHub_13 21).trans rfl
theorem n_X7_isHub_349 : nth t_X7_isHub 349 = aLcmp 350 := (y_X7_isHub_13 24).trans rfl
theorem n_X7_isHub_350 : nth t_X7_isHub 350 = aIfEq 353 359 := (y_X7_isHub_13 25).trans rfl
theorem y_X7_isHub_14 (n : Nat) : nth t_X7_isHub (n + 353) = nth t_X7_isHub_c14 n := (y_X7_isHub_13 (n + 28)).trans rfl
theorem n_X7_isHub_353 : nth t_X7_isHub 353 = aK (.int 205) 356 := (y_X7_isHub_14 0).trans rfl
theorem n_X7_isHub_356 : nth t_X7_isHub 356 = aGoto 360 := (y_X7_isHub_14 3).trans rfl
theorem n_X7_isHub_359 : nth t_X7_isHub 359 = aK (.int (-1)) 360 := (y_X7_isHub_14 6).trans rfl
theorem n_X7_isHub_360 : nth t_X7_isHub 360 = aPutI 20 [6] 363 := (y_X7_isHub_14 7).trans rfl
theorem n_X7_isHub_363 : nth t_X7_isHub 363 = aLdA 0 364 := (y_X7_isHub_14 10).trans rfl
theorem n_X7_isHub_364 : nth t_X7_isHub 364 = aGetI 20 [6] 367 := (y_X7_isHub_14 11).trans rfl
theorem n_X7_isHub_367 : nth t_X7_isHub 367 = aIfLt 372 370 := (y_X7_isHub_14 14).trans rfl
theorem n_X7_isHub_370 : nth t_X7_isHub 370 = aK (.int 1) 371 := (y_X7_isHub_14 17).trans rfl
theorem n_X7_isHub_371 : nth t_X7_isHub 371 = aRetZ := (y_X7_isHub_14 18).trans rfl
theorem n_X7_isHub_372 : nth t_X7_isHub 372 = aLdA 0 373 := (y_X7_isHub_14 19).trans rfl
theorem n_X7_isHub_373 : nth t_X7_isHub 373 = aK (.int 1) 374 := (y_X7_isHub_14 20).trans rfl
theorem n_X7_isHub_374 : nth t_X7_isHub 374 = aPutI 22 [6] 377 := (y_X7_isHub_14 21).trans rfl
theorem y_X7_isHub_15 (n : Nat) : nth t_X7_isHub (n + 377) = nth t_X7_isHub_c15 n := (y_X7_isHub_14 (n + 24)).trans rfl
theorem n_X7_isHub_377 : nth t_X7_isHub 377 = aLdA 0 378 := (y_X7_isHub_15 0).trans rfl
theorem n_X7_isHub_378 : nth t_X7_isHub 378 = aLdL 1 379 := (y_X7_isHub_15 1).trans rfl
theorem n_X7_isHub_379 : nth t_X7_isHub 379 = aK (.long 112) 382 := (y_X7_isHub_15 2).trans rfl
theorem n_X7_isHub_382 : nth t_X7_isHub 382 = aLcmp 383 := (y_X7_isHub_15 5).trans rfl
theorem n_X7_isHub_383 : nth t_X7_isHub 383 = aIfEq 386 391 := (y_X7_isHub_15 6).trans rfl
theorem n_X7_isHub_386 : nth t_X7_isHub 386 = aK (.int 12) 388 := (y_X7_isHub_15 9).trans rfl
theorem n_X7_isHub_388 : nth t_X7_isHub 388 = aGoto 392 := (y_X7_isHub_15 11).trans rfl
theorem n_X7_isHub_391 : nth t_X7_isHub 391 = aK (.int 3) 392 := (y_X7_isHub_15 14).trans rfl
theorem n_X7_isHub_392 : nth t_X7_isHub 392 = aPutI 21 [6] 395 := (y_X7_isHub_15 15).trans rfl
theorem n_X7_isHub_395 : nth t_X7_isHub 395 = aLdA 0 396 := (y_X7_isHub_15 18).trans rfl
theorem n_X7_isHub_396 : nth t_X7_isHub 396 = aLdL 1 397 := (y_X7_isHub_15 19).trans rfl
theorem n_X7_isHub_397 : nth t_X7_isHub 397 = aK (.long 112) 400 := (y_X7_isHub_15 20).trans rfl
theorem y_X7_isHub_16 (n : Nat) : nth t_X7_isHub (n + 400) = nth t_X7_isHub_c16 n := (y_X7_isHub_15 (n + 23)).trans rfl
theorem n_X7_isHub_400 : nth t_X7_isHub 400 = aLcmp 401 := (y_X7_isHub_16 0).trans rfl
theorem n_X7_isHub_401 : nth t_X7_isHub 401 = aIfEq 404 410 := (y_X7_isHub_16 1).trans rfl
theorem n_X7_isHub_404 : nth t_X7_isHub 404 = aK (.int 132) 407 := (y_X7_isHub_16 4).trans rfl
theorem n_X7_isHub_407 : nth t_X7_isHub 407 = aGoto 438 := (y_X7_isHub_16 7).trans rfl
theorem n_X7_isHub_410 : nth t_X7_isHub 410 = aLdL 1 411 := (y_X7_isHub_16 10).trans rfl
theorem n_X7_isHub_411 : nth t_X7_isHub 411 = aK (.long 116) 414 := (y_X7_isHub_16 11).trans rfl
theorem n_X7_isHub_414 : nth t_X7_isHub 414 = aLcmp 415 := (y_X7_isHub_16 14).trans rfl
theorem n_X7_isHub_415 : nth t_X7_isHub 415 = aIfEq 418 423 := (y_X7_isHub_16 15).trans rfl
theorem n_X7_isHub_418 : nth t_X7_isHub 418 = aK (.int 65) 420 := (y_X7_isHub_16 18).trans rfl
theorem n_X7_isHub_420 : nth t_X7_isHub 420 = aGoto 438 := (y_X7_isHub_16 20).trans rfl
theorem n_X7_isHub_423 : nth t_X7_isHub 423 = aLdL 1 424 := (y_X7_isHub_16 23).trans rfl
theorem n_X7_isHub_424 : nth t_X7_isHub 424 = aK (.long 98) 427 := (y_X7_isHub_16 24).trans rfl
theorem y_X7_isHub_17 (n : Nat) : nth t_X7_isHub (n + 427) = nth t_X7_isHub_c17 n := (y_X7_isHub_16 (n + 27)).trans rfl
theorem n_X7_isHub_427 : nth t_X7_isHub 427 = aLcmp 428 := (y_X7_isHub_17 0).trans rfl
theorem n_X7_isHub_428 : nth t_X7_isHub 428 = aIfEq 431 437 := (y_X7_isHub_17 1).trans rfl
theorem n_X7_isHub_431 : nth t_X7_isHub 431 = aK (.int 156) 434 := (y_X7_isHub_17 4).trans rfl
theorem n_X7_isHub_434 : nth t_X7_isHub 434 = aGoto 438 := (y_X7_isHub_17 7).trans rfl
theorem n_X7_isHub_437 : nth t_X7_isHub 437 = aK (.int (-1)) 438 := (y_X7_isHub_17 10).trans rfl
theorem n_X7_isHub_438 : nth t_X7_isHub 438 = aPutI 20 [6] 441 := (y_X7_isHub_17 11).trans rfl
theorem n_X7_isHub_441 : nth t_X7_isHub 441 = aLdA 0 442 := (y_X7_isHub_17 14).trans rfl
theorem n_X7_isHub_442 : nth t_X7_isHub 442 = aGetI 20 [6] 445 := (y_X7_isHub_17 15).trans rfl
theorem n_X7_isHub_445 : nth t_X7_isHub 445 = aIfLt 452 448 := (y_X7_isHub_17 18).trans rfl
theorem n_X7_isHub_448 : nth t_X7_isHub 448 = aK (.int 1) 449 := (y_X7_isHub_17 21).trans rfl
theorem n_X7_isHub_449 : nth t_X7_isHub 449 = aGoto 453 := (y_X7_isHub_17 22).trans rfl
theorem n_X7_isHub_452 : nth t_X7_isHub 452 = aK (.int 0) 453 := (y_X7_isHub_17 25).trans rfl
theorem y_X7_isHub_18 (n : Nat) : nth t_X7_isHub (n + 453) = nth t_X7_isHub_c18 n := (y_X7_isHub_17 (n + 26)).trans rfl
theorem n_X7_isHub_453 : nth t_X7_isHub 453 = aRetZ := (y_X7_isHub_18 0).trans rfl
theorem n_X7_bad_0 : nth t_X7_bad 0 = aLdA 0 1 := rfl
theorem n_X7_bad_1 : nth t_X7_bad 1 = aLdI 1 2 := rfl
theorem n_X7_bad_2 : nth t_X7_bad 2 = aPutI 10 [6] 5 := rfl
theorem n_X7_bad_5 : nth t_X7_bad 5 = aLdA 0 6 := rfl
theorem n_X7_bad_6 : nth t_X7_bad 6 = aLdI 2 7 := rfl
theorem n_X7_bad_7 : nth t_X7_bad 7 = aPutI 11 [6] 10 := rfl
theorem n_X7_bad_10 : nth t_X7_bad 10 = aK (.int 0) 11 := rfl
theorem n_X7_bad_11 : nth t_X7_bad 11 = aRetZ := rfl
theorem n_X7_hub_0 : nth t_X7_hub 0 = aLdA 0 1 := rfl
theorem n_X7_hub_1 : nth t_X7_hub 1 = aGetI 7 [6] 4 := rfl
theorem n_X7_hub_4 : nth t_X7_hub 4 = aK (.int 1) 5 := rfl
theorem n_X7_hub_5 : nth t_X7_hub 5 = aIcEq 8 19 := rfl
theorem n_X7_hub_8 : nth t_X7_hub 8 = aLdA 0 9 := rfl
theorem n_X7_hub_9 : nth t_X7_hub 9 = aLdA 0 10 := rfl
theorem n_X7_hub_10 : nth t_X7_hub 10 = aGetL 13 [6] 13 := rfl
theorem n_X7_hub_13 : nth t_X7_hub 13 = aCalV 167 1 16 [6] none := rfl
theorem n_X7_hub_16 : nth t_X7_hub 16 = aIfEq 19 31 := rfl
theorem n_X7_hub_19 : nth t_X7_hub 19 = aLdA 0 20 := rfl
theorem n_X7_hub_20 : nth t_X7_hub 20 = aK (.int 1) 21 := rfl
theorem n_X7_hub_21 : nth t_X7_hub 21 = aLdA 0 22 := rfl
theorem y_X7_hub_1 (n : Nat) : nth t_X7_hub (n + 22) = nth t_X7_hub_c1 n := rfl
theorem n_X7_hub_22 : nth t_X7_hub 22 = aGetI 8 [6] 25 := (y_X7_hub_1 0).trans rfl
theorem n_X7_hub_25 : nth t_X7_hub 25 = aCalV 168 2 28 [6] none := (y_X7_hub_1 3).trans rfl
theorem n_X7_hub_28 : nth t_X7_hub 28 = aPop 29 := (y_X7_hub_1 6).trans rfl
theorem n_X7_hub_29 : nth t_X7_hub 29 = aK (.int (-1)) 30 := (y_X7_hub_1 7).trans rfl
theorem n_X7_hub_30 : nth t_X7_hub 30 = aRetI := (y_X7_hub_1 8).trans rfl
theorem n_X7_hub_31 : nth t_X7_hub 31 = aLdA 0 32 := (y_X7_hub_1 9).trans rfl
theorem n_X7_hub_32 : nth t_X7_hub 32 = aGetI 8 [6] 35 := (y_X7_hub_1 10).trans rfl
theorem n_X7_hub_35 : nth t_X7_hub 35 = aStI 2 36 := (y_X7_hub_1 13).trans rfl
theorem n_X7_hub_36 : nth t_X7_hub 36 = aLdA 0 37 := (y_X7_hub_1 14).trans rfl
theorem n_X7_hub_37 : nth t_X7_hub 37 = aGetI 20 [6] 40 := (y_X7_hub_1 15).trans rfl
theorem n_X7_hub_40 : nth t_X7_hub 40 = aStI 3 41 := (y_X7_hub_1 18).trans rfl
theorem n_X7_hub_41 : nth t_X7_hub 41 = aLdA 0 42 := (y_X7_hub_1 19).trans rfl
theorem y_X7_hub_2 (n : Nat) : nth t_X7_hub (n + 42) = nth t_X7_hub_c2 n := (y_X7_hub_1 (n + 20)).trans rfl
theorem n_X7_hub_42 : nth t_X7_hub 42 = aGetI 21 [6] 45 := (y_X7_hub_2 0).trans rfl
theorem n_X7_hub_45 : nth t_X7_hub 45 = aStI 4 47 := (y_X7_hub_2 3).trans rfl
theorem n_X7_hub_47 : nth t_X7_hub 47 = aLdA 0 48 := (y_X7_hub_2 5).trans rfl
theorem n_X7_hub_48 : nth t_X7_hub 48 = aGetI 22 [6] 51 := (y_X7_hub_2 6).trans rfl
theorem n_X7_hub_51 : nth t_X7_hub 51 = aStI 5 53 := (y_X7_hub_2 9).trans rfl
theorem n_X7_hub_53 : nth t_X7_hub 53 = aLdA 0 54 := (y_X7_hub_2 11).trans rfl
theorem n_X7_hub_54 : nth t_X7_hub 54 = aCalV 162 0 57 [6] none := (y_X7_hub_2 12).trans rfl
theorem n_X7_hub_57 : nth t_X7_hub 57 = aLdI 3 58 := (y_X7_hub_2 15).trans rfl
theorem n_X7_hub_58 : nth t_X7_hub 58 = aStI 6 60 := (y_X7_hub_2 16).trans rfl
theorem n_X7_hub_60 : nth t_X7_hub 60 = aLdI 4 62 := (y_X7_hub_2 18).trans rfl
theorem n_X7_hub_62 : nth t_X7_hub 62 = aK (.int 1) 63 := (y_X7_hub_2 20).trans rfl
theorem n_X7_hub_63 : nth t_X7_hub 63 = aIcLe 130 66 := (y_X7_hub_2 21).trans rfl
theorem y_X7_hub_3 (n : Nat) : nth t_X7_hub (n + 66) = nth t_X7_hub_c3 n := (y_X7_hub_2 (n + 24)).trans rfl
theorem n_X7_hub_66 : nth t_X7_hub 66 = aLdA 0 67 := (y_X7_hub_3 0).trans rfl
theorem n_X7_hub_67 : nth t_X7_hub 67 = aK (.int 1) 68 := (y_X7_hub_3 1).trans rfl
theorem n_X7_hub_68 : nth t_X7_hub 68 = aLdI 4 70 := (y_X7_hub_3 2).trans rfl
theorem n_X7_hub_70 : nth t_X7_hub 70 = aCalV 170 2 73 [6] none := (y_X7_hub_3 4).trans rfl
theorem n_X7_hub_73 : nth t_X7_hub 73 = aIfEq 76 78 := (y_X7_hub_3 7).trans rfl
theorem n_X7_hub_76 : nth t_X7_hub 76 = aK (.int (-1)) 77 := (y_X7_hub_3 10).trans rfl
theorem n_X7_hub_77 : nth t_X7_hub 77 = aRetI := (y_X7_hub_3 11).trans rfl
theorem n_X7_hub_78 : nth t_X7_hub 78 = aLdI 6 80 := (y_X7_hub_3 12).trans rfl
theorem n_X7_hub_80 : nth t_X7_hub 80 = aLdA 0 81 := (y_X7_hub_3 14).trans rfl
theorem n_X7_hub_81 : nth t_X7_hub 81 = aGetI 14 [6] 84 := (y_X7_hub_3 15).trans rfl
theorem n_X7_hub_84 : nth t_X7_hub 84 = aK (.int 1) 85 := (y_X7_hub_3 18).trans rfl
theorem n_X7_hub_85 : nth t_X7_hub 85 = aB (fun x y => x - y) 86 := (y_X7_hub_3 19).trans rfl
theorem y_X7_hub_4 (n : Nat) : nth t_X7_hub (n + 86) = nth t_X7_hub_c4 n := (y_X7_hub_3 (n + 20)).trans rfl
theorem n_X7_hub_86 : nth t_X7_hub 86 = aLdI 5 88 := (y_X7_hub_4 0).trans rfl
theorem n_X7_hub_88 : nth t_X7_hub 88 = aB (fun x y => x * y) 89 := (y_X7_hub_4 2).trans rfl
theorem n_X7_hub_89 : nth t_X7_hub 89 = aB (fun x y => x + y) 90 := (y_X7_hub_4 3).trans rfl
theorem n_X7_hub_90 : nth t_X7_hub 90 = aStI 6 92 := (y_X7_hub_4 4).trans rfl
theorem n_X7_hub_92 : nth t_X7_hub 92 = aLdI 5 94 := (y_X7_hub_4 6).trans rfl
theorem n_X7_hub_94 : nth t_X7_hub 94 = aK (.int 1) 95 := (y_X7_hub_4 8).trans rfl
theorem n_X7_hub_95 : nth t_X7_hub 95 = aIcLe 130 98 := (y_X7_hub_4 9).trans rfl
theorem n_X7_hub_98 : nth t_X7_hub 98 = aLdA 0 99 := (y_X7_hub_4 12).trans rfl
theorem n_X7_hub_99 : nth t_X7_hub 99 = aK (.int 46) 101 := (y_X7_hub_4 13).trans rfl
theorem n_X7_hub_101 : nth t_X7_hub 101 = aCalV 171 1 104 [6] none := (y_X7_hub_4 15).trans rfl
theorem n_X7_hub_104 : nth t_X7_hub 104 = aIfEq 117 107 := (y_X7_hub_4 18).trans rfl
theorem n_X7_hub_107 : nth t_X7_hub 107 = aLdA 0 108 := (y_X7_hub_4 21).trans rfl
theorem y_X7_hub_5 (n : Nat) : nth t_X7_hub (n + 108) = nth t_X7_hub_c5 n := (y_X7_hub_4 (n + 22)).trans rfl
theorem n_X7_hub_108 : nth t_X7_hub 108 = aK (.int 1) 109 := (y_X7_hub_5 0).trans rfl
theorem n_X7_hub_109 : nth t_X7_hub 109 = aLdI 5 111 := (y_X7_hub_5 1).trans rfl
theorem n_X7_hub_111 : nth t_X7_hub 111 = aCalV 170 2 114 [6] none := (y_X7_hub_5 3).trans rfl
theorem n_X7_hub_114 : nth t_X7_hub 114 = aIfEq 117 119 := (y_X7_hub_5 6).trans rfl
theorem n_X7_hub_117 : nth t_X7_hub 117 = aK (.int (-1)) 118 := (y_X7_hub_5 9).trans rfl
theorem n_X7_hub_118 : nth t_X7_hub 118 = aRetI := (y_X7_hub_5 10).trans rfl
theorem n_X7_hub_119 : nth t_X7_hub 119 = aLdI 6 121 := (y_X7_hub_5 11).trans rfl
theorem n_X7_hub_121 : nth t_X7_hub 121 = aLdA 0 122 := (y_X7_hub_5 13).trans rfl
theorem n_X7_hub_122 : nth t_X7_hub 122 = aGetI 14 [6] 125 := (y_X7_hub_5 14).trans rfl
theorem n_X7_hub_125 : nth t_X7_hub 125 = aK (.int 1) 126 := (y_X7_hub_5 17).trans rfl
theorem n_X7_hub_126 : nth t_X7_hub 126 = aB (fun x y => x - y) 127 := (y_X7_hub_5 18).trans rfl
theorem n_X7_hub_127 : nth t_X7_hub 127 = aB (fun x y => x + y) 128 := (y_X7_hub_5 19).trans rfl
theorem y_X7_hub_6 (n : Nat) : nth t_X7_hub (n + 128) = nth t_X7_hub_c6 n := (y_X7_hub_5 (n + 20)).trans rfl
theorem n_X7_hub_128 : nth t_X7_hub 128 = aStI 6 130 := (y_X7_hub_6 0).trans rfl
theorem n_X7_hub_130 : nth t_X7_hub 130 = aLdI 6 132 := (y_X7_hub_6 2).trans rfl
theorem n_X7_hub_132 : nth t_X7_hub 132 = aLdI 1 133 := (y_X7_hub_6 4).trans rfl
theorem n_X7_hub_133 : nth t_X7_hub 133 = aIcEq 151 136 := (y_X7_hub_6 5).trans rfl
theorem n_X7_hub_136 : nth t_X7_hub 136 = aLdA 0 137 := (y_X7_hub_6 8).trans rfl
theorem n_X7_hub_137 : nth t_X7_hub 137 = aGetR 18 [6] 140 := (y_X7_hub_6 9).trans rfl
theorem n_X7_hub_140 : nth t_X7_hub 140 = aLdI 6 142 := (y_X7_hub_6 12).trans rfl
theorem n_X7_hub_142 : nth t_X7_hub 142 = aAldI 143 := (y_X7_hub_6 14).trans rfl
theorem n_X7_hub_143 : nth t_X7_hub 143 = aLdI 6 145 := (y_X7_hub_6 15).trans rfl
theorem n_X7_hub_145 : nth t_X7_hub 145 = aCalS 172 1 148 none := (y_X7_hub_6 17).trans rfl
theorem n_X7_hub_148 : nth t_X7_hub 148 = aIcEq 151 160 := (y_X7_hub_6 20).trans rfl
theorem n_X7_hub_151 : nth t_X7_hub 151 = aLdA 0 152 := (y_X7_hub_6 23).trans rfl
theorem y_X7_hub_7 (n : Nat) : nth t_X7_hub (n + 152) = nth t_X7_hub_c7 n := (y_X7_hub_6 (n + 24)).trans rfl
theorem n_X7_hub_152 : nth t_X7_hub 152 = aK (.int 3) 153 := (y_X7_hub_7 0).trans rfl
theorem n_X7_hub_153 : nth t_X7_hub 153 = aLdI 2 154 := (y_X7_hub_7 1).trans rfl
theorem n_X7_hub_154 : nth t_X7_hub 154 = aCalV 168 2 157 [6] none := (y_X7_hub_7 2).trans rfl
theorem n_X7_hub_157 : nth t_X7_hub 157 = aPop 158 := (y_X7_hub_7 5).trans rfl
theorem n_X7_hub_158 : nth t_X7_hub 158 = aK (.int (-1)) 159 := (y_X7_hub_7 6).trans rfl
theorem n_X7_hub_159 : nth t_X7_hub 159 = aRetI := (y_X7_hub_7 7).trans rfl
theorem n_X7_hub_160 : nth t_X7_hub 160 = aLdA 0 161 := (y_X7_hub_7 8).trans rfl
theorem n_X7_hub_161 : nth t_X7_hub 161 = aGetR 18 [6] 164 := (y_X7_hub_7 9).trans rfl
theorem n_X7_hub_164 : nth t_X7_hub 164 = aLdI 6 166 := (y_X7_hub_7 12).trans rfl
theorem n_X7_hub_166 : nth t_X7_hub 166 = aDup2 167 := (y_X7_hub_7 14).trans rfl
theorem n_X7_hub_167 : nth t_X7_hub 167 = aAldI 168 := (y_X7_hub_7 15).trans rfl
theorem n_X7_hub_168 : nth t_X7_hub 168 = aK (.int 1) 169 := (y_X7_hub_7 16).trans rfl
theorem y_X7_hub_8 (n : Nat) : nth t_X7_hub (n + 169) = nth t_X7_hub_c8 n := (y_X7_hub_7 (n + 17)).trans rfl
theorem n_X7_hub_169 : nth t_X7_hub 169 = aB (fun x y => x + y) 170 := (y_X7_hub_8 0).trans rfl
theorem n_X7_hub_170 : nth t_X7_hub 170 = aAstI 171 := (y_X7_hub_8 1).trans rfl
theorem n_X7_hub_171 : nth t_X7_hub 171 = aLdI 6 173 := (y_X7_hub_8 2).trans rfl
theorem n_X7_hub_173 : nth t_X7_hub 173 = aRetI := (y_X7_hub_8 4).trans rfl
theorem n_X7_takes_0 : nth t_X7_takes 0 = aLdA 0 1 := rfl
theorem n_X7_takes_1 : nth t_X7_takes 1 = aGetI 7 [6] 4 := rfl
theorem n_X7_takes_4 : nth t_X7_takes 4 = aK (.int 2) 5 := rfl
theorem n_X7_takes_5 : nth t_X7_takes 5 = aIcEq 18 8 := rfl
theorem n_X7_takes_8 : nth t_X7_takes 8 = aLdA 0 9 := rfl
theorem n_X7_takes_9 : nth t_X7_takes 9 = aK (.int 1) 10 := rfl
theorem n_X7_takes_10 : nth t_X7_takes 10 = aLdA 0 11 := rfl
theorem n_X7_takes_11 : nth t_X7_takes 11 = aGetI 8 [6] 14 := rfl
theorem n_X7_takes_14 : nth t_X7_takes 14 = aCalV 168 2 17 [6] none := rfl
theorem n_X7_takes_17 : nth t_X7_takes 17 = aRetZ := rfl
theorem n_X7_takes_18 : nth t_X7_takes 18 = aLdA 0 19 := rfl
theorem n_X7_takes_19 : nth t_X7_takes 19 = aGetI 9 [6] 22 := rfl
theorem y_X7_takes_1 (n : Nat) : nth t_X7_takes (n + 22) = nth t_X7_takes_c1 n := rfl
theorem n_X7_takes_22 : nth t_X7_takes 22 = aLdI 1 23 := (y_X7_takes_1 0).trans rfl
theorem n_X7_takes_23 : nth t_X7_takes 23 = aLdI 2 24 := (y_X7_takes_1 1).trans rfl
theorem n_X7_takes_24 : nth t_X7_takes 24 = aCalS 154 3 27 none := (y_X7_takes_1 2).trans rfl
theorem n_X7_takes_27 : nth t_X7_takes 27 = aIfEq 30 40 := (y_X7_takes_1 5).trans rfl
theorem n_X7_takes_30 : nth t_X7_takes 30 = aLdA 0 31 := (y_X7_takes_1 8).trans rfl
theorem n_X7_takes_31 : nth t_X7_takes 31 = aK (.int 2) 32 := (y_X7_takes_1 9).trans rfl
theorem n_X7_takes_32 : nth t_X7_takes 32 = aLdA 0 33 := (y_X7_takes_1 10).trans rfl
theorem n_X7_takes_33 : nth t_X7_takes 33 = aGetI 8 [6] 36 := (y_X7_takes_1 11).trans rfl
theorem n_X7_takes_36 : nth t_X7_takes 36 = aCalV 168 2 39 [6] none := (y_X7_takes_1 14).trans rfl
theorem n_X7_takes_39 : nth t_X7_takes 39 = aRetZ := (y_X7_takes_1 17).trans rfl
theorem n_X7_takes_40 : nth t_X7_takes 40 = aLdA 0 41 := (y_X7_takes_1 18).trans rfl
theorem n_X7_takes_41 : nth t_X7_takes 41 = aLdA 0 42 := (y_X7_takes_1 19).trans rfl
theorem y_X7_takes_2 (n : Nat) : nth t_X7_takes (n + 42) = nth t_X7_takes_c2 n := (y_X7_takes_1 (n + 20)).trans rfl
theorem n_X7_takes_42 : nth t_X7_takes 42 = aGetI 9 [6] 45 := (y_X7_takes_2 0).trans rfl
theorem n_X7_takes_45 : nth t_X7_takes 45 = aPutI 14 [6] 48 := (y_X7_takes_2 3).trans rfl
theorem n_X7_takes_48 : nth t_X7_takes 48 = aLdA 0 49 := (y_X7_takes_2 6).trans rfl
theorem n_X7_takes_49 : nth t_X7_takes 49 = aCalV 162 0 52 [6] none := (y_X7_takes_2 7).trans rfl
theorem n_X7_takes_52 : nth t_X7_takes 52 = aK (.int 1) 53 := (y_X7_takes_2 10).trans rfl
theorem n_X7_takes_53 : nth t_X7_takes 53 = aRetZ := (y_X7_takes_2 11).trans rfl
theorem n_X7_sign_0 : nth t_X7_sign 0 = aLdA 0 1 := rfl
theorem n_X7_sign_1 : nth t_X7_sign 1 = aGetI 7 [6] 4 := rfl
theorem n_X7_sign_4 : nth t_X7_sign 4 = aK (.int 3) 5 := rfl
theorem n_X7_sign_5 : nth t_X7_sign 5 = aIcEq 8 16 := rfl
theorem n_X7_sign_8 : nth t_X7_sign 8 = aLdA 0 9 := rfl
theorem n_X7_sign_9 : nth t_X7_sign 9 = aGetI 9 [6] 12 := rfl
theorem n_X7_sign_12 : nth t_X7_sign 12 = aLdI 1 13 := rfl
theorem n_X7_sign_13 : nth t_X7_sign 13 = aIcEq 26 16 := rfl
theorem n_X7_sign_16 : nth t_X7_sign 16 = aLdA 0 17 := rfl
theorem n_X7_sign_17 : nth t_X7_sign 17 = aK (.int 1) 18 := rfl
theorem n_X7_sign_18 : nth t_X7_sign 18 = aLdA 0 19 := rfl
theorem n_X7_sign_19 : nth t_X7_sign 19 = aGetI 8 [6] 22 := rfl
theorem y_X7_sign_1 (n : Nat) : nth t_X7_sign (n + 22) = nth t_X7_sign_c1 n := rfl
theorem n_X7_sign_22 : nth t_X7_sign 22 = aCalV 168 2 25 [6] none := (y_X7_sign_1 0).trans rfl
theorem n_X7_sign_25 : nth t_X7_sign 25 = aRetZ := (y_X7_sign_1 3).trans rfl
theorem n_X7_sign_26 : nth t_X7_sign 26 = aLdA 0 27 := (y_X7_sign_1 4).trans rfl
theorem n_X7_sign_27 : nth t_X7_sign 27 = aCalV 162 0 30 [6] none := (y_X7_sign_1 5).trans rfl
theorem n_X7_sign_30 : nth t_X7_sign 30 = aK (.int 1) 31 := (y_X7_sign_1 8).trans rfl
theorem n_X7_sign_31 : nth t_X7_sign 31 = aRetZ := (y_X7_sign_1 9).trans rfl
theorem n_X7_most_0 : nth t_X7_most 0 = aLdI 0 1 := rfl
theorem n_X7_most_1 : nth t_X7_most 1 = aCalS 173 1 4 none := rfl
theorem n_X7_most_4 : nth t_X7_most 4 = aIfEq 11 7 := rfl
theorem n_X7_most_7 : nth t_X7_most 7 = aK (.int 1) 8 := rfl
theorem n_X7_most_8 : nth t_X7_most 8 = aGoto 13 := rfl
theorem n_X7_most_11 : nth t_X7_most 11 = aK (.int 8) 13 := rfl
theorem n_X7_most_13 : nth t_X7_most 13 = aRetI := rfl
theorem n_X7_takesOnly_0 : nth t_X7_takesOnly 0 = aLdI 0 1 := rfl
theorem n_X7_takesOnly_1 : nth t_X7_takesOnly 1 = aK (.int 96) 3 := rfl
theorem n_X7_takesOnly_3 : nth t_X7_takesOnly 3 = aK (.int 180) 6 := rfl
theorem n_X7_takesOnly_6 : nth t_X7_takesOnly 6 = aCalS 154 3 9 none := rfl
theorem n_X7_takesOnly_9 : nth t_X7_takesOnly 9 = aRetZ := rfl
theorem n_X7_copyBoard_0 : nth t_X7_copyBoard 0 = aLdA 0 1 := rfl
theorem n_X7_copyBoard_1 : nth t_X7_copyBoard 1 = aGetR 17 [6] 4 := rfl
theorem n_X7_copyBoard_4 : nth t_X7_copyBoard 4 = aLdI 2 5 := rfl
theorem n_X7_copyBoard_5 : nth t_X7_copyBoard 5 = aLdA 0 6 := rfl
theorem n_X7_copyBoard_6 : nth t_X7_copyBoard 6 = aGetR 17 [6] 9 := rfl
theorem n_X7_copyBoard_9 : nth t_X7_copyBoard 9 = aLdI 1 10 := rfl
theorem n_X7_copyBoard_10 : nth t_X7_copyBoard 10 = aAldI 11 := rfl
theorem n_X7_copyBoard_11 : nth t_X7_copyBoard 11 = aAstI 12 := rfl
theorem n_X7_copyBoard_12 : nth t_X7_copyBoard 12 = aK (.int 0) 13 := rfl
theorem n_X7_copyBoard_13 : nth t_X7_copyBoard 13 = aStI 3 14 := rfl
theorem n_X7_copyBoard_14 : nth t_X7_copyBoard 14 = aLdI 3 15 := rfl
theorem n_X7_copyBoard_15 : nth t_X7_copyBoard 15 = aK (.int 60) 17 := rfl
theorem y_X7_copyBoard_1 (n : Nat) : nth t_X7_copyBoard (n + 17) = nth t_X7_copyBoard_c1 n := rfl
theorem n_X7_copyBoard_17 : nth t_X7_copyBoard 17 = aIcLt 20 70 := (y_X7_copyBoard_1 0).trans rfl
theorem n_X7_copyBoard_20 : nth t_X7_copyBoard 20 = aLdA 0 21 := (y_X7_copyBoard_1 3).trans rfl
theorem n_X7_copyBoard_21 : nth t_X7_copyBoard 21 = aGetR 15 [6] 24 := (y_X7_copyBoard_1 4).trans rfl
theorem n_X7_copyBoard_24 : nth t_X7_copyBoard 24 = aK (.int 60) 26 := (y_X7_copyBoard_1 7).trans rfl
theorem n_X7_copyBoard_26 : nth t_X7_copyBoard 26 = aLdI 2 27 := (y_X7_copyBoard_1 9).trans rfl
theorem n_X7_copyBoard_27 : nth t_X7_copyBoard 27 = aB (fun x y => x * y) 28 := (y_X7_copyBoard_1 10).trans rfl
theorem n_X7_copyBoard_28 : nth t_X7_copyBoard 28 = aLdI 3 29 := (y_X7_copyBoard_1 11).trans rfl
theorem n_X7_copyBoard_29 : nth t_X7_copyBoard 29 = aB (fun x y => x + y) 30 := (y_X7_copyBoard_1 12).trans rfl
theorem n_X7_copyBoard_30 : nth t_X7_copyBoard 30 = aLdA 0 31 := (y_X7_copyBoard_1 13).trans rfl
theorem n_X7_copyBoard_31 : nth t_X7_copyBoard 31 = aGetR 15 [6] 34 := (y_X7_copyBoard_1 14).trans rfl
theorem n_X7_copyBoard_34 : nth t_X7_copyBoard 34 = aK (.int 60) 36 := (y_X7_copyBoard_1 17).trans rfl
theorem n_X7_copyBoard_36 : nth t_X7_copyBoard 36 = aLdI 1 37 := (y_X7_copyBoard_1 19).trans rfl
theorem y_X7_copyBoard_2 (n : Nat) : nth t_X7_copyBoard (n + 37) = nth t_X7_copyBoard_c2 n := (y_X7_copyBoard_1 (n + 20)).trans rfl
theorem n_X7_copyBoard_37 : nth t_X7_copyBoard 37 = aB (fun x y => x * y) 38 := (y_X7_copyBoard_2 0).trans rfl
theorem n_X7_copyBoard_38 : nth t_X7_copyBoard 38 = aLdI 3 39 := (y_X7_copyBoard_2 1).trans rfl
theorem n_X7_copyBoard_39 : nth t_X7_copyBoard 39 = aB (fun x y => x + y) 40 := (y_X7_copyBoard_2 2).trans rfl
theorem n_X7_copyBoard_40 : nth t_X7_copyBoard 40 = aAldI 41 := (y_X7_copyBoard_2 3).trans rfl
theorem n_X7_copyBoard_41 : nth t_X7_copyBoard 41 = aAstI 42 := (y_X7_copyBoard_2 4).trans rfl
theorem n_X7_copyBoard_42 : nth t_X7_copyBoard 42 = aLdA 0 43 := (y_X7_copyBoard_2 5).trans rfl
theorem n_X7_copyBoard_43 : nth t_X7_copyBoard 43 = aGetR 16 [6] 46 := (y_X7_copyBoard_2 6).trans rfl
theorem n_X7_copyBoard_46 : nth t_X7_copyBoard 46 = aK (.int 60) 48 := (y_X7_copyBoard_2 9).trans rfl
theorem n_X7_copyBoard_48 : nth t_X7_copyBoard 48 = aLdI 2 49 := (y_X7_copyBoard_2 11).trans rfl
theorem n_X7_copyBoard_49 : nth t_X7_copyBoard 49 = aB (fun x y => x * y) 50 := (y_X7_copyBoard_2 12).trans rfl
theorem n_X7_copyBoard_50 : nth t_X7_copyBoard 50 = aLdI 3 51 := (y_X7_copyBoard_2 13).trans rfl
theorem n_X7_copyBoard_51 : nth t_X7_copyBoard 51 = aB (fun x y => x + y) 52 := (y_X7_copyBoard_2 14).trans rfl
theorem y_X7_copyBoard_3 (n : Nat) : nth t_X7_copyBoard (n + 52) = nth t_X7_copyBoard_c3 n := (y_X7_copyBoard_2 (n + 15)).trans rfl
theorem n_X7_copyBoard_52 : nth t_X7_copyBoard 52 = aLdA 0 53 := (y_X7_copyBoard_3 0).trans rfl
theorem n_X7_copyBoard_53 : nth t_X7_copyBoard 53 = aGetR 16 [6] 56 := (y_X7_copyBoard_3 1).trans rfl
theorem n_X7_copyBoard_56 : nth t_X7_copyBoard 56 = aK (.int 60) 58 := (y_X7_copyBoard_3 4).trans rfl
theorem n_X7_copyBoard_58 : nth t_X7_copyBoard 58 = aLdI 1 59 := (y_X7_copyBoard_3 6).trans rfl
theorem n_X7_copyBoard_59 : nth t_X7_copyBoard 59 = aB (fun x y => x * y) 60 := (y_X7_copyBoard_3 7).trans rfl
theorem n_X7_copyBoard_60 : nth t_X7_copyBoard 60 = aLdI 3 61 := (y_X7_copyBoard_3 8).trans rfl
theorem n_X7_copyBoard_61 : nth t_X7_copyBoard 61 = aB (fun x y => x + y) 62 := (y_X7_copyBoard_3 9).trans rfl
theorem n_X7_copyBoard_62 : nth t_X7_copyBoard 62 = aAldI 63 := (y_X7_copyBoard_3 10).trans rfl
theorem n_X7_copyBoard_63 : nth t_X7_copyBoard 63 = aAstI 64 := (y_X7_copyBoard_3 11).trans rfl
theorem n_X7_copyBoard_64 : nth t_X7_copyBoard 64 = aInc 3 1 67 := (y_X7_copyBoard_3 12).trans rfl
theorem n_X7_copyBoard_67 : nth t_X7_copyBoard 67 = aGoto 14 := (y_X7_copyBoard_3 15).trans rfl
theorem n_X7_copyBoard_70 : nth t_X7_copyBoard 70 = aRetV := (y_X7_copyBoard_3 18).trans rfl
theorem n_X7_run_0 : nth t_X7_run 0 = aLdA 0 1 := rfl
theorem n_X7_run_1 : nth t_X7_run 1 = aK (.int 0) 2 := rfl
theorem n_X7_run_2 : nth t_X7_run 2 = aPutI 0 [6] 5 := rfl
theorem n_X7_run_5 : nth t_X7_run 5 = aLdI 1 6 := rfl
theorem n_X7_run_6 : nth t_X7_run 6 = aCalS 153 1 9 none := rfl
theorem n_X7_run_9 : nth t_X7_run 9 = aIfEq 24 12 := rfl
theorem n_X7_run_12 : nth t_X7_run 12 = aLdI 2 13 := rfl
theorem n_X7_run_13 : nth t_X7_run 13 = aCalS 153 1 16 none := rfl
theorem n_X7_run_16 : nth t_X7_run 16 = aIfEq 24 19 := rfl
theorem n_X7_run_19 : nth t_X7_run 19 = aLdI 1 20 := rfl
theorem n_X7_run_20 : nth t_X7_run 20 = aLdI 2 21 := rfl
theorem n_X7_run_21 : nth t_X7_run 21 = aIcEq 24 26 := rfl
theorem y_X7_run_1 (n : Nat) : nth t_X7_run (n + 24) = nth t_X7_run_c1 n := rfl
theorem n_X7_run_24 : nth t_X7_run 24 = aK (.int (-1)) 25 := (y_X7_run_1 0).trans rfl
theorem n_X7_run_25 : nth t_X7_run 25 = aRetI := (y_X7_run_1 1).trans rfl
theorem n_X7_run_26 : nth t_X7_run 26 = aLdA 0 27 := (y_X7_run_1 2).trans rfl
theorem n_X7_run_27 : nth t_X7_run 27 = aK (.int (-1)) 28 := (y_X7_run_1 3).trans rfl
theorem n_X7_run_28 : nth t_X7_run 28 = aPutI 42 [6] 31 := (y_X7_run_1 4).trans rfl
theorem n_X7_run_31 : nth t_X7_run 31 = aLdA 0 32 := (y_X7_run_1 7).trans rfl
theorem n_X7_run_32 : nth t_X7_run 32 = aLdI 1 33 := (y_X7_run_1 8).trans rfl
theorem n_X7_run_33 : nth t_X7_run 33 = aK (.int 0) 34 := (y_X7_run_1 9).trans rfl
theorem n_X7_run_34 : nth t_X7_run 34 = aLdA 0 35 := (y_X7_run_1 10).trans rfl
theorem n_X7_run_35 : nth t_X7_run 35 = aGetR 6 [6] 38 := (y_X7_run_1 11).trans rfl
theorem n_X7_run_38 : nth t_X7_run 38 = aLdI 1 39 := (y_X7_run_1 14).trans rfl
theorem n_X7_run_39 : nth t_X7_run 39 = aAldI 40 := (y_X7_run_1 15).trans rfl
theorem y_X7_run_2 (n : Nat) : nth t_X7_run (n + 40) = nth t_X7_run_c2 n := (y_X7_run_1 (n + 16)).trans rfl
theorem n_X7_run_40 : nth t_X7_run 40 = aK (.int (-1)) 41 := (y_X7_run_2 0).trans rfl
theorem n_X7_run_41 : nth t_X7_run 41 = aCalV 176 4 44 [6] none := (y_X7_run_2 1).trans rfl
theorem n_X7_run_44 : nth t_X7_run 44 = aLdA 0 45 := (y_X7_run_2 4).trans rfl
theorem n_X7_run_45 : nth t_X7_run 45 = aK (.int 40) 47 := (y_X7_run_2 5).trans rfl
theorem n_X7_run_47 : nth t_X7_run 47 = aLdA 0 48 := (y_X7_run_2 7).trans rfl
theorem n_X7_run_48 : nth t_X7_run 48 = aGetR 6 [6] 51 := (y_X7_run_2 8).trans rfl
theorem n_X7_run_51 : nth t_X7_run 51 = aLdI 2 52 := (y_X7_run_2 11).trans rfl
theorem n_X7_run_52 : nth t_X7_run 52 = aAldI 53 := (y_X7_run_2 12).trans rfl
theorem n_X7_run_53 : nth t_X7_run 53 = aB (fun x y => x - y) 54 := (y_X7_run_2 13).trans rfl
theorem n_X7_run_54 : nth t_X7_run 54 = aCalV 177 1 57 [6] none := (y_X7_run_2 14).trans rfl
theorem n_X7_run_57 : nth t_X7_run 57 = aK (.int 0) 58 := (y_X7_run_2 17).trans rfl
theorem n_X7_run_58 : nth t_X7_run 58 = aStI 3 59 := (y_X7_run_2 18).trans rfl
theorem y_X7_run_3 (n : Nat) : nth t_X7_run (n + 59) = nth t_X7_run_c3 n := (y_X7_run_2 (n + 19)).trans rfl
theorem n_X7_run_59 : nth t_X7_run 59 = aLdI 3 60 := (y_X7_run_3 0).trans rfl
theorem n_X7_run_60 : nth t_X7_run 60 = aK (.int 20) 62 := (y_X7_run_3 1).trans rfl
theorem n_X7_run_62 : nth t_X7_run 62 = aLdA 0 63 := (y_X7_run_3 3).trans rfl
theorem n_X7_run_63 : nth t_X7_run 63 = aGetR 32 [6] 66 := (y_X7_run_3 4).trans rfl
theorem n_X7_run_66 : nth t_X7_run 66 = aK (.int 0) 67 := (y_X7_run_3 7).trans rfl
theorem n_X7_run_67 : nth t_X7_run 67 = aAldI 68 := (y_X7_run_3 8).trans rfl
theorem n_X7_run_68 : nth t_X7_run 68 = aB (fun x y => x * y) 69 := (y_X7_run_3 9).trans rfl
theorem n_X7_run_69 : nth t_X7_run 69 = aIcLt 72 105 := (y_X7_run_3 10).trans rfl
theorem n_X7_run_72 : nth t_X7_run 72 = aLdA 0 73 := (y_X7_run_3 13).trans rfl
theorem n_X7_run_73 : nth t_X7_run 73 = aGetR 5 [6] 76 := (y_X7_run_3 14).trans rfl
theorem n_X7_run_76 : nth t_X7_run 76 = aK (.int 20) 78 := (y_X7_run_3 17).trans rfl
theorem n_X7_run_78 : nth t_X7_run 78 = aK (.int 40) 80 := (y_X7_run_3 19).trans rfl
theorem y_X7_run_4 (n : Nat) : nth t_X7_run (n + 80) = nth t_X7_run_c4 n := (y_X7_run_3 (n + 21)).trans rfl
theorem n_X7_run_80 : nth t_X7_run 80 = aLdI 2 81 := (y_X7_run_4 0).trans rfl
theorem n_X7_run_81 : nth t_X7_run 81 = aB (fun x y => x * y) 82 := (y_X7_run_4 1).trans rfl
theorem n_X7_run_82 : nth t_X7_run 82 = aLdA 0 83 := (y_X7_run_4 2).trans rfl
theorem n_X7_run_83 : nth t_X7_run 83 = aGetR 6 [6] 86 := (y_X7_run_4 3).trans rfl
theorem n_X7_run_86 : nth t_X7_run 86 = aLdI 2 87 := (y_X7_run_4 6).trans rfl
theorem n_X7_run_87 : nth t_X7_run 87 = aAldI 88 := (y_X7_run_4 7).trans rfl
theorem n_X7_run_88 : nth t_X7_run 88 = aB (fun x y => x + y) 89 := (y_X7_run_4 8).trans rfl
theorem n_X7_run_89 : nth t_X7_run 89 = aB (fun x y => x * y) 90 := (y_X7_run_4 9).trans rfl
theorem n_X7_run_90 : nth t_X7_run 90 = aLdI 3 91 := (y_X7_run_4 10).trans rfl
theorem n_X7_run_91 : nth t_X7_run 91 = aB (fun x y => x + y) 92 := (y_X7_run_4 11).trans rfl
theorem n_X7_run_92 : nth t_X7_run 92 = aLdA 0 93 := (y_X7_run_4 12).trans rfl
theorem n_X7_run_93 : nth t_X7_run 93 = aGetR 35 [6] 96 := (y_X7_run_4 13).trans rfl
theorem y_X7_run_5 (n : Nat) : nth t_X7_run (n + 96) = nth t_X7_run_c5 n := (y_X7_run_4 (n + 16)).trans rfl
theorem n_X7_run_96 : nth t_X7_run 96 = aLdI 3 97 := (y_X7_run_5 0).trans rfl
theorem n_X7_run_97 : nth t_X7_run 97 = aAldI 98 := (y_X7_run_5 1).trans rfl
theorem n_X7_run_98 : nth t_X7_run 98 = aAstI 99 := (y_X7_run_5 2).trans rfl
theorem n_X7_run_99 : nth t_X7_run 99 = aInc 3 1 102 := (y_X7_run_5 3).trans rfl
theorem n_X7_run_102 : nth t_X7_run 102 = aGoto 59 := (y_X7_run_5 6).trans rfl
theorem n_X7_run_105 : nth t_X7_run 105 = aLdA 0 106 := (y_X7_run_5 9).trans rfl
theorem n_X7_run_106 : nth t_X7_run 106 = aGetR 6 [6] 109 := (y_X7_run_5 10).trans rfl
theorem n_X7_run_109 : nth t_X7_run 109 = aLdI 2 110 := (y_X7_run_5 13).trans rfl
theorem n_X7_run_110 : nth t_X7_run 110 = aDup2 111 := (y_X7_run_5 14).trans rfl
theorem n_X7_run_111 : nth t_X7_run 111 = aAldI 112 := (y_X7_run_5 15).trans rfl
theorem n_X7_run_112 : nth t_X7_run 112 = aLdA 0 113 := (y_X7_run_5 16).trans rfl
theorem n_X7_run_113 : nth t_X7_run 113 = aGetR 32 [6] 116 := (y_X7_run_5 17).trans rfl
theorem y_X7_run_6 (n : Nat) : nth t_X7_run (n + 116) = nth t_X7_run_c6 n := (y_X7_run_5 (n + 20)).trans rfl
theorem n_X7_run_116 : nth t_X7_run 116 = aK (.int 0) 117 := (y_X7_run_6 0).trans rfl
theorem n_X7_run_117 : nth t_X7_run 117 = aAldI 118 := (y_X7_run_6 1).trans rfl
theorem n_X7_run_118 : nth t_X7_run 118 = aB (fun x y => x + y) 119 := (y_X7_run_6 2).trans rfl
theorem n_X7_run_119 : nth t_X7_run 119 = aAstI 120 := (y_X7_run_6 3).trans rfl
theorem n_X7_run_120 : nth t_X7_run 120 = aLdA 0 121 := (y_X7_run_6 4).trans rfl
theorem n_X7_run_121 : nth t_X7_run 121 = aK (.int 1) 122 := (y_X7_run_6 5).trans rfl
theorem n_X7_run_122 : nth t_X7_run 122 = aCalV 189 1 125 [6] none := (y_X7_run_6 6).trans rfl
theorem n_X7_run_125 : nth t_X7_run 125 = aLdA 0 126 := (y_X7_run_6 9).trans rfl
theorem n_X7_run_126 : nth t_X7_run 126 = aK (.int 1) 127 := (y_X7_run_6 10).trans rfl
theorem n_X7_run_127 : nth t_X7_run 127 = aPutZ 44 [6] 130 := (y_X7_run_6 11).trans rfl
theorem n_X7_run_130 : nth t_X7_run 130 = aLdA 0 131 := (y_X7_run_6 14).trans rfl
theorem n_X7_run_131 : nth t_X7_run 131 = aGetR 30 [6] 134 := (y_X7_run_6 15).trans rfl
theorem y_X7_run_7 (n : Nat) : nth t_X7_run (n + 134) = nth t_X7_run_c7 n := (y_X7_run_6 (n + 18)).trans rfl
theorem n_X7_run_134 : nth t_X7_run 134 = aK (.int 0) 135 := (y_X7_run_7 0).trans rfl
theorem n_X7_run_135 : nth t_X7_run 135 = aAldI 136 := (y_X7_run_7 1).trans rfl
theorem n_X7_run_136 : nth t_X7_run 136 = aRetI := (y_X7_run_7 2).trans rfl
theorem n_X7_load_0 : nth t_X7_load 0 = aLdA 0 1 := rfl
theorem n_X7_load_1 : nth t_X7_load 1 = aK (.int 0) 2 := rfl
theorem n_X7_load_2 : nth t_X7_load 2 = aPutI 41 [6] 5 := rfl
theorem n_X7_load_5 : nth t_X7_load 5 = aLdI 2 6 := rfl
theorem n_X7_load_6 : nth t_X7_load 6 = aStI 5 8 := rfl
theorem n_X7_load_8 : nth t_X7_load 8 = aLdI 5 10 := rfl
theorem n_X7_load_10 : nth t_X7_load 10 = aLdI 2 11 := rfl
theorem n_X7_load_11 : nth t_X7_load 11 = aLdI 3 12 := rfl
theorem n_X7_load_12 : nth t_X7_load 12 = aB (fun x y => x + y) 13 := rfl
theorem n_X7_load_13 : nth t_X7_load 13 = aIcLt 16 91 := rfl
theorem n_X7_load_16 : nth t_X7_load 16 = aLdI 5 18 := rfl
theorem n_X7_load_18 : nth t_X7_load 18 = aLdI 4 20 := rfl
theorem y_X7_load_1 (n : Nat) : nth t_X7_load (n + 20) = nth t_X7_load_c1 n := rfl
theorem n_X7_load_20 : nth t_X7_load 20 = aIcEq 23 26 := (y_X7_load_1 0).trans rfl
theorem n_X7_load_23 : nth t_X7_load 23 = aGoto 85 := (y_X7_load_1 3).trans rfl
theorem n_X7_load_26 : nth t_X7_load 26 = aK (.int 0) 27 := (y_X7_load_1 6).trans rfl
theorem n_X7_load_27 : nth t_X7_load 27 = aStI 6 29 := (y_X7_load_1 7).trans rfl
theorem n_X7_load_29 : nth t_X7_load 29 = aLdI 6 31 := (y_X7_load_1 9).trans rfl
theorem n_X7_load_31 : nth t_X7_load 31 = aK (.int 20) 33 := (y_X7_load_1 11).trans rfl
theorem n_X7_load_33 : nth t_X7_load 33 = aIcLt 36 75 := (y_X7_load_1 13).trans rfl
theorem n_X7_load_36 : nth t_X7_load 36 = aLdA 0 37 := (y_X7_load_1 16).trans rfl
theorem n_X7_load_37 : nth t_X7_load 37 = aGetR 23 [6] 40 := (y_X7_load_1 17).trans rfl
theorem n_X7_load_40 : nth t_X7_load 40 = aK (.int 20) 42 := (y_X7_load_1 20).trans rfl
theorem n_X7_load_42 : nth t_X7_load 42 = aLdA 0 43 := (y_X7_load_1 22).trans rfl
theorem n_X7_load_43 : nth t_X7_load 43 = aGetI 41 [6] 46 := (y_X7_load_1 23).trans rfl
theorem y_X7_load_2 (n : Nat) : nth t_X7_load (n + 46) = nth t_X7_load_c2 n := (y_X7_load_1 (n + 26)).trans rfl
theorem n_X7_load_46 : nth t_X7_load 46 = aB (fun x y => x * y) 47 := (y_X7_load_2 0).trans rfl
theorem n_X7_load_47 : nth t_X7_load 47 = aLdI 6 49 := (y_X7_load_2 1).trans rfl
theorem n_X7_load_49 : nth t_X7_load 49 = aB (fun x y => x + y) 50 := (y_X7_load_2 3).trans rfl
theorem n_X7_load_50 : nth t_X7_load 50 = aLdA 0 51 := (y_X7_load_2 4).trans rfl
theorem n_X7_load_51 : nth t_X7_load 51 = aGetR 5 [6] 54 := (y_X7_load_2 5).trans rfl
theorem n_X7_load_54 : nth t_X7_load 54 = aK (.int 20) 56 := (y_X7_load_2 8).trans rfl
theorem n_X7_load_56 : nth t_X7_load 56 = aK (.int 40) 58 := (y_X7_load_2 10).trans rfl
theorem n_X7_load_58 : nth t_X7_load 58 = aLdI 1 59 := (y_X7_load_2 12).trans rfl
theorem n_X7_load_59 : nth t_X7_load 59 = aB (fun x y => x * y) 60 := (y_X7_load_2 13).trans rfl
theorem n_X7_load_60 : nth t_X7_load 60 = aLdI 5 62 := (y_X7_load_2 14).trans rfl
theorem n_X7_load_62 : nth t_X7_load 62 = aB (fun x y => x + y) 63 := (y_X7_load_2 16).trans rfl
theorem n_X7_load_63 : nth t_X7_load 63 = aB (fun x y => x * y) 64 := (y_X7_load_2 17).trans rfl
theorem y_X7_load_3 (n : Nat) : nth t_X7_load (n + 64) = nth t_X7_load_c3 n := (y_X7_load_2 (n + 18)).trans rfl
theorem n_X7_load_64 : nth t_X7_load 64 = aLdI 6 66 := (y_X7_load_3 0).trans rfl
theorem n_X7_load_66 : nth t_X7_load 66 = aB (fun x y => x + y) 67 := (y_X7_load_3 2).trans rfl
theorem n_X7_load_67 : nth t_X7_load 67 = aAldI 68 := (y_X7_load_3 3).trans rfl
theorem n_X7_load_68 : nth t_X7_load 68 = aAstI 69 := (y_X7_load_3 4).trans rfl
theorem n_X7_load_69 : nth t_X7_load 69 = aInc 6 1 72 := (y_X7_load_3 5).trans rfl
theorem n_X7_load_72 : nth t_X7_load 72 = aGoto 29 := (y_X7_load_3 8).trans rfl
theorem n_X7_load_75 : nth t_X7_load 75 = aLdA 0 76 := (y_X7_load_3 11).trans rfl
theorem n_X7_load_76 : nth t_X7_load 76 = aDup 77 := (y_X7_load_3 12).trans rfl
theorem n_X7_load_77 : nth t_X7_load 77 = aGetI 41 [6] 80 := (y_X7_load_3 13).trans rfl
theorem n_X7_load_80 : nth t_X7_load 80 = aK (.int 1) 81 := (y_X7_load_3 16).trans rfl
theorem n_X7_load_81 : nth t_X7_load 81 = aB (fun x y => x + y) 82 := (y_X7_load_3 17).trans rfl
theorem n_X7_load_82 : nth t_X7_load 82 = aPutI 41 [6] 85 := (y_X7_load_3 18).trans rfl
theorem y_X7_load_4 (n : Nat) : nth t_X7_load (n + 85) = nth t_X7_load_c4 n := (y_X7_load_3 (n + 21)).trans rfl
theorem n_X7_load_85 : nth t_X7_load 85 = aInc 5 1 88 := (y_X7_load_4 0).trans rfl
theorem n_X7_load_88 : nth t_X7_load 88 = aGoto 8 := (y_X7_load_4 3).trans rfl
theorem n_X7_load_91 : nth t_X7_load 91 = aRetV := (y_X7_load_4 6).trans rfl
theorem n_X7_play_0 : nth t_X7_play 0 = aLdA 0 1 := rfl
theorem n_X7_play_1 : nth t_X7_play 1 = aLdI 1 2 := rfl
theorem n_X7_play_2 : nth t_X7_play 2 = aPutI 43 [6] 5 := rfl
theorem n_X7_play_5 : nth t_X7_play 5 = aLdA 0 6 := rfl
theorem n_X7_play_6 : nth t_X7_play 6 = aGetR 30 [6] 9 := rfl
theorem n_X7_play_9 : nth t_X7_play 9 = aK (.int 0) 10 := rfl
theorem n_X7_play_10 : nth t_X7_play 10 = aK (.int 0) 11 := rfl
theorem n_X7_play_11 : nth t_X7_play 11 = aAstI 12 := rfl
theorem n_X7_play_12 : nth t_X7_play 12 = aLdA 0 13 := rfl
theorem n_X7_play_13 : nth t_X7_play 13 = aGetR 31 [6] 16 := rfl
theorem n_X7_play_16 : nth t_X7_play 16 = aK (.int 0) 17 := rfl
theorem n_X7_play_17 : nth t_X7_play 17 = aK (.int 0) 18 := rfl
theorem y_X7_play_1 (n : Nat) : nth t_X7_play (n + 18) = nth t_X7_play_c1 n := rfl
theorem n_X7_play_18 : nth t_X7_play 18 = aAstI 19 := (y_X7_play_1 0).trans rfl
theorem n_X7_play_19 : nth t_X7_play 19 = aLdA 0 20 := (y_X7_play_1 1).trans rfl
theorem n_X7_play_20 : nth t_X7_play 20 = aGetR 32 [6] 23 := (y_X7_play_1 2).trans rfl
theorem n_X7_play_23 : nth t_X7_play 23 = aK (.int 0) 24 := (y_X7_play_1 5).trans rfl
theorem n_X7_play_24 : nth t_X7_play 24 = aK (.int 0) 25 := (y_X7_play_1 6).trans rfl
theorem n_X7_play_25 : nth t_X7_play 25 = aAstI 26 := (y_X7_play_1 7).trans rfl
theorem n_X7_play_26 : nth t_X7_play 26 = aLdA 0 27 := (y_X7_play_1 8).trans rfl
theorem n_X7_play_27 : nth t_X7_play 27 = aGetR 36 [6] 30 := (y_X7_play_1 9).trans rfl
theorem n_X7_play_30 : nth t_X7_play 30 = aK (.int 0) 31 := (y_X7_play_1 12).trans rfl
theorem n_X7_play_31 : nth t_X7_play 31 = aK (.int 0) 32 := (y_X7_play_1 13).trans rfl
theorem n_X7_play_32 : nth t_X7_play 32 = aAstI 33 := (y_X7_play_1 14).trans rfl
theorem n_X7_play_33 : nth t_X7_play 33 = aLdA 0 34 := (y_X7_play_1 15).trans rfl
theorem y_X7_play_2 (n : Nat) : nth t_X7_play (n + 34) = nth t_X7_play_c2 n := (y_X7_play_1 (n + 16)).trans rfl
theorem n_X7_play_34 : nth t_X7_play 34 = aGetR 37 [6] 37 := (y_X7_play_2 0).trans rfl
theorem n_X7_play_37 : nth t_X7_play 37 = aK (.int 0) 38 := (y_X7_play_2 3).trans rfl
theorem n_X7_play_38 : nth t_X7_play 38 = aK (.int 0) 39 := (y_X7_play_2 4).trans rfl
theorem n_X7_play_39 : nth t_X7_play 39 = aAstI 40 := (y_X7_play_2 5).trans rfl
theorem n_X7_play_40 : nth t_X7_play 40 = aLdA 0 41 := (y_X7_play_2 6).trans rfl
theorem n_X7_play_41 : nth t_X7_play 41 = aGetR 38 [6] 44 := (y_X7_play_2 7).trans rfl
theorem n_X7_play_44 : nth t_X7_play 44 = aK (.int 0) 45 := (y_X7_play_2 10).trans rfl
theorem n_X7_play_45 : nth t_X7_play 45 = aK (.int 0) 46 := (y_X7_play_2 11).trans rfl
theorem n_X7_play_46 : nth t_X7_play 46 = aAstI 47 := (y_X7_play_2 12).trans rfl
theorem n_X7_play_47 : nth t_X7_play 47 = aLdA 0 48 := (y_X7_play_2 13).trans rfl
theorem n_X7_play_48 : nth t_X7_play 48 = aGetR 39 [6] 51 := (y_X7_play_2 14).trans rfl
theorem n_X7_play_51 : nth t_X7_play 51 = aK (.int 0) 52 := (y_X7_play_2 17).trans rfl
theorem y_X7_play_3 (n : Nat) : nth t_X7_play (n + 52) = nth t_X7_play_c3 n := (y_X7_play_2 (n + 18)).trans rfl
theorem n_X7_play_52 : nth t_X7_play 52 = aK (.int (-1)) 53 := (y_X7_play_3 0).trans rfl
theorem n_X7_play_53 : nth t_X7_play 53 = aAstI 54 := (y_X7_play_3 1).trans rfl
theorem n_X7_play_54 : nth t_X7_play 54 = aLdA 0 55 := (y_X7_play_3 2).trans rfl
theorem n_X7_play_55 : nth t_X7_play 55 = aGetR 40 [6] 58 := (y_X7_play_3 3).trans rfl
theorem n_X7_play_58 : nth t_X7_play 58 = aK (.int 0) 59 := (y_X7_play_3 6).trans rfl
theorem n_X7_play_59 : nth t_X7_play 59 = aK (.int (-1)) 60 := (y_X7_play_3 7).trans rfl
theorem n_X7_play_60 : nth t_X7_play 60 = aAstI 61 := (y_X7_play_3 8).trans rfl
theorem n_X7_play_61 : nth t_X7_play 61 = aK (.int 0) 62 := (y_X7_play_3 9).trans rfl
theorem n_X7_play_62 : nth t_X7_play 62 = aStI 2 63 := (y_X7_play_3 10).trans rfl
theorem n_X7_play_63 : nth t_X7_play 63 = aLdI 2 64 := (y_X7_play_3 11).trans rfl
theorem n_X7_play_64 : nth t_X7_play 64 = aK (.int 4) 65 := (y_X7_play_3 12).trans rfl
theorem n_X7_play_65 : nth t_X7_play 65 = aIcLt 68 81 := (y_X7_play_3 13).trans rfl
theorem y_X7_play_4 (n : Nat) : nth t_X7_play (n + 68) = nth t_X7_play_c4 n := (y_X7_play_3 (n + 16)).trans rfl
theorem n_X7_play_68 : nth t_X7_play 68 = aLdA 0 69 := (y_X7_play_4 0).trans rfl
theorem n_X7_play_69 : nth t_X7_play 69 = aGetR 34 [6] 72 := (y_X7_play_4 1).trans rfl
theorem n_X7_play_72 : nth t_X7_play 72 = aLdI 2 73 := (y_X7_play_4 4).trans rfl
theorem n_X7_play_73 : nth t_X7_play 73 = aK (.int 0) 74 := (y_X7_play_4 5).trans rfl
theorem n_X7_play_74 : nth t_X7_play 74 = aAstI 75 := (y_X7_play_4 6).trans rfl
theorem n_X7_play_75 : nth t_X7_play 75 = aInc 2 1 78 := (y_X7_play_4 7).trans rfl
theorem n_X7_play_78 : nth t_X7_play 78 = aGoto 63 := (y_X7_play_4 10).trans rfl
theorem n_X7_play_81 : nth t_X7_play 81 = aLdA 0 82 := (y_X7_play_4 13).trans rfl
theorem n_X7_play_82 : nth t_X7_play 82 = aGetI 41 [6] 85 := (y_X7_play_4 14).trans rfl
theorem n_X7_play_85 : nth t_X7_play 85 = aIfEq 88 89 := (y_X7_play_4 17).trans rfl
theorem n_X7_play_88 : nth t_X7_play 88 = aRetV := (y_X7_play_4 20).trans rfl
theorem n_X7_play_89 : nth t_X7_play 89 = aLdA 0 90 := (y_X7_play_4 21).trans rfl
theorem y_X7_play_5 (n : Nat) : nth t_X7_play (n + 90) = nth t_X7_play_c5 n := (y_X7_play_4 (n + 22)).trans rfl
theorem n_X7_play_90 : nth t_X7_play 90 = aLdA 0 91 := (y_X7_play_5 0).trans rfl
theorem n_X7_play_91 : nth t_X7_play 91 = aGetR 25 [6] 94 := (y_X7_play_5 1).trans rfl
theorem n_X7_play_94 : nth t_X7_play 94 = aK (.int 0) 95 := (y_X7_play_5 4).trans rfl
theorem n_X7_play_95 : nth t_X7_play 95 = aCalV 178 2 98 [6] none := (y_X7_play_5 5).trans rfl
theorem n_X7_play_98 : nth t_X7_play 98 = aK (.int 0) 99 := (y_X7_play_5 8).trans rfl
theorem n_X7_play_99 : nth t_X7_play 99 = aStI 2 100 := (y_X7_play_5 9).trans rfl
theorem n_X7_play_100 : nth t_X7_play 100 = aK (.int 0) 101 := (y_X7_play_5 10).trans rfl
theorem n_X7_play_101 : nth t_X7_play 101 = aStI 3 102 := (y_X7_play_5 11).trans rfl
theorem n_X7_play_102 : nth t_X7_play 102 = aLdI 3 103 := (y_X7_play_5 12).trans rfl
theorem n_X7_play_103 : nth t_X7_play 103 = aLdA 0 104 := (y_X7_play_5 13).trans rfl
theorem n_X7_play_104 : nth t_X7_play 104 = aGetI 41 [6] 107 := (y_X7_play_5 14).trans rfl
theorem n_X7_play_107 : nth t_X7_play 107 = aIcLt 110 397 := (y_X7_play_5 17).trans rfl
theorem y_X7_play_6 (n : Nat) : nth t_X7_play (n + 110) = nth t_X7_play_c6 n := (y_X7_play_5 (n + 20)).trans rfl
theorem n_X7_play_110 : nth t_X7_play 110 = aLdI 2 111 := (y_X7_play_6 0).trans rfl
theorem n_X7_play_111 : nth t_X7_play 111 = aIfEq 114 397 := (y_X7_play_6 1).trans rfl
theorem n_X7_play_114 : nth t_X7_play 114 = aK (.int 0) 115 := (y_X7_play_6 4).trans rfl
theorem n_X7_play_115 : nth t_X7_play 115 = aStI 4 117 := (y_X7_play_6 5).trans rfl
theorem n_X7_play_117 : nth t_X7_play 117 = aLdI 4 119 := (y_X7_play_6 7).trans rfl
theorem n_X7_play_119 : nth t_X7_play 119 = aK (.int 96) 121 := (y_X7_play_6 9).trans rfl
theorem n_X7_play_121 : nth t_X7_play 121 = aIcLt 124 138 := (y_X7_play_6 11).trans rfl
theorem n_X7_play_124 : nth t_X7_play 124 = aLdA 0 125 := (y_X7_play_6 14).trans rfl
theorem n_X7_play_125 : nth t_X7_play 125 = aGetR 24 [6] 128 := (y_X7_play_6 15).trans rfl
theorem n_X7_play_128 : nth t_X7_play 128 = aLdI 4 130 := (y_X7_play_6 18).trans rfl
theorem n_X7_play_130 : nth t_X7_play 130 = aK (.int (-1)) 131 := (y_X7_play_6 20).trans rfl
theorem n_X7_play_131 : nth t_X7_play 131 = aAstI 132 := (y_X7_play_6 21).trans rfl
theorem y_X7_play_7 (n : Nat) : nth t_X7_play (n + 132) = nth t_X7_play_c7 n := (y_X7_play_6 (n + 22)).trans rfl
theorem n_X7_play_132 : nth t_X7_play 132 = aInc 4 1 135 := (y_X7_play_7 0).trans rfl
theorem n_X7_play_135 : nth t_X7_play 135 = aGoto 117 := (y_X7_play_7 3).trans rfl
theorem n_X7_play_138 : nth t_X7_play 138 = aK (.int 0) 139 := (y_X7_play_7 6).trans rfl
theorem n_X7_play_139 : nth t_X7_play 139 = aStI 4 141 := (y_X7_play_7 7).trans rfl
theorem n_X7_play_141 : nth t_X7_play 141 = aLdI 4 143 := (y_X7_play_7 9).trans rfl
theorem n_X7_play_143 : nth t_X7_play 143 = aK (.int 20) 145 := (y_X7_play_7 11).trans rfl
theorem n_X7_play_145 : nth t_X7_play 145 = aIcLt 148 221 := (y_X7_play_7 13).trans rfl
theorem n_X7_play_148 : nth t_X7_play 148 = aLdA 0 149 := (y_X7_play_7 16).trans rfl
theorem n_X7_play_149 : nth t_X7_play 149 = aGetR 24 [6] 152 := (y_X7_play_7 17).trans rfl
theorem n_X7_play_152 : nth t_X7_play 152 = aK (.int 0) 153 := (y_X7_play_7 20).trans rfl
theorem n_X7_play_153 : nth t_X7_play 153 = aLdI 4 155 := (y_X7_play_7 21).trans rfl
theorem n_X7_play_155 : nth t_X7_play 155 = aB (fun x y => x + y) 156 := (y_X7_play_7 23).trans rfl
theorem y_X7_play_8 (n : Nat) : nth t_X7_play (n + 156) = nth t_X7_play_c8 n := (y_X7_play_7 (n + 24)).trans rfl
theorem n_X7_play_156 : nth t_X7_play 156 = aLdA 0 157 := (y_X7_play_8 0).trans rfl
theorem n_X7_play_157 : nth t_X7_play 157 = aLdI 3 158 := (y_X7_play_8 1).trans rfl
theorem n_X7_play_158 : nth t_X7_play 158 = aLdI 4 160 := (y_X7_play_8 2).trans rfl
theorem n_X7_play_160 : nth t_X7_play 160 = aCalV 180 2 163 [6] none := (y_X7_play_8 4).trans rfl
theorem n_X7_play_163 : nth t_X7_play 163 = aAstI 164 := (y_X7_play_8 7).trans rfl
theorem n_X7_play_164 : nth t_X7_play 164 = aLdA 0 165 := (y_X7_play_8 8).trans rfl
theorem n_X7_play_165 : nth t_X7_play 165 = aGetR 24 [6] 168 := (y_X7_play_8 9).trans rfl
theorem n_X7_play_168 : nth t_X7_play 168 = aK (.int 20) 170 := (y_X7_play_8 12).trans rfl
theorem n_X7_play_170 : nth t_X7_play 170 = aLdI 4 172 := (y_X7_play_8 14).trans rfl
theorem n_X7_play_172 : nth t_X7_play 172 = aB (fun x y => x + y) 173 := (y_X7_play_8 16).trans rfl
theorem n_X7_play_173 : nth t_X7_play 173 = aLdA 0 174 := (y_X7_play_8 17).trans rfl
theorem n_X7_play_174 : nth t_X7_play 174 = aLdI 3 175 := (y_X7_play_8 18).trans rfl
theorem y_X7_play_9 (n : Nat) : nth t_X7_play (n + 175) = nth t_X7_play_c9 n := (y_X7_play_8 (n + 19)).trans rfl
theorem n_X7_play_175 : nth t_X7_play 175 = aK (.int 1) 176 := (y_X7_play_9 0).trans rfl
theorem n_X7_play_176 : nth t_X7_play 176 = aB (fun x y => x + y) 177 := (y_X7_play_9 1).trans rfl
theorem n_X7_play_177 : nth t_X7_play 177 = aLdI 4 179 := (y_X7_play_9 2).trans rfl
theorem n_X7_play_179 : nth t_X7_play 179 = aCalV 180 2 182 [6] none := (y_X7_play_9 4).trans rfl
theorem n_X7_play_182 : nth t_X7_play 182 = aAstI 183 := (y_X7_play_9 7).trans rfl
theorem n_X7_play_183 : nth t_X7_play 183 = aLdA 0 184 := (y_X7_play_9 8).trans rfl
theorem n_X7_play_184 : nth t_X7_play 184 = aGetR 24 [6] 187 := (y_X7_play_9 9).trans rfl
theorem n_X7_play_187 : nth t_X7_play 187 = aK (.int 40) 189 := (y_X7_play_9 12).trans rfl
theorem n_X7_play_189 : nth t_X7_play 189 = aLdI 4 191 := (y_X7_play_9 14).trans rfl
theorem n_X7_play_191 : nth t_X7_play 191 = aB (fun x y => x + y) 192 := (y_X7_play_9 16).trans rfl
theorem n_X7_play_192 : nth t_X7_play 192 = aLdA 0 193 := (y_X7_play_9 17).trans rfl
theorem n_X7_play_193 : nth t_X7_play 193 = aGetR 23 [6] 196 := (y_X7_play_9 18).trans rfl
theorem y_X7_play_10 (n : Nat) : nth t_X7_play (n + 196) = nth t_X7_play_c10 n := (y_X7_play_9 (n + 21)).trans rfl
theorem n_X7_play_196 : nth t_X7_play 196 = aK (.int 20) 198 := (y_X7_play_10 0).trans rfl
theorem n_X7_play_198 : nth t_X7_play 198 = aLdI 3 199 := (y_X7_play_10 2).trans rfl
theorem n_X7_play_199 : nth t_X7_play 199 = aB (fun x y => x * y) 200 := (y_X7_play_10 3).trans rfl
theorem n_X7_play_200 : nth t_X7_play 200 = aLdI 4 202 := (y_X7_play_10 4).trans rfl
theorem n_X7_play_202 : nth t_X7_play 202 = aB (fun x y => x + y) 203 := (y_X7_play_10 6).trans rfl
theorem n_X7_play_203 : nth t_X7_play 203 = aAldI 204 := (y_X7_play_10 7).trans rfl
theorem n_X7_play_204 : nth t_X7_play 204 = aK (.int 15) 206 := (y_X7_play_10 8).trans rfl
theorem n_X7_play_206 : nth t_X7_play 206 = aIcLe 213 209 := (y_X7_play_10 10).trans rfl
theorem n_X7_play_209 : nth t_X7_play 209 = aK (.int 1) 210 := (y_X7_play_10 13).trans rfl
theorem n_X7_play_210 : nth t_X7_play 210 = aGoto 214 := (y_X7_play_10 14).trans rfl
theorem n_X7_play_213 : nth t_X7_play 213 = aK (.int (-1)) 214 := (y_X7_play_10 17).trans rfl
theorem n_X7_play_214 : nth t_X7_play 214 = aAstI 215 := (y_X7_play_10 18).trans rfl
theorem y_X7_play_11 (n : Nat) : nth t_X7_play (n + 215) = nth t_X7_play_c11 n := (y_X7_play_10 (n + 19)).trans rfl
theorem n_X7_play_215 : nth t_X7_play 215 = aInc 4 1 218 := (y_X7_play_11 0).trans rfl
theorem n_X7_play_218 : nth t_X7_play 218 = aGoto 141 := (y_X7_play_11 3).trans rfl
theorem n_X7_play_221 : nth t_X7_play 221 = aLdA 0 222 := (y_X7_play_11 6).trans rfl
theorem n_X7_play_222 : nth t_X7_play 222 = aGetR 24 [6] 225 := (y_X7_play_11 7).trans rfl
theorem n_X7_play_225 : nth t_X7_play 225 = aK (.int 60) 227 := (y_X7_play_11 10).trans rfl
theorem n_X7_play_227 : nth t_X7_play 227 = aK (.int 1) 228 := (y_X7_play_11 12).trans rfl
theorem n_X7_play_228 : nth t_X7_play 228 = aAstI 229 := (y_X7_play_11 13).trans rfl
theorem n_X7_play_229 : nth t_X7_play 229 = aLdA 0 230 := (y_X7_play_11 14).trans rfl
theorem n_X7_play_230 : nth t_X7_play 230 = aGetR 30 [6] 233 := (y_X7_play_11 15).trans rfl
theorem n_X7_play_233 : nth t_X7_play 233 = aK (.int 0) 234 := (y_X7_play_11 18).trans rfl
theorem n_X7_play_234 : nth t_X7_play 234 = aLdA 0 235 := (y_X7_play_11 19).trans rfl
theorem n_X7_play_235 : nth t_X7_play 235 = aK (.int 1) 236 := (y_X7_play_11 20).trans rfl
theorem y_X7_play_12 (n : Nat) : nth t_X7_play (n + 236) = nth t_X7_play_c12 n := (y_X7_play_11 (n + 21)).trans rfl
theorem n_X7_play_236 : nth t_X7_play 236 = aCalV 181 1 239 [6] none := (y_X7_play_12 0).trans rfl
theorem n_X7_play_239 : nth t_X7_play 239 = aAstI 240 := (y_X7_play_12 3).trans rfl
theorem n_X7_play_240 : nth t_X7_play 240 = aLdA 0 241 := (y_X7_play_12 4).trans rfl
theorem n_X7_play_241 : nth t_X7_play 241 = aGetR 30 [6] 244 := (y_X7_play_12 5).trans rfl
theorem n_X7_play_244 : nth t_X7_play 244 = aK (.int 0) 245 := (y_X7_play_12 8).trans rfl
theorem n_X7_play_245 : nth t_X7_play 245 = aAldI 246 := (y_X7_play_12 9).trans rfl
theorem n_X7_play_246 : nth t_X7_play 246 = aIfEq 250 249 := (y_X7_play_12 10).trans rfl
theorem n_X7_play_249 : nth t_X7_play 249 = aRetV := (y_X7_play_12 13).trans rfl
theorem n_X7_play_250 : nth t_X7_play 250 = aLdA 0 251 := (y_X7_play_12 14).trans rfl
theorem n_X7_play_251 : nth t_X7_play 251 = aGetR 36 [6] 254 := (y_X7_play_12 15).trans rfl
theorem n_X7_play_254 : nth t_X7_play 254 = aK (.int 0) 255 := (y_X7_play_12 18).trans rfl
theorem n_X7_play_255 : nth t_X7_play 255 = aDup2 256 := (y_X7_play_12 19).trans rfl
theorem y_X7_play_13 (n : Nat) : nth t_X7_play (n + 256) = nth t_X7_play_c13 n := (y_X7_play_12 (n + 20)).trans rfl
theorem n_X7_play_256 : nth t_X7_play 256 = aAldI 257 := (y_X7_play_13 0).trans rfl
theorem n_X7_play_257 : nth t_X7_play 257 = aK (.int 1) 258 := (y_X7_play_13 1).trans rfl
theorem n_X7_play_258 : nth t_X7_play 258 = aB (fun x y => x + y) 259 := (y_X7_play_13 2).trans rfl
theorem n_X7_play_259 : nth t_X7_play 259 = aAstI 260 := (y_X7_play_13 3).trans rfl
theorem n_X7_play_260 : nth t_X7_play 260 = aLdA 0 261 := (y_X7_play_13 4).trans rfl
theorem n_X7_play_261 : nth t_X7_play 261 = aK (.int 180) 264 := (y_X7_play_13 5).trans rfl
theorem n_X7_play_264 : nth t_X7_play 264 = aCalV 183 1 267 [6] none := (y_X7_play_13 8).trans rfl
theorem n_X7_play_267 : nth t_X7_play 267 = aIfLt 274 270 := (y_X7_play_13 11).trans rfl
theorem n_X7_play_270 : nth t_X7_play 270 = aK (.int 1) 271 := (y_X7_play_13 14).trans rfl
theorem n_X7_play_271 : nth t_X7_play 271 = aGoto 275 := (y_X7_play_13 15).trans rfl
theorem n_X7_play_274 : nth t_X7_play 274 = aK (.int 0) 275 := (y_X7_play_13 18).trans rfl
theorem n_X7_play_275 : nth t_X7_play 275 = aStI 2 276 := (y_X7_play_13 19).trans rfl
theorem y_X7_play_14 (n : Nat) : nth t_X7_play (n + 276) = nth t_X7_play_c14 n := (y_X7_play_13 (n + 20)).trans rfl
theorem n_X7_play_276 : nth t_X7_play 276 = aLdA 0 277 := (y_X7_play_14 0).trans rfl
theorem n_X7_play_277 : nth t_X7_play 277 = aK (.int 158) 280 := (y_X7_play_14 1).trans rfl
theorem n_X7_play_280 : nth t_X7_play 280 = aCalV 183 1 283 [6] none := (y_X7_play_14 4).trans rfl
theorem n_X7_play_283 : nth t_X7_play 283 = aIfLt 290 286 := (y_X7_play_14 7).trans rfl
theorem n_X7_play_286 : nth t_X7_play 286 = aK (.int 3) 287 := (y_X7_play_14 10).trans rfl
theorem n_X7_play_287 : nth t_X7_play 287 = aGoto 319 := (y_X7_play_14 11).trans rfl
theorem n_X7_play_290 : nth t_X7_play 290 = aLdA 0 291 := (y_X7_play_14 14).trans rfl
theorem n_X7_play_291 : nth t_X7_play 291 = aK (.int 157) 294 := (y_X7_play_14 15).trans rfl
theorem n_X7_play_294 : nth t_X7_play 294 = aCalV 183 1 297 [6] none := (y_X7_play_14 18).trans rfl
theorem n_X7_play_297 : nth t_X7_play 297 = aIfLt 304 300 := (y_X7_play_14 21).trans rfl
theorem n_X7_play_300 : nth t_X7_play 300 = aK (.int 2) 301 := (y_X7_play_14 24).trans rfl
theorem n_X7_play_301 : nth t_X7_play 301 = aGoto 319 := (y_X7_play_14 25).trans rfl
theorem y_X7_play_15 (n : Nat) : nth t_X7_play (n + 304) = nth t_X7_play_c15 n := (y_X7_play_14 (n + 28)).trans rfl
theorem n_X7_play_304 : nth t_X7_play 304 = aLdA 0 305 := (y_X7_play_15 0).trans rfl
theorem n_X7_play_305 : nth t_X7_play 305 = aK (.int 156) 308 := (y_X7_play_15 1).trans rfl
theorem n_X7_play_308 : nth t_X7_play 308 = aCalV 183 1 311 [6] none := (y_X7_play_15 4).trans rfl
theorem n_X7_play_311 : nth t_X7_play 311 = aIfLt 318 314 := (y_X7_play_15 7).trans rfl
theorem n_X7_play_314 : nth t_X7_play 314 = aK (.int 1) 315 := (y_X7_play_15 10).trans rfl
theorem n_X7_play_315 : nth t_X7_play 315 = aGoto 319 := (y_X7_play_15 11).trans rfl
theorem n_X7_play_318 : nth t_X7_play 318 = aK (.int 0) 319 := (y_X7_play_15 14).trans rfl
theorem n_X7_play_319 : nth t_X7_play 319 = aStI 4 321 := (y_X7_play_15 15).trans rfl
theorem n_X7_play_321 : nth t_X7_play 321 = aLdI 2 322 := (y_X7_play_15 17).trans rfl
theorem n_X7_play_322 : nth t_X7_play 322 = aIfEq 325 335 := (y_X7_play_15 18).trans rfl
theorem n_X7_play_325 : nth t_X7_play 325 = aLdI 3 326 := (y_X7_play_15 21).trans rfl
theorem n_X7_play_326 : nth t_X7_play 326 = aLdA 0 327 := (y_X7_play_15 22).trans rfl
theorem y_X7_play_16 (n : Nat) : nth t_X7_play (n + 327) = nth t_X7_play_c16 n := (y_X7_play_15 (n + 23)).trans rfl
theorem n_X7_play_327 : nth t_X7_play 327 = aGetI 41 [6] 330 := (y_X7_play_16 0).trans rfl
theorem n_X7_play_330 : nth t_X7_play 330 = aK (.int 1) 331 := (y_X7_play_16 3).trans rfl
theorem n_X7_play_331 : nth t_X7_play 331 = aB (fun x y => x - y) 332 := (y_X7_play_16 4).trans rfl
theorem n_X7_play_332 : nth t_X7_play 332 = aIcEq 335 338 := (y_X7_play_16 5).trans rfl
theorem n_X7_play_335 : nth t_X7_play 335 = aK (.int 3) 336 := (y_X7_play_16 8).trans rfl
theorem n_X7_play_336 : nth t_X7_play 336 = aStI 4 338 := (y_X7_play_16 9).trans rfl
theorem n_X7_play_338 : nth t_X7_play 338 = aK (.int 1) 339 := (y_X7_play_16 11).trans rfl
theorem n_X7_play_339 : nth t_X7_play 339 = aStI 5 341 := (y_X7_play_16 12).trans rfl
theorem n_X7_play_341 : nth t_X7_play 341 = aLdI 5 343 := (y_X7_play_16 14).trans rfl
theorem n_X7_play_343 : nth t_X7_play 343 = aLdI 4 345 := (y_X7_play_16 16).trans rfl
theorem n_X7_play_345 : nth t_X7_play 345 = aIcLe 348 391 := (y_X7_play_16 18).trans rfl
theorem n_X7_play_348 : nth t_X7_play 348 = aLdA 0 349 := (y_X7_play_16 21).trans rfl
theorem y_X7_play_17 (n : Nat) : nth t_X7_play (n + 349) = nth t_X7_play_c17 n := (y_X7_play_16 (n + 22)).trans rfl
theorem n_X7_play_349 : nth t_X7_play 349 = aLdI 5 351 := (y_X7_play_17 0).trans rfl
theorem n_X7_play_351 : nth t_X7_play 351 = aCalV 188 1 354 [6] none := (y_X7_play_17 2).trans rfl
theorem n_X7_play_354 : nth t_X7_play 354 = aLdA 0 355 := (y_X7_play_17 5).trans rfl
theorem n_X7_play_355 : nth t_X7_play 355 = aGetR 30 [6] 358 := (y_X7_play_17 6).trans rfl
theorem n_X7_play_358 : nth t_X7_play 358 = aK (.int 0) 359 := (y_X7_play_17 9).trans rfl
theorem n_X7_play_359 : nth t_X7_play 359 = aLdA 0 360 := (y_X7_play_17 10).trans rfl
theorem n_X7_play_360 : nth t_X7_play 360 = aK (.int 0) 361 := (y_X7_play_17 11).trans rfl
theorem n_X7_play_361 : nth t_X7_play 361 = aCalV 181 1 364 [6] none := (y_X7_play_17 12).trans rfl
theorem n_X7_play_364 : nth t_X7_play 364 = aAstI 365 := (y_X7_play_17 15).trans rfl
theorem n_X7_play_365 : nth t_X7_play 365 = aLdA 0 366 := (y_X7_play_17 16).trans rfl
theorem n_X7_play_366 : nth t_X7_play 366 = aGetR 30 [6] 369 := (y_X7_play_17 17).trans rfl
theorem n_X7_play_369 : nth t_X7_play 369 = aK (.int 0) 370 := (y_X7_play_17 20).trans rfl
theorem y_X7_play_18 (n : Nat) : nth t_X7_play (n + 370) = nth t_X7_play_c18 n := (y_X7_play_17 (n + 21)).trans rfl
theorem n_X7_play_370 : nth t_X7_play 370 = aAldI 371 := (y_X7_play_18 0).trans rfl
theorem n_X7_play_371 : nth t_X7_play 371 = aIfEq 375 374 := (y_X7_play_18 1).trans rfl
theorem n_X7_play_374 : nth t_X7_play 374 = aRetV := (y_X7_play_18 4).trans rfl
theorem n_X7_play_375 : nth t_X7_play 375 = aLdA 0 376 := (y_X7_play_18 5).trans rfl
theorem n_X7_play_376 : nth t_X7_play 376 = aGetR 37 [6] 379 := (y_X7_play_18 6).trans rfl
theorem n_X7_play_379 : nth t_X7_play 379 = aK (.int 0) 380 := (y_X7_play_18 9).trans rfl
theorem n_X7_play_380 : nth t_X7_play 380 = aDup2 381 := (y_X7_play_18 10).trans rfl
theorem n_X7_play_381 : nth t_X7_play 381 = aAldI 382 := (y_X7_play_18 11).trans rfl
theorem n_X7_play_382 : nth t_X7_play 382 = aK (.int 1) 383 := (y_X7_play_18 12).trans rfl
theorem n_X7_play_383 : nth t_X7_play 383 = aB (fun x y => x + y) 384 := (y_X7_play_18 13).trans rfl
theorem n_X7_play_384 : nth t_X7_play 384 = aAstI 385 := (y_X7_play_18 14).trans rfl
theorem n_X7_play_385 : nth t_X7_play 385 = aInc 5 1 388 := (y_X7_play_18 15).trans rfl
theorem y_X7_play_19 (n : Nat) : nth t_X7_play (n + 388) = nth t_X7_play_c19 n := (y_X7_play_18 (n + 18)).trans rfl
theorem n_X7_play_388 : nth t_X7_play 388 = aGoto 341 := (y_X7_play_19 0).trans rfl
theorem n_X7_play_391 : nth t_X7_play 391 = aInc 3 1 394 := (y_X7_play_19 3).trans rfl
theorem n_X7_play_394 : nth t_X7_play 394 = aGoto 102 := (y_X7_play_19 6).trans rfl
theorem n_X7_play_397 : nth t_X7_play 397 = aLdA 0 398 := (y_X7_play_19 9).trans rfl
theorem n_X7_play_398 : nth t_X7_play 398 = aGetR 30 [6] 401 := (y_X7_play_19 10).trans rfl
theorem n_X7_play_401 : nth t_X7_play 401 = aK (.int 0) 402 := (y_X7_play_19 13).trans rfl
theorem n_X7_play_402 : nth t_X7_play 402 = aLdI 2 403 := (y_X7_play_19 14).trans rfl
theorem n_X7_play_403 : nth t_X7_play 403 = aIfEq 410 406 := (y_X7_play_19 15).trans rfl
theorem n_X7_play_406 : nth t_X7_play 406 = aK (.int 1) 407 := (y_X7_play_19 18).trans rfl
theorem n_X7_play_407 : nth t_X7_play 407 = aGoto 411 := (y_X7_play_19 19).trans rfl
theorem n_X7_play_410 : nth t_X7_play 410 = aK (.int 0) 411 := (y_X7_play_19 22).trans rfl
theorem n_X7_play_411 : nth t_X7_play 411 = aAstI 412 := (y_X7_play_19 23).trans rfl
theorem y_X7_play_20 (n : Nat) : nth t_X7_play (n + 412) = nth t_X7_play_c20 n := (y_X7_play_19 (n + 24)).trans rfl
theorem n_X7_play_412 : nth t_X7_play 412 = aRetV := (y_X7_play_20 0).trans rfl
theorem n_X7_nets_0 : nth t_X7_nets 0 = aK (.int 0) 1 := rfl
theorem n_X7_nets_1 : nth t_X7_nets 1 = aStI 3 2 := rfl
theorem n_X7_nets_2 : nth t_X7_nets 2 = aLdI 3 3 := rfl
theorem n_X7_nets_3 : nth t_X7_nets 3 = aK (.int 217) 6 := rfl
theorem n_X7_nets_6 : nth t_X7_nets 6 = aIcLt 9 19 := rfl
theorem n_X7_nets_9 : nth t_X7_nets 9 = aLdA 1 10 := rfl
theorem n_X7_nets_10 : nth t_X7_nets 10 = aLdI 3 11 := rfl
theorem n_X7_nets_11 : nth t_X7_nets 11 = aLdI 3 12 := rfl
theorem n_X7_nets_12 : nth t_X7_nets 12 = aAstI 13 := rfl
theorem n_X7_nets_13 : nth t_X7_nets 13 = aInc 3 1 16 := rfl
theorem n_X7_nets_16 : nth t_X7_nets 16 = aGoto 2 := rfl
theorem n_X7_nets_19 : nth t_X7_nets 19 = aK (.int 1) 20 := rfl
theorem y_X7_nets_1 (n : Nat) : nth t_X7_nets (n + 20) = nth t_X7_nets_c1 n := rfl
theorem n_X7_nets_20 : nth t_X7_nets 20 = aStI 3 21 := (y_X7_nets_1 0).trans rfl
theorem n_X7_nets_21 : nth t_X7_nets 21 = aLdI 3 22 := (y_X7_nets_1 1).trans rfl
theorem n_X7_nets_22 : nth t_X7_nets 22 = aIfEq 144 25 := (y_X7_nets_1 2).trans rfl
theorem n_X7_nets_25 : nth t_X7_nets 25 = aK (.int 0) 26 := (y_X7_nets_1 5).trans rfl
theorem n_X7_nets_26 : nth t_X7_nets 26 = aStI 3 27 := (y_X7_nets_1 6).trans rfl
theorem n_X7_nets_27 : nth t_X7_nets 27 = aK (.int 0) 28 := (y_X7_nets_1 7).trans rfl
theorem n_X7_nets_28 : nth t_X7_nets 28 = aStI 4 30 := (y_X7_nets_1 8).trans rfl
theorem n_X7_nets_30 : nth t_X7_nets 30 = aLdI 4 32 := (y_X7_nets_1 10).trans rfl
theorem n_X7_nets_32 : nth t_X7_nets 32 = aLdA 0 33 := (y_X7_nets_1 12).trans rfl
theorem n_X7_nets_33 : nth t_X7_nets 33 = aGetR 17 [6] 36 := (y_X7_nets_1 13).trans rfl
theorem n_X7_nets_36 : nth t_X7_nets 36 = aK (.int 0) 37 := (y_X7_nets_1 16).trans rfl
theorem n_X7_nets_37 : nth t_X7_nets 37 = aAldI 38 := (y_X7_nets_1 17).trans rfl
theorem y_X7_nets_2 (n : Nat) : nth t_X7_nets (n + 38) = nth t_X7_nets_c2 n := (y_X7_nets_1 (n + 18)).trans rfl
theorem n_X7_nets_38 : nth t_X7_nets 38 = aIcLt 41 79 := (y_X7_nets_2 0).trans rfl
theorem n_X7_nets_41 : nth t_X7_nets 41 = aLdI 4 43 := (y_X7_nets_2 3).trans rfl
theorem n_X7_nets_43 : nth t_X7_nets 43 = aLdA 0 44 := (y_X7_nets_2 5).trans rfl
theorem n_X7_nets_44 : nth t_X7_nets 44 = aGetI 42 [6] 47 := (y_X7_nets_2 6).trans rfl
theorem n_X7_nets_47 : nth t_X7_nets 47 = aIcEq 73 50 := (y_X7_nets_2 9).trans rfl
theorem n_X7_nets_50 : nth t_X7_nets 50 = aLdA 1 51 := (y_X7_nets_2 12).trans rfl
theorem n_X7_nets_51 : nth t_X7_nets 51 = aLdA 0 52 := (y_X7_nets_2 13).trans rfl
theorem n_X7_nets_52 : nth t_X7_nets 52 = aGetR 15 [6] 55 := (y_X7_nets_2 14).trans rfl
theorem n_X7_nets_55 : nth t_X7_nets 55 = aLdI 4 57 := (y_X7_nets_2 17).trans rfl
theorem n_X7_nets_57 : nth t_X7_nets 57 = aAldI 58 := (y_X7_nets_2 19).trans rfl
theorem n_X7_nets_58 : nth t_X7_nets 58 = aLdA 0 59 := (y_X7_nets_2 20).trans rfl
theorem n_X7_nets_59 : nth t_X7_nets 59 = aGetR 16 [6] 62 := (y_X7_nets_2 21).trans rfl
theorem y_X7_nets_3 (n : Nat) : nth t_X7_nets (n + 62) = nth t_X7_nets_c3 n := (y_X7_nets_2 (n + 24)).trans rfl
theorem n_X7_nets_62 : nth t_X7_nets 62 = aLdI 4 64 := (y_X7_nets_3 0).trans rfl
theorem n_X7_nets_64 : nth t_X7_nets 64 = aAldI 65 := (y_X7_nets_3 2).trans rfl
theorem n_X7_nets_65 : nth t_X7_nets 65 = aCalS 179 3 68 none := (y_X7_nets_3 3).trans rfl
theorem n_X7_nets_68 : nth t_X7_nets 68 = aIfEq 73 71 := (y_X7_nets_3 6).trans rfl
theorem n_X7_nets_71 : nth t_X7_nets 71 = aK (.int 1) 72 := (y_X7_nets_3 9).trans rfl
theorem n_X7_nets_72 : nth t_X7_nets 72 = aStI 3 73 := (y_X7_nets_3 10).trans rfl
theorem n_X7_nets_73 : nth t_X7_nets 73 = aInc 4 1 76 := (y_X7_nets_3 11).trans rfl
theorem n_X7_nets_76 : nth t_X7_nets 76 = aGoto 30 := (y_X7_nets_3 14).trans rfl
theorem n_X7_nets_79 : nth t_X7_nets 79 = aK (.int 0) 80 := (y_X7_nets_3 17).trans rfl
theorem n_X7_nets_80 : nth t_X7_nets 80 = aStI 4 82 := (y_X7_nets_3 18).trans rfl
theorem n_X7_nets_82 : nth t_X7_nets 82 = aLdI 4 84 := (y_X7_nets_3 20).trans rfl
theorem n_X7_nets_84 : nth t_X7_nets 84 = aK (.int 12) 86 := (y_X7_nets_3 22).trans rfl
theorem y_X7_nets_4 (n : Nat) : nth t_X7_nets (n + 86) = nth t_X7_nets_c4 n := (y_X7_nets_3 (n + 24)).trans rfl
theorem n_X7_nets_86 : nth t_X7_nets 86 = aIcLt 89 141 := (y_X7_nets_4 0).trans rfl
theorem n_X7_nets_89 : nth t_X7_nets 89 = aLdA 1 90 := (y_X7_nets_4 3).trans rfl
theorem n_X7_nets_90 : nth t_X7_nets 90 = aK (.int 181) 93 := (y_X7_nets_4 4).trans rfl
theorem n_X7_nets_93 : nth t_X7_nets 93 = aLdI 4 95 := (y_X7_nets_4 7).trans rfl
theorem n_X7_nets_95 : nth t_X7_nets 95 = aB (fun x y => x + y) 96 := (y_X7_nets_4 9).trans rfl
theorem n_X7_nets_96 : nth t_X7_nets 96 = aLdI 2 97 := (y_X7_nets_4 10).trans rfl
theorem n_X7_nets_97 : nth t_X7_nets 97 = aIfEq 121 100 := (y_X7_nets_4 11).trans rfl
theorem n_X7_nets_100 : nth t_X7_nets 100 = aLdA 0 101 := (y_X7_nets_4 14).trans rfl
theorem n_X7_nets_101 : nth t_X7_nets 101 = aGetR 29 [6] 104 := (y_X7_nets_4 15).trans rfl
theorem n_X7_nets_104 : nth t_X7_nets 104 = aLdI 4 106 := (y_X7_nets_4 18).trans rfl
theorem n_X7_nets_106 : nth t_X7_nets 106 = aK (.int 3) 107 := (y_X7_nets_4 20).trans rfl
theorem n_X7_nets_107 : nth t_X7_nets 107 = aDiv 108 := (y_X7_nets_4 21).trans rfl
theorem y_X7_nets_5 (n : Nat) : nth t_X7_nets (n + 108) = nth t_X7_nets_c5 n := (y_X7_nets_4 (n + 22)).trans rfl
theorem n_X7_nets_108 : nth t_X7_nets 108 = aAldB 109 := (y_X7_nets_5 0).trans rfl
theorem n_X7_nets_109 : nth t_X7_nets 109 = aIfEq 121 112 := (y_X7_nets_5 1).trans rfl
theorem n_X7_nets_112 : nth t_X7_nets 112 = aK (.int 205) 115 := (y_X7_nets_5 4).trans rfl
theorem n_X7_nets_115 : nth t_X7_nets 115 = aLdI 4 117 := (y_X7_nets_5 7).trans rfl
theorem n_X7_nets_117 : nth t_X7_nets 117 = aB (fun x y => x + y) 118 := (y_X7_nets_5 9).trans rfl
theorem n_X7_nets_118 : nth t_X7_nets 118 = aGoto 127 := (y_X7_nets_5 10).trans rfl
theorem n_X7_nets_121 : nth t_X7_nets 121 = aK (.int 193) 124 := (y_X7_nets_5 13).trans rfl
theorem n_X7_nets_124 : nth t_X7_nets 124 = aLdI 4 126 := (y_X7_nets_5 16).trans rfl
theorem n_X7_nets_126 : nth t_X7_nets 126 = aB (fun x y => x + y) 127 := (y_X7_nets_5 18).trans rfl
theorem n_X7_nets_127 : nth t_X7_nets 127 = aCalS 179 3 130 none := (y_X7_nets_5 19).trans rfl
theorem n_X7_nets_130 : nth t_X7_nets 130 = aIfEq 135 133 := (y_X7_nets_5 22).trans rfl
theorem n_X7_nets_133 : nth t_X7_nets 133 = aK (.int 1) 134 := (y_X7_nets_5 25).trans rfl
theorem y_X7_nets_6 (n : Nat) : nth t_X7_nets (n + 134) = nth t_X7_nets_c6 n := (y_X7_nets_5 (n + 26)).trans rfl
theorem n_X7_nets_134 : nth t_X7_nets 134 = aStI 3 135 := (y_X7_nets_6 0).trans rfl
theorem n_X7_nets_135 : nth t_X7_nets 135 = aInc 4 1 138 := (y_X7_nets_6 1).trans rfl
theorem n_X7_nets_138 : nth t_X7_nets 138 = aGoto 82 := (y_X7_nets_6 4).trans rfl
theorem n_X7_nets_141 : nth t_X7_nets 141 = aGoto 21 := (y_X7_nets_6 7).trans rfl
theorem n_X7_nets_144 : nth t_X7_nets 144 = aRetV := (y_X7_nets_6 10).trans rfl
theorem n_X7_joins_0 : nth t_X7_joins 0 = aLdA 0 1 := rfl
theorem n_X7_joins_1 : nth t_X7_joins 1 = aLdI 1 2 := rfl
theorem n_X7_joins_2 : nth t_X7_joins 2 = aAldI 3 := rfl
theorem n_X7_joins_3 : nth t_X7_joins 3 = aLdA 0 4 := rfl
theorem n_X7_joins_4 : nth t_X7_joins 4 = aLdI 2 5 := rfl
theorem n_X7_joins_5 : nth t_X7_joins 5 = aAldI 6 := rfl
theorem n_X7_joins_6 : nth t_X7_joins 6 = aIcEq 9 11 := rfl
theorem n_X7_joins_9 : nth t_X7_joins 9 = aK (.int 0) 10 := rfl
theorem n_X7_joins_10 : nth t_X7_joins 10 = aRetZ := rfl
theorem n_X7_joins_11 : nth t_X7_joins 11 = aLdA 0 12 := rfl
theorem n_X7_joins_12 : nth t_X7_joins 12 = aLdI 1 13 := rfl
theorem n_X7_joins_13 : nth t_X7_joins 13 = aAldI 14 := rfl
theorem y_X7_joins_1 (n : Nat) : nth t_X7_joins (n + 14) = nth t_X7_joins_c1 n := rfl
theorem n_X7_joins_14 : nth t_X7_joins 14 = aLdA 0 15 := (y_X7_joins_1 0).trans rfl
theorem n_X7_joins_15 : nth t_X7_joins 15 = aLdI 2 16 := (y_X7_joins_1 1).trans rfl
theorem n_X7_joins_16 : nth t_X7_joins 16 = aAldI 17 := (y_X7_joins_1 2).trans rfl
theorem n_X7_joins_17 : nth t_X7_joins 17 = aIcLt 20 26 := (y_X7_joins_1 3).trans rfl
theorem n_X7_joins_20 : nth t_X7_joins 20 = aLdA 0 21 := (y_X7_joins_1 6).trans rfl
theorem n_X7_joins_21 : nth t_X7_joins 21 = aLdI 1 22 := (y_X7_joins_1 7).trans rfl
theorem n_X7_joins_22 : nth t_X7_joins 22 = aAldI 23 := (y_X7_joins_1 8).trans rfl
theorem n_X7_joins_23 : nth t_X7_joins 23 = aGoto 29 := (y_X7_joins_1 9).trans rfl
theorem n_X7_joins_26 : nth t_X7_joins 26 = aLdA 0 27 := (y_X7_joins_1 12).trans rfl
theorem n_X7_joins_27 : nth t_X7_joins 27 = aLdI 2 28 := (y_X7_joins_1 13).trans rfl
theorem n_X7_joins_28 : nth t_X7_joins 28 = aAldI 29 := (y_X7_joins_1 14).trans rfl
theorem n_X7_joins_29 : nth t_X7_joins 29 = aStI 3 30 := (y_X7_joins_1 15).trans rfl
theorem y_X7_joins_2 (n : Nat) : nth t_X7_joins (n + 30) = nth t_X7_joins_c2 n := (y_X7_joins_1 (n + 16)).trans rfl
theorem n_X7_joins_30 : nth t_X7_joins 30 = aLdA 0 31 := (y_X7_joins_2 0).trans rfl
theorem n_X7_joins_31 : nth t_X7_joins 31 = aLdI 1 32 := (y_X7_joins_2 1).trans rfl
theorem n_X7_joins_32 : nth t_X7_joins 32 = aLdI 3 33 := (y_X7_joins_2 2).trans rfl
theorem n_X7_joins_33 : nth t_X7_joins 33 = aAstI 34 := (y_X7_joins_2 3).trans rfl
theorem n_X7_joins_34 : nth t_X7_joins 34 = aLdA 0 35 := (y_X7_joins_2 4).trans rfl
theorem n_X7_joins_35 : nth t_X7_joins 35 = aLdI 2 36 := (y_X7_joins_2 5).trans rfl
theorem n_X7_joins_36 : nth t_X7_joins 36 = aLdI 3 37 := (y_X7_joins_2 6).trans rfl
theorem n_X7_joins_37 : nth t_X7_joins 37 = aAstI 38 := (y_X7_joins_2 7).trans rfl
theorem n_X7_joins_38 : nth t_X7_joins 38 = aK (.int 1) 39 := (y_X7_joins_2 8).trans rfl
theorem n_X7_joins_39 : nth t_X7_joins 39 = aRetZ := (y_X7_joins_2 9).trans rfl
theorem n_X7_digit_0 : nth t_X7_digit 0 = aLdI 1 1 := rfl
theorem n_X7_digit_1 : nth t_X7_digit 1 = aLdA 0 2 := rfl
theorem n_X7_digit_2 : nth t_X7_digit 2 = aGetI 41 [6] 5 := rfl
theorem n_X7_digit_5 : nth t_X7_digit 5 = aIcLt 10 8 := rfl
theorem n_X7_digit_8 : nth t_X7_digit 8 = aK (.int (-1)) 9 := rfl
theorem n_X7_digit_9 : nth t_X7_digit 9 = aRetI := rfl
theorem n_X7_digit_10 : nth t_X7_digit 10 = aLdA 0 11 := rfl
theorem n_X7_digit_11 : nth t_X7_digit 11 = aGetR 23 [6] 14 := rfl
theorem n_X7_digit_14 : nth t_X7_digit 14 = aK (.int 20) 16 := rfl
theorem n_X7_digit_16 : nth t_X7_digit 16 = aLdI 1 17 := rfl
theorem n_X7_digit_17 : nth t_X7_digit 17 = aB (fun x y => x * y) 18 := rfl
theorem n_X7_digit_18 : nth t_X7_digit 18 = aLdI 2 19 := rfl
theorem y_X7_digit_1 (n : Nat) : nth t_X7_digit (n + 19) = nth t_X7_digit_c1 n := rfl
theorem n_X7_digit_19 : nth t_X7_digit 19 = aB (fun x y => x + y) 20 := (y_X7_digit_1 0).trans rfl
theorem n_X7_digit_20 : nth t_X7_digit 20 = aAldI 21 := (y_X7_digit_1 1).trans rfl
theorem n_X7_digit_21 : nth t_X7_digit 21 = aK (.int 16) 23 := (y_X7_digit_1 2).trans rfl
theorem n_X7_digit_23 : nth t_X7_digit 23 = aRem 24 := (y_X7_digit_1 4).trans rfl
theorem n_X7_digit_24 : nth t_X7_digit 24 = aStI 3 25 := (y_X7_digit_1 5).trans rfl
theorem n_X7_digit_25 : nth t_X7_digit 25 = aLdI 3 26 := (y_X7_digit_1 6).trans rfl
theorem n_X7_digit_26 : nth t_X7_digit 26 = aK (.int 15) 28 := (y_X7_digit_1 7).trans rfl
theorem n_X7_digit_28 : nth t_X7_digit 28 = aIcEq 31 35 := (y_X7_digit_1 9).trans rfl
theorem n_X7_digit_31 : nth t_X7_digit 31 = aK (.int (-1)) 32 := (y_X7_digit_1 12).trans rfl
theorem n_X7_digit_32 : nth t_X7_digit 32 = aGoto 36 := (y_X7_digit_1 13).trans rfl
theorem n_X7_digit_35 : nth t_X7_digit 35 = aLdI 3 36 := (y_X7_digit_1 16).trans rfl
theorem n_X7_digit_36 : nth t_X7_digit 36 = aRetI := (y_X7_digit_1 17).trans rfl
theorem n_X7_cycle_0 : nth t_X7_cycle 0 = aLdA 0 1 := rfl
theorem n_X7_cycle_1 : nth t_X7_cycle 1 = aLdA 0 2 := rfl
theorem n_X7_cycle_2 : nth t_X7_cycle 2 = aGetR 25 [6] 5 := rfl
theorem n_X7_cycle_5 : nth t_X7_cycle 5 = aK (.int 0) 6 := rfl
theorem n_X7_cycle_6 : nth t_X7_cycle 6 = aCalV 182 2 9 [6] none := rfl
theorem n_X7_cycle_9 : nth t_X7_cycle 9 = aK (.int 0) 10 := rfl
theorem n_X7_cycle_10 : nth t_X7_cycle 10 = aStI 2 11 := rfl
theorem n_X7_cycle_11 : nth t_X7_cycle 11 = aK (.int 0) 12 := rfl
theorem n_X7_cycle_12 : nth t_X7_cycle 12 = aStI 3 13 := rfl
theorem n_X7_cycle_13 : nth t_X7_cycle 13 = aLdI 3 14 := rfl
theorem n_X7_cycle_14 : nth t_X7_cycle 14 = aK (.int 4) 15 := rfl
theorem n_X7_cycle_15 : nth t_X7_cycle 15 = aIcLt 18 72 := rfl
theorem y_X7_cycle_1 (n : Nat) : nth t_X7_cycle (n + 18) = nth t_X7_cycle_c1 n := rfl
theorem n_X7_cycle_18 : nth t_X7_cycle 18 = aLdA 0 19 := (y_X7_cycle_1 0).trans rfl
theorem n_X7_cycle_19 : nth t_X7_cycle 19 = aGetR 29 [6] 22 := (y_X7_cycle_1 1).trans rfl
theorem n_X7_cycle_22 : nth t_X7_cycle 22 = aLdI 3 23 := (y_X7_cycle_1 4).trans rfl
theorem n_X7_cycle_23 : nth t_X7_cycle 23 = aLdA 0 24 := (y_X7_cycle_1 5).trans rfl
theorem n_X7_cycle_24 : nth t_X7_cycle 24 = aGetR 28 [6] 27 := (y_X7_cycle_1 6).trans rfl
theorem n_X7_cycle_27 : nth t_X7_cycle 27 = aLdA 0 28 := (y_X7_cycle_1 9).trans rfl
theorem n_X7_cycle_28 : nth t_X7_cycle 28 = aGetR 25 [6] 31 := (y_X7_cycle_1 10).trans rfl
theorem n_X7_cycle_31 : nth t_X7_cycle 31 = aK (.int 144) 34 := (y_X7_cycle_1 13).trans rfl
theorem n_X7_cycle_34 : nth t_X7_cycle 34 = aLdI 3 35 := (y_X7_cycle_1 16).trans rfl
theorem n_X7_cycle_35 : nth t_X7_cycle 35 = aB (fun x y => x + y) 36 := (y_X7_cycle_1 17).trans rfl
theorem n_X7_cycle_36 : nth t_X7_cycle 36 = aAldI 37 := (y_X7_cycle_1 18).trans rfl
theorem n_X7_cycle_37 : nth t_X7_cycle 37 = aAldI 38 := (y_X7_cycle_1 19).trans rfl
theorem y_X7_cycle_2 (n : Nat) : nth t_X7_cycle (n + 38) = nth t_X7_cycle_c2 n := (y_X7_cycle_1 (n + 20)).trans rfl
theorem n_X7_cycle_38 : nth t_X7_cycle 38 = aIfLe 45 41 := (y_X7_cycle_2 0).trans rfl
theorem n_X7_cycle_41 : nth t_X7_cycle 41 = aK (.int 1) 42 := (y_X7_cycle_2 3).trans rfl
theorem n_X7_cycle_42 : nth t_X7_cycle 42 = aGoto 46 := (y_X7_cycle_2 4).trans rfl
theorem n_X7_cycle_45 : nth t_X7_cycle 45 = aK (.int 0) 46 := (y_X7_cycle_2 7).trans rfl
theorem n_X7_cycle_46 : nth t_X7_cycle 46 = aAstB 47 := (y_X7_cycle_2 8).trans rfl
theorem n_X7_cycle_47 : nth t_X7_cycle 47 = aLdI 2 48 := (y_X7_cycle_2 9).trans rfl
theorem n_X7_cycle_48 : nth t_X7_cycle 48 = aIfEq 51 60 := (y_X7_cycle_2 10).trans rfl
theorem n_X7_cycle_51 : nth t_X7_cycle 51 = aLdA 0 52 := (y_X7_cycle_2 13).trans rfl
theorem n_X7_cycle_52 : nth t_X7_cycle 52 = aGetR 29 [6] 55 := (y_X7_cycle_2 14).trans rfl
theorem n_X7_cycle_55 : nth t_X7_cycle 55 = aLdI 3 56 := (y_X7_cycle_2 17).trans rfl
theorem n_X7_cycle_56 : nth t_X7_cycle 56 = aAldB 57 := (y_X7_cycle_2 18).trans rfl
theorem n_X7_cycle_57 : nth t_X7_cycle 57 = aIfEq 64 60 := (y_X7_cycle_2 19).trans rfl
theorem y_X7_cycle_3 (n : Nat) : nth t_X7_cycle (n + 60) = nth t_X7_cycle_c3 n := (y_X7_cycle_2 (n + 22)).trans rfl
theorem n_X7_cycle_60 : nth t_X7_cycle 60 = aK (.int 1) 61 := (y_X7_cycle_3 0).trans rfl
theorem n_X7_cycle_61 : nth t_X7_cycle 61 = aGoto 65 := (y_X7_cycle_3 1).trans rfl
theorem n_X7_cycle_64 : nth t_X7_cycle 64 = aK (.int 0) 65 := (y_X7_cycle_3 4).trans rfl
theorem n_X7_cycle_65 : nth t_X7_cycle 65 = aStI 2 66 := (y_X7_cycle_3 5).trans rfl
theorem n_X7_cycle_66 : nth t_X7_cycle 66 = aInc 3 1 69 := (y_X7_cycle_3 6).trans rfl
theorem n_X7_cycle_69 : nth t_X7_cycle 69 = aGoto 13 := (y_X7_cycle_3 9).trans rfl
theorem n_X7_cycle_72 : nth t_X7_cycle 72 = aLdI 2 73 := (y_X7_cycle_3 12).trans rfl
theorem n_X7_cycle_73 : nth t_X7_cycle 73 = aIfEq 85 76 := (y_X7_cycle_3 13).trans rfl
theorem n_X7_cycle_76 : nth t_X7_cycle 76 = aLdA 0 77 := (y_X7_cycle_3 16).trans rfl
theorem n_X7_cycle_77 : nth t_X7_cycle 77 = aLdA 0 78 := (y_X7_cycle_3 17).trans rfl
theorem n_X7_cycle_78 : nth t_X7_cycle 78 = aGetR 26 [6] 81 := (y_X7_cycle_3 18).trans rfl
theorem n_X7_cycle_81 : nth t_X7_cycle 81 = aK (.int 1) 82 := (y_X7_cycle_3 21).trans rfl
theorem y_X7_cycle_4 (n : Nat) : nth t_X7_cycle (n + 82) = nth t_X7_cycle_c4 n := (y_X7_cycle_3 (n + 22)).trans rfl
theorem n_X7_cycle_82 : nth t_X7_cycle 82 = aCalV 178 2 85 [6] none := (y_X7_cycle_4 0).trans rfl
theorem n_X7_cycle_85 : nth t_X7_cycle 85 = aK (.int 0) 86 := (y_X7_cycle_4 3).trans rfl
theorem n_X7_cycle_86 : nth t_X7_cycle 86 = aStI 3 87 := (y_X7_cycle_4 4).trans rfl
theorem n_X7_cycle_87 : nth t_X7_cycle 87 = aLdI 3 88 := (y_X7_cycle_4 5).trans rfl
theorem n_X7_cycle_88 : nth t_X7_cycle 88 = aK (.int 217) 91 := (y_X7_cycle_4 6).trans rfl
theorem n_X7_cycle_91 : nth t_X7_cycle 91 = aIcLt 94 116 := (y_X7_cycle_4 9).trans rfl
theorem n_X7_cycle_94 : nth t_X7_cycle 94 = aLdI 2 95 := (y_X7_cycle_4 12).trans rfl
theorem n_X7_cycle_95 : nth t_X7_cycle 95 = aIfEq 98 116 := (y_X7_cycle_4 13).trans rfl
theorem n_X7_cycle_98 : nth t_X7_cycle 98 = aLdA 0 99 := (y_X7_cycle_4 16).trans rfl
theorem n_X7_cycle_99 : nth t_X7_cycle 99 = aGetR 26 [6] 102 := (y_X7_cycle_4 17).trans rfl
theorem n_X7_cycle_102 : nth t_X7_cycle 102 = aLdI 3 103 := (y_X7_cycle_4 20).trans rfl
theorem n_X7_cycle_103 : nth t_X7_cycle 103 = aLdA 0 104 := (y_X7_cycle_4 21).trans rfl
theorem y_X7_cycle_5 (n : Nat) : nth t_X7_cycle (n + 104) = nth t_X7_cycle_c5 n := (y_X7_cycle_4 (n + 22)).trans rfl
theorem n_X7_cycle_104 : nth t_X7_cycle 104 = aGetR 25 [6] 107 := (y_X7_cycle_5 0).trans rfl
theorem n_X7_cycle_107 : nth t_X7_cycle 107 = aLdI 3 108 := (y_X7_cycle_5 3).trans rfl
theorem n_X7_cycle_108 : nth t_X7_cycle 108 = aAldI 109 := (y_X7_cycle_5 4).trans rfl
theorem n_X7_cycle_109 : nth t_X7_cycle 109 = aAstI 110 := (y_X7_cycle_5 5).trans rfl
theorem n_X7_cycle_110 : nth t_X7_cycle 110 = aInc 3 1 113 := (y_X7_cycle_5 6).trans rfl
theorem n_X7_cycle_113 : nth t_X7_cycle 113 = aGoto 87 := (y_X7_cycle_5 9).trans rfl
theorem n_X7_cycle_116 : nth t_X7_cycle 116 = aLdA 0 117 := (y_X7_cycle_5 12).trans rfl
theorem n_X7_cycle_117 : nth t_X7_cycle 117 = aLdA 0 118 := (y_X7_cycle_5 13).trans rfl
theorem n_X7_cycle_118 : nth t_X7_cycle 118 = aGetR 26 [6] 121 := (y_X7_cycle_5 14).trans rfl
theorem n_X7_cycle_121 : nth t_X7_cycle 121 = aK (.int 0) 122 := (y_X7_cycle_5 17).trans rfl
theorem n_X7_cycle_122 : nth t_X7_cycle 122 = aCalV 182 2 125 [6] none := (y_X7_cycle_5 18).trans rfl
theorem n_X7_cycle_125 : nth t_X7_cycle 125 = aK (.int 0) 126 := (y_X7_cycle_5 21).trans rfl
theorem y_X7_cycle_6 (n : Nat) : nth t_X7_cycle (n + 126) = nth t_X7_cycle_c6 n := (y_X7_cycle_5 (n + 22)).trans rfl
theorem n_X7_cycle_126 : nth t_X7_cycle 126 = aStI 3 127 := (y_X7_cycle_6 0).trans rfl
theorem n_X7_cycle_127 : nth t_X7_cycle 127 = aLdI 3 128 := (y_X7_cycle_6 1).trans rfl
theorem n_X7_cycle_128 : nth t_X7_cycle 128 = aK (.int 4) 129 := (y_X7_cycle_6 2).trans rfl
theorem n_X7_cycle_129 : nth t_X7_cycle 129 = aIcLt 132 177 := (y_X7_cycle_6 3).trans rfl
theorem n_X7_cycle_132 : nth t_X7_cycle 132 = aLdI 1 133 := (y_X7_cycle_6 6).trans rfl
theorem n_X7_cycle_133 : nth t_X7_cycle 133 = aIfEq 177 136 := (y_X7_cycle_6 7).trans rfl
theorem n_X7_cycle_136 : nth t_X7_cycle 136 = aLdA 0 137 := (y_X7_cycle_6 10).trans rfl
theorem n_X7_cycle_137 : nth t_X7_cycle 137 = aGetR 24 [6] 140 := (y_X7_cycle_6 11).trans rfl
theorem n_X7_cycle_140 : nth t_X7_cycle 140 = aK (.int 61) 142 := (y_X7_cycle_6 14).trans rfl
theorem n_X7_cycle_142 : nth t_X7_cycle 142 = aLdI 3 143 := (y_X7_cycle_6 16).trans rfl
theorem n_X7_cycle_143 : nth t_X7_cycle 143 = aB (fun x y => x + y) 144 := (y_X7_cycle_6 17).trans rfl
theorem n_X7_cycle_144 : nth t_X7_cycle 144 = aLdA 0 145 := (y_X7_cycle_6 18).trans rfl
theorem y_X7_cycle_7 (n : Nat) : nth t_X7_cycle (n + 145) = nth t_X7_cycle_c7 n := (y_X7_cycle_6 (n + 19)).trans rfl
theorem n_X7_cycle_145 : nth t_X7_cycle 145 = aK (.int 148) 148 := (y_X7_cycle_7 0).trans rfl
theorem n_X7_cycle_148 : nth t_X7_cycle 148 = aLdI 3 149 := (y_X7_cycle_7 3).trans rfl
theorem n_X7_cycle_149 : nth t_X7_cycle 149 = aB (fun x y => x + y) 150 := (y_X7_cycle_7 4).trans rfl
theorem n_X7_cycle_150 : nth t_X7_cycle 150 = aCalV 183 1 153 [6] none := (y_X7_cycle_7 5).trans rfl
theorem n_X7_cycle_153 : nth t_X7_cycle 153 = aLdA 0 154 := (y_X7_cycle_7 8).trans rfl
theorem n_X7_cycle_154 : nth t_X7_cycle 154 = aK (.int 152) 157 := (y_X7_cycle_7 9).trans rfl
theorem n_X7_cycle_157 : nth t_X7_cycle 157 = aLdI 3 158 := (y_X7_cycle_7 12).trans rfl
theorem n_X7_cycle_158 : nth t_X7_cycle 158 = aB (fun x y => x + y) 159 := (y_X7_cycle_7 13).trans rfl
theorem n_X7_cycle_159 : nth t_X7_cycle 159 = aCalV 183 1 162 [6] none := (y_X7_cycle_7 14).trans rfl
theorem n_X7_cycle_162 : nth t_X7_cycle 162 = aIcEq 169 165 := (y_X7_cycle_7 17).trans rfl
theorem n_X7_cycle_165 : nth t_X7_cycle 165 = aK (.int 1) 166 := (y_X7_cycle_7 20).trans rfl
theorem n_X7_cycle_166 : nth t_X7_cycle 166 = aGoto 170 := (y_X7_cycle_7 21).trans rfl
theorem y_X7_cycle_8 (n : Nat) : nth t_X7_cycle (n + 169) = nth t_X7_cycle_c8 n := (y_X7_cycle_7 (n + 24)).trans rfl
theorem n_X7_cycle_169 : nth t_X7_cycle 169 = aK (.int (-1)) 170 := (y_X7_cycle_8 0).trans rfl
theorem n_X7_cycle_170 : nth t_X7_cycle 170 = aAstI 171 := (y_X7_cycle_8 1).trans rfl
theorem n_X7_cycle_171 : nth t_X7_cycle 171 = aInc 3 1 174 := (y_X7_cycle_8 2).trans rfl
theorem n_X7_cycle_174 : nth t_X7_cycle 174 = aGoto 127 := (y_X7_cycle_8 5).trans rfl
theorem n_X7_cycle_177 : nth t_X7_cycle 177 = aLdA 0 178 := (y_X7_cycle_8 8).trans rfl
theorem n_X7_cycle_178 : nth t_X7_cycle 178 = aLdA 0 179 := (y_X7_cycle_8 9).trans rfl
theorem n_X7_cycle_179 : nth t_X7_cycle 179 = aGetR 26 [6] 182 := (y_X7_cycle_8 10).trans rfl
theorem n_X7_cycle_182 : nth t_X7_cycle 182 = aK (.int 1) 183 := (y_X7_cycle_8 13).trans rfl
theorem n_X7_cycle_183 : nth t_X7_cycle 183 = aCalV 182 2 186 [6] none := (y_X7_cycle_8 14).trans rfl
theorem n_X7_cycle_186 : nth t_X7_cycle 186 = aK (.int 0) 187 := (y_X7_cycle_8 17).trans rfl
theorem n_X7_cycle_187 : nth t_X7_cycle 187 = aStI 3 188 := (y_X7_cycle_8 18).trans rfl
theorem n_X7_cycle_188 : nth t_X7_cycle 188 = aLdI 3 189 := (y_X7_cycle_8 19).trans rfl
theorem y_X7_cycle_9 (n : Nat) : nth t_X7_cycle (n + 189) = nth t_X7_cycle_c9 n := (y_X7_cycle_8 (n + 20)).trans rfl
theorem n_X7_cycle_189 : nth t_X7_cycle 189 = aK (.int 96) 191 := (y_X7_cycle_9 0).trans rfl
theorem n_X7_cycle_191 : nth t_X7_cycle 191 = aIcLt 194 230 := (y_X7_cycle_9 2).trans rfl
theorem n_X7_cycle_194 : nth t_X7_cycle 194 = aLdA 0 195 := (y_X7_cycle_9 5).trans rfl
theorem n_X7_cycle_195 : nth t_X7_cycle 195 = aGetR 24 [6] 198 := (y_X7_cycle_9 6).trans rfl
theorem n_X7_cycle_198 : nth t_X7_cycle 198 = aLdI 3 199 := (y_X7_cycle_9 9).trans rfl
theorem n_X7_cycle_199 : nth t_X7_cycle 199 = aAldI 200 := (y_X7_cycle_9 10).trans rfl
theorem n_X7_cycle_200 : nth t_X7_cycle 200 = aIfLt 224 203 := (y_X7_cycle_9 11).trans rfl
theorem n_X7_cycle_203 : nth t_X7_cycle 203 = aLdA 0 204 := (y_X7_cycle_9 14).trans rfl
theorem n_X7_cycle_204 : nth t_X7_cycle 204 = aGetR 28 [6] 207 := (y_X7_cycle_9 15).trans rfl
theorem n_X7_cycle_207 : nth t_X7_cycle 207 = aLdA 0 208 := (y_X7_cycle_9 18).trans rfl
theorem n_X7_cycle_208 : nth t_X7_cycle 208 = aGetR 26 [6] 211 := (y_X7_cycle_9 19).trans rfl
theorem n_X7_cycle_211 : nth t_X7_cycle 211 = aLdI 3 212 := (y_X7_cycle_9 22).trans rfl
theorem y_X7_cycle_10 (n : Nat) : nth t_X7_cycle (n + 212) = nth t_X7_cycle_c10 n := (y_X7_cycle_9 (n + 23)).trans rfl
theorem n_X7_cycle_212 : nth t_X7_cycle 212 = aAldI 213 := (y_X7_cycle_10 0).trans rfl
theorem n_X7_cycle_213 : nth t_X7_cycle 213 = aAldI 214 := (y_X7_cycle_10 1).trans rfl
theorem n_X7_cycle_214 : nth t_X7_cycle 214 = aK (.int 1) 215 := (y_X7_cycle_10 2).trans rfl
theorem n_X7_cycle_215 : nth t_X7_cycle 215 = aIcLe 224 218 := (y_X7_cycle_10 3).trans rfl
theorem n_X7_cycle_218 : nth t_X7_cycle 218 = aLdA 0 219 := (y_X7_cycle_10 6).trans rfl
theorem n_X7_cycle_219 : nth t_X7_cycle 219 = aLdI 3 220 := (y_X7_cycle_10 7).trans rfl
theorem n_X7_cycle_220 : nth t_X7_cycle 220 = aCalV 185 1 223 [6] none := (y_X7_cycle_10 8).trans rfl
theorem n_X7_cycle_223 : nth t_X7_cycle 223 = aRetI := (y_X7_cycle_10 11).trans rfl
theorem n_X7_cycle_224 : nth t_X7_cycle 224 = aInc 3 1 227 := (y_X7_cycle_10 12).trans rfl
theorem n_X7_cycle_227 : nth t_X7_cycle 227 = aGoto 188 := (y_X7_cycle_10 15).trans rfl
theorem n_X7_cycle_230 : nth t_X7_cycle 230 = aLdA 0 231 := (y_X7_cycle_10 18).trans rfl
theorem n_X7_cycle_231 : nth t_X7_cycle 231 = aCalV 186 0 234 [6] none := (y_X7_cycle_10 19).trans rfl
theorem y_X7_cycle_11 (n : Nat) : nth t_X7_cycle (n + 234) = nth t_X7_cycle_c11 n := (y_X7_cycle_10 (n + 22)).trans rfl
theorem n_X7_cycle_234 : nth t_X7_cycle 234 = aIfEq 316 237 := (y_X7_cycle_11 0).trans rfl
theorem n_X7_cycle_237 : nth t_X7_cycle 237 = aLdA 0 238 := (y_X7_cycle_11 3).trans rfl
theorem n_X7_cycle_238 : nth t_X7_cycle 238 = aGetR 31 [6] 241 := (y_X7_cycle_11 4).trans rfl
theorem n_X7_cycle_241 : nth t_X7_cycle 241 = aK (.int 0) 242 := (y_X7_cycle_11 7).trans rfl
theorem n_X7_cycle_242 : nth t_X7_cycle 242 = aAldI 243 := (y_X7_cycle_11 8).trans rfl
theorem n_X7_cycle_243 : nth t_X7_cycle 243 = aK (.int 60) 245 := (y_X7_cycle_11 9).trans rfl
theorem n_X7_cycle_245 : nth t_X7_cycle 245 = aIcEq 248 250 := (y_X7_cycle_11 11).trans rfl
theorem n_X7_cycle_248 : nth t_X7_cycle 248 = aK (.int 3) 249 := (y_X7_cycle_11 14).trans rfl
theorem n_X7_cycle_249 : nth t_X7_cycle 249 = aRetI := (y_X7_cycle_11 15).trans rfl
theorem n_X7_cycle_250 : nth t_X7_cycle 250 = aK (.int 0) 251 := (y_X7_cycle_11 16).trans rfl
theorem n_X7_cycle_251 : nth t_X7_cycle 251 = aStI 3 252 := (y_X7_cycle_11 17).trans rfl
theorem n_X7_cycle_252 : nth t_X7_cycle 252 = aLdI 3 253 := (y_X7_cycle_11 18).trans rfl
theorem y_X7_cycle_12 (n : Nat) : nth t_X7_cycle (n + 253) = nth t_X7_cycle_c12 n := (y_X7_cycle_11 (n + 19)).trans rfl
theorem n_X7_cycle_253 : nth t_X7_cycle 253 = aK (.int 12) 255 := (y_X7_cycle_12 0).trans rfl
theorem n_X7_cycle_255 : nth t_X7_cycle 255 = aIcLt 258 306 := (y_X7_cycle_12 2).trans rfl
theorem n_X7_cycle_258 : nth t_X7_cycle 258 = aLdA 0 259 := (y_X7_cycle_12 5).trans rfl
theorem n_X7_cycle_259 : nth t_X7_cycle 259 = aGetR 33 [6] 262 := (y_X7_cycle_12 6).trans rfl
theorem n_X7_cycle_262 : nth t_X7_cycle 262 = aK (.int 12) 264 := (y_X7_cycle_12 9).trans rfl
theorem n_X7_cycle_264 : nth t_X7_cycle 264 = aLdA 0 265 := (y_X7_cycle_12 11).trans rfl
theorem n_X7_cycle_265 : nth t_X7_cycle 265 = aGetR 31 [6] 268 := (y_X7_cycle_12 12).trans rfl
theorem n_X7_cycle_268 : nth t_X7_cycle 268 = aK (.int 0) 269 := (y_X7_cycle_12 15).trans rfl
theorem n_X7_cycle_269 : nth t_X7_cycle 269 = aAldI 270 := (y_X7_cycle_12 16).trans rfl
theorem n_X7_cycle_270 : nth t_X7_cycle 270 = aB (fun x y => x * y) 271 := (y_X7_cycle_12 17).trans rfl
theorem n_X7_cycle_271 : nth t_X7_cycle 271 = aLdI 3 272 := (y_X7_cycle_12 18).trans rfl
theorem n_X7_cycle_272 : nth t_X7_cycle 272 = aB (fun x y => x + y) 273 := (y_X7_cycle_12 19).trans rfl
theorem y_X7_cycle_13 (n : Nat) : nth t_X7_cycle (n + 273) = nth t_X7_cycle_c13 n := (y_X7_cycle_12 (n + 20)).trans rfl
theorem n_X7_cycle_273 : nth t_X7_cycle 273 = aLdA 0 274 := (y_X7_cycle_13 0).trans rfl
theorem n_X7_cycle_274 : nth t_X7_cycle 274 = aK (.int 132) 277 := (y_X7_cycle_13 1).trans rfl
theorem n_X7_cycle_277 : nth t_X7_cycle 277 = aLdI 3 278 := (y_X7_cycle_13 4).trans rfl
theorem n_X7_cycle_278 : nth t_X7_cycle 278 = aB (fun x y => x + y) 279 := (y_X7_cycle_13 5).trans rfl
theorem n_X7_cycle_279 : nth t_X7_cycle 279 = aCalV 183 1 282 [6] none := (y_X7_cycle_13 6).trans rfl
theorem n_X7_cycle_282 : nth t_X7_cycle 282 = aIfLt 285 290 := (y_X7_cycle_13 9).trans rfl
theorem n_X7_cycle_285 : nth t_X7_cycle 285 = aK (.int 15) 287 := (y_X7_cycle_13 12).trans rfl
theorem n_X7_cycle_287 : nth t_X7_cycle 287 = aGoto 299 := (y_X7_cycle_13 14).trans rfl
theorem n_X7_cycle_290 : nth t_X7_cycle 290 = aLdA 0 291 := (y_X7_cycle_13 17).trans rfl
theorem n_X7_cycle_291 : nth t_X7_cycle 291 = aK (.int 132) 294 := (y_X7_cycle_13 18).trans rfl
theorem n_X7_cycle_294 : nth t_X7_cycle 294 = aLdI 3 295 := (y_X7_cycle_13 21).trans rfl
theorem n_X7_cycle_295 : nth t_X7_cycle 295 = aB (fun x y => x + y) 296 := (y_X7_cycle_13 22).trans rfl
theorem y_X7_cycle_14 (n : Nat) : nth t_X7_cycle (n + 296) = nth t_X7_cycle_c14 n := (y_X7_cycle_13 (n + 23)).trans rfl
theorem n_X7_cycle_296 : nth t_X7_cycle 296 = aCalV 183 1 299 [6] none := (y_X7_cycle_14 0).trans rfl
theorem n_X7_cycle_299 : nth t_X7_cycle 299 = aAstI 300 := (y_X7_cycle_14 3).trans rfl
theorem n_X7_cycle_300 : nth t_X7_cycle 300 = aInc 3 1 303 := (y_X7_cycle_14 4).trans rfl
theorem n_X7_cycle_303 : nth t_X7_cycle 303 = aGoto 252 := (y_X7_cycle_14 7).trans rfl
theorem n_X7_cycle_306 : nth t_X7_cycle 306 = aLdA 0 307 := (y_X7_cycle_14 10).trans rfl
theorem n_X7_cycle_307 : nth t_X7_cycle 307 = aGetR 31 [6] 310 := (y_X7_cycle_14 11).trans rfl
theorem n_X7_cycle_310 : nth t_X7_cycle 310 = aK (.int 0) 311 := (y_X7_cycle_14 14).trans rfl
theorem n_X7_cycle_311 : nth t_X7_cycle 311 = aDup2 312 := (y_X7_cycle_14 15).trans rfl
theorem n_X7_cycle_312 : nth t_X7_cycle 312 = aAldI 313 := (y_X7_cycle_14 16).trans rfl
theorem n_X7_cycle_313 : nth t_X7_cycle 313 = aK (.int 1) 314 := (y_X7_cycle_14 17).trans rfl
theorem n_X7_cycle_314 : nth t_X7_cycle 314 = aB (fun x y => x + y) 315 := (y_X7_cycle_14 18).trans rfl
theorem n_X7_cycle_315 : nth t_X7_cycle 315 = aAstI 316 := (y_X7_cycle_14 19).trans rfl
theorem y_X7_cycle_15 (n : Nat) : nth t_X7_cycle (n + 316) = nth t_X7_cycle_c15 n := (y_X7_cycle_14 (n + 20)).trans rfl
theorem n_X7_cycle_316 : nth t_X7_cycle 316 = aK (.int 0) 317 := (y_X7_cycle_15 0).trans rfl
theorem n_X7_cycle_317 : nth t_X7_cycle 317 = aStI 3 318 := (y_X7_cycle_15 1).trans rfl
theorem n_X7_cycle_318 : nth t_X7_cycle 318 = aLdI 3 319 := (y_X7_cycle_15 2).trans rfl
theorem n_X7_cycle_319 : nth t_X7_cycle 319 = aK (.int 4) 320 := (y_X7_cycle_15 3).trans rfl
theorem n_X7_cycle_320 : nth t_X7_cycle 320 = aIcLt 323 334 := (y_X7_cycle_15 4).trans rfl
theorem n_X7_cycle_323 : nth t_X7_cycle 323 = aLdA 0 324 := (y_X7_cycle_15 7).trans rfl
theorem n_X7_cycle_324 : nth t_X7_cycle 324 = aLdI 3 325 := (y_X7_cycle_15 8).trans rfl
theorem n_X7_cycle_325 : nth t_X7_cycle 325 = aCalV 187 1 328 [6] none := (y_X7_cycle_15 9).trans rfl
theorem n_X7_cycle_328 : nth t_X7_cycle 328 = aInc 3 1 331 := (y_X7_cycle_15 12).trans rfl
theorem n_X7_cycle_331 : nth t_X7_cycle 331 = aGoto 318 := (y_X7_cycle_15 15).trans rfl
theorem n_X7_cycle_334 : nth t_X7_cycle 334 = aK (.int 0) 335 := (y_X7_cycle_15 18).trans rfl
theorem n_X7_cycle_335 : nth t_X7_cycle 335 = aStI 3 336 := (y_X7_cycle_15 19).trans rfl
theorem y_X7_cycle_16 (n : Nat) : nth t_X7_cycle (n + 336) = nth t_X7_cycle_c16 n := (y_X7_cycle_15 (n + 20)).trans rfl
theorem n_X7_cycle_336 : nth t_X7_cycle 336 = aLdI 3 337 := (y_X7_cycle_16 0).trans rfl
theorem n_X7_cycle_337 : nth t_X7_cycle 337 = aK (.int 4) 338 := (y_X7_cycle_16 1).trans rfl
theorem n_X7_cycle_338 : nth t_X7_cycle 338 = aIcLt 341 366 := (y_X7_cycle_16 2).trans rfl
theorem n_X7_cycle_341 : nth t_X7_cycle 341 = aLdA 0 342 := (y_X7_cycle_16 5).trans rfl
theorem n_X7_cycle_342 : nth t_X7_cycle 342 = aK (.int 128) 345 := (y_X7_cycle_16 6).trans rfl
theorem n_X7_cycle_345 : nth t_X7_cycle 345 = aLdI 3 346 := (y_X7_cycle_16 9).trans rfl
theorem n_X7_cycle_346 : nth t_X7_cycle 346 = aB (fun x y => x + y) 347 := (y_X7_cycle_16 10).trans rfl
theorem n_X7_cycle_347 : nth t_X7_cycle 347 = aCalV 183 1 350 [6] none := (y_X7_cycle_16 11).trans rfl
theorem n_X7_cycle_350 : nth t_X7_cycle 350 = aIfLt 360 353 := (y_X7_cycle_16 14).trans rfl
theorem n_X7_cycle_353 : nth t_X7_cycle 353 = aLdA 0 354 := (y_X7_cycle_16 17).trans rfl
theorem n_X7_cycle_354 : nth t_X7_cycle 354 = aGetR 34 [6] 357 := (y_X7_cycle_16 18).trans rfl
theorem n_X7_cycle_357 : nth t_X7_cycle 357 = aLdI 3 358 := (y_X7_cycle_16 21).trans rfl
theorem y_X7_cycle_17 (n : Nat) : nth t_X7_cycle (n + 358) = nth t_X7_cycle_c17 n := (y_X7_cycle_16 (n + 22)).trans rfl
theorem n_X7_cycle_358 : nth t_X7_cycle 358 = aK (.int 0) 359 := (y_X7_cycle_17 0).trans rfl
theorem n_X7_cycle_359 : nth t_X7_cycle 359 = aAstI 360 := (y_X7_cycle_17 1).trans rfl
theorem n_X7_cycle_360 : nth t_X7_cycle 360 = aInc 3 1 363 := (y_X7_cycle_17 2).trans rfl
theorem n_X7_cycle_363 : nth t_X7_cycle 363 = aGoto 336 := (y_X7_cycle_17 5).trans rfl
theorem n_X7_cycle_366 : nth t_X7_cycle 366 = aLdA 0 367 := (y_X7_cycle_17 8).trans rfl
theorem n_X7_cycle_367 : nth t_X7_cycle 367 = aK (.int 179) 370 := (y_X7_cycle_17 9).trans rfl
theorem n_X7_cycle_370 : nth t_X7_cycle 370 = aCalV 183 1 373 [6] none := (y_X7_cycle_17 12).trans rfl
theorem n_X7_cycle_373 : nth t_X7_cycle 373 = aIfLt 376 378 := (y_X7_cycle_17 15).trans rfl
theorem n_X7_cycle_376 : nth t_X7_cycle 376 = aK (.int 0) 377 := (y_X7_cycle_17 18).trans rfl
theorem n_X7_cycle_377 : nth t_X7_cycle 377 = aRetI := (y_X7_cycle_17 19).trans rfl
theorem n_X7_cycle_378 : nth t_X7_cycle 378 = aLdA 0 379 := (y_X7_cycle_17 20).trans rfl
theorem n_X7_cycle_379 : nth t_X7_cycle 379 = aGetR 32 [6] 382 := (y_X7_cycle_17 21).trans rfl
theorem y_X7_cycle_18 (n : Nat) : nth t_X7_cycle (n + 382) = nth t_X7_cycle_c18 n := (y_X7_cycle_17 (n + 24)).trans rfl
theorem n_X7_cycle_382 : nth t_X7_cycle 382 = aK (.int 0) 383 := (y_X7_cycle_18 0).trans rfl
theorem n_X7_cycle_383 : nth t_X7_cycle 383 = aAldI 384 := (y_X7_cycle_18 1).trans rfl
theorem n_X7_cycle_384 : nth t_X7_cycle 384 = aLdA 0 385 := (y_X7_cycle_18 2).trans rfl
theorem n_X7_cycle_385 : nth t_X7_cycle 385 = aGetI 43 [6] 388 := (y_X7_cycle_18 3).trans rfl
theorem n_X7_cycle_388 : nth t_X7_cycle 388 = aIcEq 391 393 := (y_X7_cycle_18 6).trans rfl
theorem n_X7_cycle_391 : nth t_X7_cycle 391 = aK (.int 3) 392 := (y_X7_cycle_18 9).trans rfl
theorem n_X7_cycle_392 : nth t_X7_cycle 392 = aRetI := (y_X7_cycle_18 10).trans rfl
theorem n_X7_cycle_393 : nth t_X7_cycle 393 = aK (.int 0) 394 := (y_X7_cycle_18 11).trans rfl
theorem n_X7_cycle_394 : nth t_X7_cycle 394 = aStI 3 395 := (y_X7_cycle_18 12).trans rfl
theorem n_X7_cycle_395 : nth t_X7_cycle 395 = aLdI 3 396 := (y_X7_cycle_18 13).trans rfl
theorem n_X7_cycle_396 : nth t_X7_cycle 396 = aK (.int 20) 398 := (y_X7_cycle_18 14).trans rfl
theorem n_X7_cycle_398 : nth t_X7_cycle 398 = aIcLt 401 449 := (y_X7_cycle_18 16).trans rfl
theorem y_X7_cycle_19 (n : Nat) : nth t_X7_cycle (n + 401) = nth t_X7_cycle_c19 n := (y_X7_cycle_18 (n + 19)).trans rfl
theorem n_X7_cycle_401 : nth t_X7_cycle 401 = aLdA 0 402 := (y_X7_cycle_19 0).trans rfl
theorem n_X7_cycle_402 : nth t_X7_cycle 402 = aGetR 35 [6] 405 := (y_X7_cycle_19 1).trans rfl
theorem n_X7_cycle_405 : nth t_X7_cycle 405 = aK (.int 20) 407 := (y_X7_cycle_19 4).trans rfl
theorem n_X7_cycle_407 : nth t_X7_cycle 407 = aLdA 0 408 := (y_X7_cycle_19 6).trans rfl
theorem n_X7_cycle_408 : nth t_X7_cycle 408 = aGetR 32 [6] 411 := (y_X7_cycle_19 7).trans rfl
theorem n_X7_cycle_411 : nth t_X7_cycle 411 = aK (.int 0) 412 := (y_X7_cycle_19 10).trans rfl
theorem n_X7_cycle_412 : nth t_X7_cycle 412 = aAldI 413 := (y_X7_cycle_19 11).trans rfl
theorem n_X7_cycle_413 : nth t_X7_cycle 413 = aB (fun x y => x * y) 414 := (y_X7_cycle_19 12).trans rfl
theorem n_X7_cycle_414 : nth t_X7_cycle 414 = aLdI 3 415 := (y_X7_cycle_19 13).trans rfl
theorem n_X7_cycle_415 : nth t_X7_cycle 415 = aB (fun x y => x + y) 416 := (y_X7_cycle_19 14).trans rfl
theorem n_X7_cycle_416 : nth t_X7_cycle 416 = aLdA 0 417 := (y_X7_cycle_19 15).trans rfl
theorem n_X7_cycle_417 : nth t_X7_cycle 417 = aK (.int 159) 420 := (y_X7_cycle_19 16).trans rfl
theorem y_X7_cycle_20 (n : Nat) : nth t_X7_cycle (n + 420) = nth t_X7_cycle_c20 n := (y_X7_cycle_19 (n + 19)).trans rfl
theorem n_X7_cycle_420 : nth t_X7_cycle 420 = aLdI 3 421 := (y_X7_cycle_20 0).trans rfl
theorem n_X7_cycle_421 : nth t_X7_cycle 421 = aB (fun x y => x + y) 422 := (y_X7_cycle_20 1).trans rfl
theorem n_X7_cycle_422 : nth t_X7_cycle 422 = aCalV 183 1 425 [6] none := (y_X7_cycle_20 2).trans rfl
theorem n_X7_cycle_425 : nth t_X7_cycle 425 = aIfLt 428 433 := (y_X7_cycle_20 5).trans rfl
theorem n_X7_cycle_428 : nth t_X7_cycle 428 = aK (.int 15) 430 := (y_X7_cycle_20 8).trans rfl
theorem n_X7_cycle_430 : nth t_X7_cycle 430 = aGoto 442 := (y_X7_cycle_20 10).trans rfl
theorem n_X7_cycle_433 : nth t_X7_cycle 433 = aLdA 0 434 := (y_X7_cycle_20 13).trans rfl
theorem n_X7_cycle_434 : nth t_X7_cycle 434 = aK (.int 159) 437 := (y_X7_cycle_20 14).trans rfl
theorem n_X7_cycle_437 : nth t_X7_cycle 437 = aLdI 3 438 := (y_X7_cycle_20 17).trans rfl
theorem n_X7_cycle_438 : nth t_X7_cycle 438 = aB (fun x y => x + y) 439 := (y_X7_cycle_20 18).trans rfl
theorem n_X7_cycle_439 : nth t_X7_cycle 439 = aCalV 183 1 442 [6] none := (y_X7_cycle_20 19).trans rfl
theorem n_X7_cycle_442 : nth t_X7_cycle 442 = aAstI 443 := (y_X7_cycle_20 22).trans rfl
theorem y_X7_cycle_21 (n : Nat) : nth t_X7_cycle (n + 443) = nth t_X7_cycle_c21 n := (y_X7_cycle_20 (n + 23)).trans rfl
theorem n_X7_cycle_443 : nth t_X7_cycle 443 = aInc 3 1 446 := (y_X7_cycle_21 0).trans rfl
theorem n_X7_cycle_446 : nth t_X7_cycle 446 = aGoto 395 := (y_X7_cycle_21 3).trans rfl
theorem n_X7_cycle_449 : nth t_X7_cycle 449 = aLdA 0 450 := (y_X7_cycle_21 6).trans rfl
theorem n_X7_cycle_450 : nth t_X7_cycle 450 = aGetR 32 [6] 453 := (y_X7_cycle_21 7).trans rfl
theorem n_X7_cycle_453 : nth t_X7_cycle 453 = aK (.int 0) 454 := (y_X7_cycle_21 10).trans rfl
theorem n_X7_cycle_454 : nth t_X7_cycle 454 = aDup2 455 := (y_X7_cycle_21 11).trans rfl
theorem n_X7_cycle_455 : nth t_X7_cycle 455 = aAldI 456 := (y_X7_cycle_21 12).trans rfl
theorem n_X7_cycle_456 : nth t_X7_cycle 456 = aK (.int 1) 457 := (y_X7_cycle_21 13).trans rfl
theorem n_X7_cycle_457 : nth t_X7_cycle 457 = aB (fun x y => x + y) 458 := (y_X7_cycle_21 14).trans rfl
theorem n_X7_cycle_458 : nth t_X7_cycle 458 = aAstI 459 := (y_X7_cycle_21 15).trans rfl
theorem n_X7_cycle_459 : nth t_X7_cycle 459 = aK (.int 0) 460 := (y_X7_cycle_21 16).trans rfl
theorem n_X7_cycle_460 : nth t_X7_cycle 460 = aRetI := (y_X7_cycle_21 17).trans rfl
theorem n_X7_gather_0 : nth t_X7_gather 0 = aK (.int 0) 1 := rfl
theorem n_X7_gather_1 : nth t_X7_gather 1 = aStI 3 2 := rfl
theorem n_X7_gather_2 : nth t_X7_gather 2 = aLdI 3 3 := rfl
theorem n_X7_gather_3 : nth t_X7_gather 3 = aK (.int 217) 6 := rfl
theorem n_X7_gather_6 : nth t_X7_gather 6 = aIcLt 9 22 := rfl
theorem n_X7_gather_9 : nth t_X7_gather 9 = aLdA 0 10 := rfl
theorem n_X7_gather_10 : nth t_X7_gather 10 = aGetR 28 [6] 13 := rfl
theorem n_X7_gather_13 : nth t_X7_gather 13 = aLdI 3 14 := rfl
theorem n_X7_gather_14 : nth t_X7_gather 14 = aK (.int 0) 15 := rfl
theorem n_X7_gather_15 : nth t_X7_gather 15 = aAstI 16 := rfl
theorem n_X7_gather_16 : nth t_X7_gather 16 = aInc 3 1 19 := rfl
theorem n_X7_gather_19 : nth t_X7_gather 19 = aGoto 2 := rfl
theorem y_X7_gather_1 (n : Nat) : nth t_X7_gather (n + 22) = nth t_X7_gather_c1 n := rfl
theorem n_X7_gather_22 : nth t_X7_gather 22 = aK (.int 0) 23 := (y_X7_gather_1 0).trans rfl
theorem n_X7_gather_23 : nth t_X7_gather 23 = aStI 3 24 := (y_X7_gather_1 1).trans rfl
theorem n_X7_gather_24 : nth t_X7_gather 24 = aLdI 3 25 := (y_X7_gather_1 2).trans rfl
theorem n_X7_gather_25 : nth t_X7_gather 25 = aK (.int 96) 27 := (y_X7_gather_1 3).trans rfl
theorem n_X7_gather_27 : nth t_X7_gather 27 = aIcLt 30 97 := (y_X7_gather_1 5).trans rfl
theorem n_X7_gather_30 : nth t_X7_gather 30 = aLdA 0 31 := (y_X7_gather_1 8).trans rfl
theorem n_X7_gather_31 : nth t_X7_gather 31 = aGetR 24 [6] 34 := (y_X7_gather_1 9).trans rfl
theorem n_X7_gather_34 : nth t_X7_gather 34 = aLdI 3 35 := (y_X7_gather_1 12).trans rfl
theorem n_X7_gather_35 : nth t_X7_gather 35 = aAldI 36 := (y_X7_gather_1 13).trans rfl
theorem n_X7_gather_36 : nth t_X7_gather 36 = aIfLt 91 39 := (y_X7_gather_1 14).trans rfl
theorem n_X7_gather_39 : nth t_X7_gather 39 = aLdI 2 40 := (y_X7_gather_1 17).trans rfl
theorem n_X7_gather_40 : nth t_X7_gather 40 = aIfEq 43 57 := (y_X7_gather_1 18).trans rfl
theorem y_X7_gather_2 (n : Nat) : nth t_X7_gather (n + 43) = nth t_X7_gather_c2 n := (y_X7_gather_1 (n + 21)).trans rfl
theorem n_X7_gather_43 : nth t_X7_gather 43 = aLdI 3 44 := (y_X7_gather_2 0).trans rfl
theorem n_X7_gather_44 : nth t_X7_gather 44 = aK (.int 61) 46 := (y_X7_gather_2 1).trans rfl
theorem n_X7_gather_46 : nth t_X7_gather 46 = aK (.int 64) 48 := (y_X7_gather_2 3).trans rfl
theorem n_X7_gather_48 : nth t_X7_gather 48 = aCalS 154 3 51 none := (y_X7_gather_2 5).trans rfl
theorem n_X7_gather_51 : nth t_X7_gather 51 = aIfEq 57 54 := (y_X7_gather_2 8).trans rfl
theorem n_X7_gather_54 : nth t_X7_gather 54 = aGoto 91 := (y_X7_gather_2 11).trans rfl
theorem n_X7_gather_57 : nth t_X7_gather 57 = aLdA 1 58 := (y_X7_gather_2 14).trans rfl
theorem n_X7_gather_58 : nth t_X7_gather 58 = aLdI 3 59 := (y_X7_gather_2 15).trans rfl
theorem n_X7_gather_59 : nth t_X7_gather 59 = aAldI 60 := (y_X7_gather_2 16).trans rfl
theorem n_X7_gather_60 : nth t_X7_gather 60 = aStI 4 62 := (y_X7_gather_2 17).trans rfl
theorem n_X7_gather_62 : nth t_X7_gather 62 = aLdA 0 63 := (y_X7_gather_2 19).trans rfl
theorem n_X7_gather_63 : nth t_X7_gather 63 = aGetR 28 [6] 66 := (y_X7_gather_2 20).trans rfl
theorem y_X7_gather_3 (n : Nat) : nth t_X7_gather (n + 66) = nth t_X7_gather_c3 n := (y_X7_gather_2 (n + 23)).trans rfl
theorem n_X7_gather_66 : nth t_X7_gather 66 = aLdI 4 68 := (y_X7_gather_3 0).trans rfl
theorem n_X7_gather_68 : nth t_X7_gather 68 = aAldI 69 := (y_X7_gather_3 2).trans rfl
theorem n_X7_gather_69 : nth t_X7_gather 69 = aIfEq 72 80 := (y_X7_gather_3 3).trans rfl
theorem n_X7_gather_72 : nth t_X7_gather 72 = aLdA 0 73 := (y_X7_gather_3 6).trans rfl
theorem n_X7_gather_73 : nth t_X7_gather 73 = aGetR 27 [6] 76 := (y_X7_gather_3 7).trans rfl
theorem n_X7_gather_76 : nth t_X7_gather 76 = aLdI 4 78 := (y_X7_gather_3 10).trans rfl
theorem n_X7_gather_78 : nth t_X7_gather 78 = aLdI 3 79 := (y_X7_gather_3 12).trans rfl
theorem n_X7_gather_79 : nth t_X7_gather 79 = aAstI 80 := (y_X7_gather_3 13).trans rfl
theorem n_X7_gather_80 : nth t_X7_gather 80 = aLdA 0 81 := (y_X7_gather_3 14).trans rfl
theorem n_X7_gather_81 : nth t_X7_gather 81 = aGetR 28 [6] 84 := (y_X7_gather_3 15).trans rfl
theorem n_X7_gather_84 : nth t_X7_gather 84 = aLdI 4 86 := (y_X7_gather_3 18).trans rfl
theorem n_X7_gather_86 : nth t_X7_gather 86 = aDup2 87 := (y_X7_gather_3 20).trans rfl
theorem y_X7_gather_4 (n : Nat) : nth t_X7_gather (n + 87) = nth t_X7_gather_c4 n := (y_X7_gather_3 (n + 21)).trans rfl
theorem n_X7_gather_87 : nth t_X7_gather 87 = aAldI 88 := (y_X7_gather_4 0).trans rfl
theorem n_X7_gather_88 : nth t_X7_gather 88 = aK (.int 1) 89 := (y_X7_gather_4 1).trans rfl
theorem n_X7_gather_89 : nth t_X7_gather 89 = aB (fun x y => x + y) 90 := (y_X7_gather_4 2).trans rfl
theorem n_X7_gather_90 : nth t_X7_gather 90 = aAstI 91 := (y_X7_gather_4 3).trans rfl
theorem n_X7_gather_91 : nth t_X7_gather 91 = aInc 3 1 94 := (y_X7_gather_4 4).trans rfl
theorem n_X7_gather_94 : nth t_X7_gather 94 = aGoto 24 := (y_X7_gather_4 7).trans rfl
theorem n_X7_gather_97 : nth t_X7_gather 97 = aRetV := (y_X7_gather_4 10).trans rfl
theorem n_X7_have_0 : nth t_X7_have 0 = aLdA 0 1 := rfl
theorem n_X7_have_1 : nth t_X7_have 1 = aLdA 0 2 := rfl
theorem n_X7_have_2 : nth t_X7_have 2 = aGetR 26 [6] 5 := rfl
theorem n_X7_have_5 : nth t_X7_have 5 = aLdI 1 6 := rfl
theorem n_X7_have_6 : nth t_X7_have 6 = aCalV 184 2 9 [6] none := rfl
theorem n_X7_have_9 : nth t_X7_have 9 = aRetI := rfl
theorem n_X7_take_0 : nth t_X7_take 0 = aLdA 0 1 := rfl
theorem n_X7_take_1 : nth t_X7_take 1 = aGetR 28 [6] 4 := rfl
theorem n_X7_take_4 : nth t_X7_take 4 = aLdA 1 5 := rfl
theorem n_X7_take_5 : nth t_X7_take 5 = aLdI 2 6 := rfl
theorem n_X7_take_6 : nth t_X7_take 6 = aAldI 7 := rfl
theorem n_X7_take_7 : nth t_X7_take 7 = aAldI 8 := rfl
theorem n_X7_take_8 : nth t_X7_take 8 = aIfEq 11 15 := rfl
theorem n_X7_take_11 : nth t_X7_take 11 = aK (.int (-1)) 12 := rfl
theorem n_X7_take_12 : nth t_X7_take 12 = aGoto 28 := rfl
theorem n_X7_take_15 : nth t_X7_take 15 = aLdA 0 16 := rfl
theorem n_X7_take_16 : nth t_X7_take 16 = aGetR 24 [6] 19 := rfl
theorem n_X7_take_19 : nth t_X7_take 19 = aLdA 0 20 := rfl
theorem y_X7_take_1 (n : Nat) : nth t_X7_take (n + 20) = nth t_X7_take_c1 n := rfl
theorem n_X7_take_20 : nth t_X7_take 20 = aGetR 27 [6] 23 := (y_X7_take_1 0).trans rfl
theorem n_X7_take_23 : nth t_X7_take 23 = aLdA 1 24 := (y_X7_take_1 3).trans rfl
theorem n_X7_take_24 : nth t_X7_take 24 = aLdI 2 25 := (y_X7_take_1 4).trans rfl
theorem n_X7_take_25 : nth t_X7_take 25 = aAldI 26 := (y_X7_take_1 5).trans rfl
theorem n_X7_take_26 : nth t_X7_take 26 = aAldI 27 := (y_X7_take_1 6).trans rfl
theorem n_X7_take_27 : nth t_X7_take 27 = aAldI 28 := (y_X7_take_1 7).trans rfl
theorem n_X7_take_28 : nth t_X7_take 28 = aRetI := (y_X7_take_1 8).trans rfl
theorem n_X7_jam_0 : nth t_X7_jam 0 = aLdA 0 1 := rfl
theorem n_X7_jam_1 : nth t_X7_jam 1 = aGetR 39 [6] 4 := rfl
theorem n_X7_jam_4 : nth t_X7_jam 4 = aK (.int 0) 5 := rfl
theorem n_X7_jam_5 : nth t_X7_jam 5 = aLdI 1 6 := rfl
theorem n_X7_jam_6 : nth t_X7_jam 6 = aAstI 7 := rfl
theorem n_X7_jam_7 : nth t_X7_jam 7 = aLdI 1 8 := rfl
theorem n_X7_jam_8 : nth t_X7_jam 8 = aK (.int 1) 9 := rfl
theorem n_X7_jam_9 : nth t_X7_jam 9 = aB (fun x y => x + y) 10 := rfl
theorem n_X7_jam_10 : nth t_X7_jam 10 = aStI 2 11 := rfl
theorem n_X7_jam_11 : nth t_X7_jam 11 = aLdA 0 12 := rfl
theorem n_X7_jam_12 : nth t_X7_jam 12 = aGetR 24 [6] 15 := rfl
theorem n_X7_jam_15 : nth t_X7_jam 15 = aLdI 2 16 := rfl
theorem y_X7_jam_1 (n : Nat) : nth t_X7_jam (n + 16) = nth t_X7_jam_c1 n := rfl
theorem n_X7_jam_16 : nth t_X7_jam 16 = aAldI 17 := (y_X7_jam_1 0).trans rfl
theorem n_X7_jam_17 : nth t_X7_jam 17 = aIfLt 35 20 := (y_X7_jam_1 1).trans rfl
theorem n_X7_jam_20 : nth t_X7_jam 20 = aLdA 0 21 := (y_X7_jam_1 4).trans rfl
theorem n_X7_jam_21 : nth t_X7_jam 21 = aGetR 26 [6] 24 := (y_X7_jam_1 5).trans rfl
theorem n_X7_jam_24 : nth t_X7_jam 24 = aLdI 2 25 := (y_X7_jam_1 8).trans rfl
theorem n_X7_jam_25 : nth t_X7_jam 25 = aAldI 26 := (y_X7_jam_1 9).trans rfl
theorem n_X7_jam_26 : nth t_X7_jam 26 = aLdA 0 27 := (y_X7_jam_1 10).trans rfl
theorem n_X7_jam_27 : nth t_X7_jam 27 = aGetR 26 [6] 30 := (y_X7_jam_1 11).trans rfl
theorem n_X7_jam_30 : nth t_X7_jam 30 = aLdI 1 31 := (y_X7_jam_1 14).trans rfl
theorem n_X7_jam_31 : nth t_X7_jam 31 = aAldI 32 := (y_X7_jam_1 15).trans rfl
theorem n_X7_jam_32 : nth t_X7_jam 32 = aIcEq 41 35 := (y_X7_jam_1 16).trans rfl
theorem n_X7_jam_35 : nth t_X7_jam 35 = aInc 2 1 38 := (y_X7_jam_1 19).trans rfl
theorem y_X7_jam_2 (n : Nat) : nth t_X7_jam (n + 38) = nth t_X7_jam_c2 n := (y_X7_jam_1 (n + 22)).trans rfl
theorem n_X7_jam_38 : nth t_X7_jam 38 = aGoto 11 := (y_X7_jam_2 0).trans rfl
theorem n_X7_jam_41 : nth t_X7_jam 41 = aLdA 0 42 := (y_X7_jam_2 3).trans rfl
theorem n_X7_jam_42 : nth t_X7_jam 42 = aGetR 40 [6] 45 := (y_X7_jam_2 4).trans rfl
theorem n_X7_jam_45 : nth t_X7_jam 45 = aK (.int 0) 46 := (y_X7_jam_2 7).trans rfl
theorem n_X7_jam_46 : nth t_X7_jam 46 = aLdI 2 47 := (y_X7_jam_2 8).trans rfl
theorem n_X7_jam_47 : nth t_X7_jam 47 = aAstI 48 := (y_X7_jam_2 9).trans rfl
theorem n_X7_jam_48 : nth t_X7_jam 48 = aK (.int 2) 49 := (y_X7_jam_2 10).trans rfl
theorem n_X7_jam_49 : nth t_X7_jam 49 = aRetI := (y_X7_jam_2 11).trans rfl
theorem n_X7_prints_0 : nth t_X7_prints 0 = aK (.int 0) 1 := rfl
theorem n_X7_prints_1 : nth t_X7_prints 1 = aStI 1 2 := rfl
theorem n_X7_prints_2 : nth t_X7_prints 2 = aLdI 1 3 := rfl
theorem n_X7_prints_3 : nth t_X7_prints 3 = aK (.int 12) 5 := rfl
theorem n_X7_prints_5 : nth t_X7_prints 5 = aIcLt 8 28 := rfl
theorem n_X7_prints_8 : nth t_X7_prints 8 = aLdA 0 9 := rfl
theorem n_X7_prints_9 : nth t_X7_prints 9 = aK (.int 132) 12 := rfl
theorem n_X7_prints_12 : nth t_X7_prints 12 = aLdI 1 13 := rfl
theorem n_X7_prints_13 : nth t_X7_prints 13 = aB (fun x y => x + y) 14 := rfl
theorem n_X7_prints_14 : nth t_X7_prints 14 = aCalV 183 1 17 [6] none := rfl
theorem n_X7_prints_17 : nth t_X7_prints 17 = aIfLt 22 20 := rfl
theorem n_X7_prints_20 : nth t_X7_prints 20 = aK (.int 1) 21 := rfl
theorem y_X7_prints_1 (n : Nat) : nth t_X7_prints (n + 21) = nth t_X7_prints_c1 n := rfl
theorem n_X7_prints_21 : nth t_X7_prints 21 = aRetZ := (y_X7_prints_1 0).trans rfl
theorem n_X7_prints_22 : nth t_X7_prints 22 = aInc 1 1 25 := (y_X7_prints_1 1).trans rfl
theorem n_X7_prints_25 : nth t_X7_prints 25 = aGoto 2 := (y_X7_prints_1 4).trans rfl
theorem n_X7_prints_28 : nth t_X7_prints 28 = aK (.int 0) 29 := (y_X7_prints_1 7).trans rfl
theorem n_X7_prints_29 : nth t_X7_prints 29 = aRetZ := (y_X7_prints_1 8).trans rfl
theorem n_X7_turn_0 : nth t_X7_turn 0 = aLdA 0 1 := rfl
theorem n_X7_turn_1 : nth t_X7_turn 1 = aK (.int 120) 3 := rfl
theorem n_X7_turn_3 : nth t_X7_turn 3 = aLdI 1 4 := rfl
theorem n_X7_turn_4 : nth t_X7_turn 4 = aB (fun x y => x + y) 5 := rfl
theorem n_X7_turn_5 : nth t_X7_turn 5 = aCalV 183 1 8 [6] none := rfl
theorem n_X7_turn_8 : nth t_X7_turn 8 = aIfLt 15 11 := rfl
theorem n_X7_turn_11 : nth t_X7_turn 11 = aK (.int 1) 12 := rfl
theorem n_X7_turn_12 : nth t_X7_turn 12 = aGoto 16 := rfl
theorem n_X7_turn_15 : nth t_X7_turn 15 = aK (.int 0) 16 := rfl
theorem n_X7_turn_16 : nth t_X7_turn 16 = aStI 2 17 := rfl
theorem n_X7_turn_17 : nth t_X7_turn 17 = aLdI 2 18 := rfl
theorem n_X7_turn_18 : nth t_X7_turn 18 = aLdA 0 19 := rfl
theorem y_X7_turn_1 (n : Nat) : nth t_X7_turn (n + 19) = nth t_X7_turn_c1 n := rfl
theorem n_X7_turn_19 : nth t_X7_turn 19 = aK (.int 124) 21 := (y_X7_turn_1 0).trans rfl
theorem n_X7_turn_21 : nth t_X7_turn 21 = aLdI 1 22 := (y_X7_turn_1 2).trans rfl
theorem n_X7_turn_22 : nth t_X7_turn 22 = aB (fun x y => x + y) 23 := (y_X7_turn_1 3).trans rfl
theorem n_X7_turn_23 : nth t_X7_turn 23 = aCalV 183 1 26 [6] none := (y_X7_turn_1 4).trans rfl
theorem n_X7_turn_26 : nth t_X7_turn 26 = aIfLt 33 29 := (y_X7_turn_1 7).trans rfl
theorem n_X7_turn_29 : nth t_X7_turn 29 = aK (.int 1) 30 := (y_X7_turn_1 10).trans rfl
theorem n_X7_turn_30 : nth t_X7_turn 30 = aGoto 34 := (y_X7_turn_1 11).trans rfl
theorem n_X7_turn_33 : nth t_X7_turn 33 = aK (.int 0) 34 := (y_X7_turn_1 14).trans rfl
theorem n_X7_turn_34 : nth t_X7_turn 34 = aIcEq 37 38 := (y_X7_turn_1 15).trans rfl
theorem n_X7_turn_37 : nth t_X7_turn 37 = aRetV := (y_X7_turn_1 18).trans rfl
theorem n_X7_turn_38 : nth t_X7_turn 38 = aK (.int 0) 39 := (y_X7_turn_1 19).trans rfl
theorem n_X7_turn_39 : nth t_X7_turn 39 = aStI 3 40 := (y_X7_turn_1 20).trans rfl
theorem y_X7_turn_2 (n : Nat) : nth t_X7_turn (n + 40) = nth t_X7_turn_c2 n := (y_X7_turn_1 (n + 21)).trans rfl
theorem n_X7_turn_40 : nth t_X7_turn 40 = aK (.int 5) 41 := (y_X7_turn_2 0).trans rfl
theorem n_X7_turn_41 : nth t_X7_turn 41 = aStI 4 43 := (y_X7_turn_2 1).trans rfl
theorem n_X7_turn_43 : nth t_X7_turn 43 = aLdI 4 45 := (y_X7_turn_2 3).trans rfl
theorem n_X7_turn_45 : nth t_X7_turn 45 = aIfLt 95 48 := (y_X7_turn_2 5).trans rfl
theorem n_X7_turn_48 : nth t_X7_turn 48 = aK (.int 10) 50 := (y_X7_turn_2 8).trans rfl
theorem n_X7_turn_50 : nth t_X7_turn 50 = aLdI 3 51 := (y_X7_turn_2 10).trans rfl
theorem n_X7_turn_51 : nth t_X7_turn 51 = aB (fun x y => x * y) 52 := (y_X7_turn_2 11).trans rfl
theorem n_X7_turn_52 : nth t_X7_turn 52 = aLdA 0 53 := (y_X7_turn_2 12).trans rfl
theorem n_X7_turn_53 : nth t_X7_turn 53 = aK (.int 96) 55 := (y_X7_turn_2 13).trans rfl
theorem n_X7_turn_55 : nth t_X7_turn 55 = aK (.int 6) 57 := (y_X7_turn_2 15).trans rfl
theorem n_X7_turn_57 : nth t_X7_turn 57 = aLdI 1 58 := (y_X7_turn_2 17).trans rfl
theorem n_X7_turn_58 : nth t_X7_turn 58 = aB (fun x y => x * y) 59 := (y_X7_turn_2 18).trans rfl
theorem y_X7_turn_3 (n : Nat) : nth t_X7_turn (n + 59) = nth t_X7_turn_c3 n := (y_X7_turn_2 (n + 19)).trans rfl
theorem n_X7_turn_59 : nth t_X7_turn 59 = aB (fun x y => x + y) 60 := (y_X7_turn_3 0).trans rfl
theorem n_X7_turn_60 : nth t_X7_turn 60 = aLdI 4 62 := (y_X7_turn_3 1).trans rfl
theorem n_X7_turn_62 : nth t_X7_turn 62 = aB (fun x y => x + y) 63 := (y_X7_turn_3 3).trans rfl
theorem n_X7_turn_63 : nth t_X7_turn 63 = aCalV 183 1 66 [6] none := (y_X7_turn_3 4).trans rfl
theorem n_X7_turn_66 : nth t_X7_turn 66 = aIfLt 69 73 := (y_X7_turn_3 7).trans rfl
theorem n_X7_turn_69 : nth t_X7_turn 69 = aK (.int 0) 70 := (y_X7_turn_3 10).trans rfl
theorem n_X7_turn_70 : nth t_X7_turn 70 = aGoto 87 := (y_X7_turn_3 11).trans rfl
theorem n_X7_turn_73 : nth t_X7_turn 73 = aLdA 0 74 := (y_X7_turn_3 14).trans rfl
theorem n_X7_turn_74 : nth t_X7_turn 74 = aK (.int 96) 76 := (y_X7_turn_3 15).trans rfl
theorem n_X7_turn_76 : nth t_X7_turn 76 = aK (.int 6) 78 := (y_X7_turn_3 17).trans rfl
theorem n_X7_turn_78 : nth t_X7_turn 78 = aLdI 1 79 := (y_X7_turn_3 19).trans rfl
theorem n_X7_turn_79 : nth t_X7_turn 79 = aB (fun x y => x * y) 80 := (y_X7_turn_3 20).trans rfl
theorem y_X7_turn_4 (n : Nat) : nth t_X7_turn (n + 80) = nth t_X7_turn_c4 n := (y_X7_turn_3 (n + 21)).trans rfl
theorem n_X7_turn_80 : nth t_X7_turn 80 = aB (fun x y => x + y) 81 := (y_X7_turn_4 0).trans rfl
theorem n_X7_turn_81 : nth t_X7_turn 81 = aLdI 4 83 := (y_X7_turn_4 1).trans rfl
theorem n_X7_turn_83 : nth t_X7_turn 83 = aB (fun x y => x + y) 84 := (y_X7_turn_4 3).trans rfl
theorem n_X7_turn_84 : nth t_X7_turn 84 = aCalV 183 1 87 [6] none := (y_X7_turn_4 4).trans rfl
theorem n_X7_turn_87 : nth t_X7_turn 87 = aB (fun x y => x + y) 88 := (y_X7_turn_4 7).trans rfl
theorem n_X7_turn_88 : nth t_X7_turn 88 = aStI 3 89 := (y_X7_turn_4 8).trans rfl
theorem n_X7_turn_89 : nth t_X7_turn 89 = aInc 4 (-1) 92 := (y_X7_turn_4 9).trans rfl
theorem n_X7_turn_92 : nth t_X7_turn 92 = aGoto 43 := (y_X7_turn_4 12).trans rfl
theorem n_X7_turn_95 : nth t_X7_turn 95 = aLdA 0 96 := (y_X7_turn_4 15).trans rfl
theorem n_X7_turn_96 : nth t_X7_turn 96 = aGetR 34 [6] 99 := (y_X7_turn_4 16).trans rfl
theorem n_X7_turn_99 : nth t_X7_turn 99 = aLdI 1 100 := (y_X7_turn_4 19).trans rfl
theorem n_X7_turn_100 : nth t_X7_turn 100 = aDup2 101 := (y_X7_turn_4 20).trans rfl
theorem y_X7_turn_5 (n : Nat) : nth t_X7_turn (n + 101) = nth t_X7_turn_c5 n := (y_X7_turn_4 (n + 21)).trans rfl
theorem n_X7_turn_101 : nth t_X7_turn 101 = aAldI 102 := (y_X7_turn_5 0).trans rfl
theorem n_X7_turn_102 : nth t_X7_turn 102 = aLdI 2 103 := (y_X7_turn_5 1).trans rfl
theorem n_X7_turn_103 : nth t_X7_turn 103 = aIfEq 110 106 := (y_X7_turn_5 2).trans rfl
theorem n_X7_turn_106 : nth t_X7_turn 106 = aLdI 3 107 := (y_X7_turn_5 5).trans rfl
theorem n_X7_turn_107 : nth t_X7_turn 107 = aGoto 112 := (y_X7_turn_5 6).trans rfl
theorem n_X7_turn_110 : nth t_X7_turn 110 = aLdI 3 111 := (y_X7_turn_5 9).trans rfl
theorem n_X7_turn_111 : nth t_X7_turn 111 = aU (fun x => -x) 112 := (y_X7_turn_5 10).trans rfl
theorem n_X7_turn_112 : nth t_X7_turn 112 = aB (fun x y => x + y) 113 := (y_X7_turn_5 11).trans rfl
theorem n_X7_turn_113 : nth t_X7_turn 113 = aAstI 114 := (y_X7_turn_5 12).trans rfl
theorem n_X7_turn_114 : nth t_X7_turn 114 = aLdA 0 115 := (y_X7_turn_5 13).trans rfl
theorem n_X7_turn_115 : nth t_X7_turn 115 = aGetR 34 [6] 118 := (y_X7_turn_5 14).trans rfl
theorem n_X7_turn_118 : nth t_X7_turn 118 = aLdI 1 119 := (y_X7_turn_5 17).trans rfl
theorem y_X7_turn_6 (n : Nat) : nth t_X7_turn (n + 119) = nth t_X7_turn_c6 n := (y_X7_turn_5 (n + 18)).trans rfl
theorem n_X7_turn_119 : nth t_X7_turn 119 = aAldI 120 := (y_X7_turn_6 0).trans rfl
theorem n_X7_turn_120 : nth t_X7_turn 120 = aK (.int (-999999)) 123 := (y_X7_turn_6 1).trans rfl
theorem n_X7_turn_123 : nth t_X7_turn 123 = aK (.int 999999) 126 := (y_X7_turn_6 4).trans rfl
theorem n_X7_turn_126 : nth t_X7_turn 126 = aCalS 154 3 129 none := (y_X7_turn_6 7).trans rfl
theorem n_X7_turn_129 : nth t_X7_turn 129 = aIfEq 133 132 := (y_X7_turn_6 10).trans rfl
theorem n_X7_turn_132 : nth t_X7_turn 132 = aRetV := (y_X7_turn_6 13).trans rfl
theorem n_X7_turn_133 : nth t_X7_turn 133 = aLdA 0 134 := (y_X7_turn_6 14).trans rfl
theorem n_X7_turn_134 : nth t_X7_turn 134 = aGetR 38 [6] 137 := (y_X7_turn_6 15).trans rfl
theorem n_X7_turn_137 : nth t_X7_turn 137 = aK (.int 0) 138 := (y_X7_turn_6 18).trans rfl
theorem n_X7_turn_138 : nth t_X7_turn 138 = aDup2 139 := (y_X7_turn_6 19).trans rfl
theorem n_X7_turn_139 : nth t_X7_turn 139 = aAldI 140 := (y_X7_turn_6 20).trans rfl
theorem n_X7_turn_140 : nth t_X7_turn 140 = aK (.int 1) 141 := (y_X7_turn_6 21).trans rfl
theorem y_X7_turn_7 (n : Nat) : nth t_X7_turn (n + 141) = nth t_X7_turn_c7 n := (y_X7_turn_6 (n + 22)).trans rfl
theorem n_X7_turn_141 : nth t_X7_turn 141 = aB (fun x y => x + y) 142 := (y_X7_turn_7 0).trans rfl
theorem n_X7_turn_142 : nth t_X7_turn 142 = aAstI 143 := (y_X7_turn_7 1).trans rfl
theorem n_X7_turn_143 : nth t_X7_turn 143 = aLdA 0 144 := (y_X7_turn_7 2).trans rfl
theorem n_X7_turn_144 : nth t_X7_turn 144 = aGetR 34 [6] 147 := (y_X7_turn_7 3).trans rfl
theorem n_X7_turn_147 : nth t_X7_turn 147 = aLdI 1 148 := (y_X7_turn_7 6).trans rfl
theorem n_X7_turn_148 : nth t_X7_turn 148 = aLdA 0 149 := (y_X7_turn_7 7).trans rfl
theorem n_X7_turn_149 : nth t_X7_turn 149 = aGetR 34 [6] 152 := (y_X7_turn_7 8).trans rfl
theorem n_X7_turn_152 : nth t_X7_turn 152 = aLdI 1 153 := (y_X7_turn_7 11).trans rfl
theorem n_X7_turn_153 : nth t_X7_turn 153 = aAldI 154 := (y_X7_turn_7 12).trans rfl
theorem n_X7_turn_154 : nth t_X7_turn 154 = aK (.int 1000000) 157 := (y_X7_turn_7 13).trans rfl
theorem n_X7_turn_157 : nth t_X7_turn 157 = aRem 158 := (y_X7_turn_7 16).trans rfl
theorem n_X7_turn_158 : nth t_X7_turn 158 = aAstI 159 := (y_X7_turn_7 17).trans rfl
theorem y_X7_turn_8 (n : Nat) : nth t_X7_turn (n + 159) = nth t_X7_turn_c8 n := (y_X7_turn_7 (n + 18)).trans rfl
theorem n_X7_turn_159 : nth t_X7_turn 159 = aRetV := (y_X7_turn_8 0).trans rfl
theorem n_X7_total_0 : nth t_X7_total 0 = aK (.int 0) 1 := rfl
theorem n_X7_total_1 : nth t_X7_total 1 = aStI 2 2 := rfl
theorem n_X7_total_2 : nth t_X7_total 2 = aLdI 2 3 := rfl
theorem n_X7_total_3 : nth t_X7_total 3 = aK (.int 96) 5 := rfl
theorem n_X7_total_5 : nth t_X7_total 5 = aIcLt 8 21 := rfl
theorem n_X7_total_8 : nth t_X7_total 8 = aLdA 0 9 := rfl
theorem n_X7_total_9 : nth t_X7_total 9 = aGetR 24 [6] 12 := rfl
theorem n_X7_total_12 : nth t_X7_total 12 = aLdI 2 13 := rfl
theorem n_X7_total_13 : nth t_X7_total 13 = aK (.int (-1)) 14 := rfl
theorem n_X7_total_14 : nth t_X7_total 14 = aAstI 15 := rfl
theorem n_X7_total_15 : nth t_X7_total 15 = aInc 2 1 18 := rfl
theorem n_X7_total_18 : nth t_X7_total 18 = aGoto 2 := rfl
theorem y_X7_total_1 (n : Nat) : nth t_X7_total (n + 21) = nth t_X7_total_c1 n := rfl
theorem n_X7_total_21 : nth t_X7_total 21 = aLdA 0 22 := (y_X7_total_1 0).trans rfl
theorem n_X7_total_22 : nth t_X7_total 22 = aGetR 24 [6] 25 := (y_X7_total_1 1).trans rfl
theorem n_X7_total_25 : nth t_X7_total 25 = aK (.int 65) 27 := (y_X7_total_1 4).trans rfl
theorem n_X7_total_27 : nth t_X7_total 27 = aLdI 1 28 := (y_X7_total_1 6).trans rfl
theorem n_X7_total_28 : nth t_X7_total 28 = aB (fun x y => x + y) 29 := (y_X7_total_1 7).trans rfl
theorem n_X7_total_29 : nth t_X7_total 29 = aK (.int 1) 30 := (y_X7_total_1 8).trans rfl
theorem n_X7_total_30 : nth t_X7_total 30 = aB (fun x y => x - y) 31 := (y_X7_total_1 9).trans rfl
theorem n_X7_total_31 : nth t_X7_total 31 = aK (.int 1) 32 := (y_X7_total_1 10).trans rfl
theorem n_X7_total_32 : nth t_X7_total 32 = aAstI 33 := (y_X7_total_1 11).trans rfl
theorem n_X7_total_33 : nth t_X7_total 33 = aK (.int 0) 34 := (y_X7_total_1 12).trans rfl
theorem n_X7_total_34 : nth t_X7_total 34 = aStI 2 35 := (y_X7_total_1 13).trans rfl
theorem n_X7_total_35 : nth t_X7_total 35 = aLdI 2 36 := (y_X7_total_1 14).trans rfl
theorem y_X7_total_2 (n : Nat) : nth t_X7_total (n + 36) = nth t_X7_total_c2 n := (y_X7_total_1 (n + 15)).trans rfl
theorem n_X7_total_36 : nth t_X7_total 36 = aK (.int 4) 37 := (y_X7_total_2 0).trans rfl
theorem n_X7_total_37 : nth t_X7_total 37 = aIcLt 40 135 := (y_X7_total_2 1).trans rfl
theorem n_X7_total_40 : nth t_X7_total 40 = aLdA 0 41 := (y_X7_total_2 4).trans rfl
theorem n_X7_total_41 : nth t_X7_total 41 = aGetR 34 [6] 44 := (y_X7_total_2 5).trans rfl
theorem n_X7_total_44 : nth t_X7_total 44 = aLdI 2 45 := (y_X7_total_2 8).trans rfl
theorem n_X7_total_45 : nth t_X7_total 45 = aAldI 46 := (y_X7_total_2 9).trans rfl
theorem n_X7_total_46 : nth t_X7_total 46 = aIfLt 49 59 := (y_X7_total_2 10).trans rfl
theorem n_X7_total_49 : nth t_X7_total 49 = aLdA 0 50 := (y_X7_total_2 13).trans rfl
theorem n_X7_total_50 : nth t_X7_total 50 = aGetR 34 [6] 53 := (y_X7_total_2 14).trans rfl
theorem n_X7_total_53 : nth t_X7_total 53 = aLdI 2 54 := (y_X7_total_2 17).trans rfl
theorem n_X7_total_54 : nth t_X7_total 54 = aAldI 55 := (y_X7_total_2 18).trans rfl
theorem n_X7_total_55 : nth t_X7_total 55 = aU (fun x => -x) 56 := (y_X7_total_2 19).trans rfl
theorem y_X7_total_3 (n : Nat) : nth t_X7_total (n + 56) = nth t_X7_total_c3 n := (y_X7_total_2 (n + 20)).trans rfl
theorem n_X7_total_56 : nth t_X7_total 56 = aGoto 65 := (y_X7_total_3 0).trans rfl
theorem n_X7_total_59 : nth t_X7_total 59 = aLdA 0 60 := (y_X7_total_3 3).trans rfl
theorem n_X7_total_60 : nth t_X7_total 60 = aGetR 34 [6] 63 := (y_X7_total_3 4).trans rfl
theorem n_X7_total_63 : nth t_X7_total 63 = aLdI 2 64 := (y_X7_total_3 7).trans rfl
theorem n_X7_total_64 : nth t_X7_total 64 = aAldI 65 := (y_X7_total_3 8).trans rfl
theorem n_X7_total_65 : nth t_X7_total 65 = aStI 3 66 := (y_X7_total_3 9).trans rfl
theorem n_X7_total_66 : nth t_X7_total 66 = aK (.int 0) 67 := (y_X7_total_3 10).trans rfl
theorem n_X7_total_67 : nth t_X7_total 67 = aStI 4 69 := (y_X7_total_3 11).trans rfl
theorem n_X7_total_69 : nth t_X7_total 69 = aLdI 4 71 := (y_X7_total_3 13).trans rfl
theorem n_X7_total_71 : nth t_X7_total 71 = aK (.int 6) 73 := (y_X7_total_3 15).trans rfl
theorem n_X7_total_73 : nth t_X7_total 73 = aIcLt 76 106 := (y_X7_total_3 17).trans rfl
theorem n_X7_total_76 : nth t_X7_total 76 = aLdA 0 77 := (y_X7_total_3 20).trans rfl
theorem y_X7_total_4 (n : Nat) : nth t_X7_total (n + 77) = nth t_X7_total_c4 n := (y_X7_total_3 (n + 21)).trans rfl
theorem n_X7_total_77 : nth t_X7_total 77 = aGetR 24 [6] 80 := (y_X7_total_4 0).trans rfl
theorem n_X7_total_80 : nth t_X7_total 80 = aK (.int 68) 82 := (y_X7_total_4 3).trans rfl
theorem n_X7_total_82 : nth t_X7_total 82 = aK (.int 6) 84 := (y_X7_total_4 5).trans rfl
theorem n_X7_total_84 : nth t_X7_total 84 = aLdI 2 85 := (y_X7_total_4 7).trans rfl
theorem n_X7_total_85 : nth t_X7_total 85 = aB (fun x y => x * y) 86 := (y_X7_total_4 8).trans rfl
theorem n_X7_total_86 : nth t_X7_total 86 = aB (fun x y => x + y) 87 := (y_X7_total_4 9).trans rfl
theorem n_X7_total_87 : nth t_X7_total 87 = aLdI 4 89 := (y_X7_total_4 10).trans rfl
theorem n_X7_total_89 : nth t_X7_total 89 = aB (fun x y => x + y) 90 := (y_X7_total_4 12).trans rfl
theorem n_X7_total_90 : nth t_X7_total 90 = aLdI 3 91 := (y_X7_total_4 13).trans rfl
theorem n_X7_total_91 : nth t_X7_total 91 = aK (.int 10) 93 := (y_X7_total_4 14).trans rfl
theorem n_X7_total_93 : nth t_X7_total 93 = aRem 94 := (y_X7_total_4 16).trans rfl
theorem n_X7_total_94 : nth t_X7_total 94 = aAstI 95 := (y_X7_total_4 17).trans rfl
theorem y_X7_total_5 (n : Nat) : nth t_X7_total (n + 95) = nth t_X7_total_c5 n := (y_X7_total_4 (n + 18)).trans rfl
theorem n_X7_total_95 : nth t_X7_total 95 = aLdI 3 96 := (y_X7_total_5 0).trans rfl
theorem n_X7_total_96 : nth t_X7_total 96 = aK (.int 10) 98 := (y_X7_total_5 1).trans rfl
theorem n_X7_total_98 : nth t_X7_total 98 = aDiv 99 := (y_X7_total_5 3).trans rfl
theorem n_X7_total_99 : nth t_X7_total 99 = aStI 3 100 := (y_X7_total_5 4).trans rfl
theorem n_X7_total_100 : nth t_X7_total 100 = aInc 4 1 103 := (y_X7_total_5 5).trans rfl
theorem n_X7_total_103 : nth t_X7_total 103 = aGoto 69 := (y_X7_total_5 8).trans rfl
theorem n_X7_total_106 : nth t_X7_total 106 = aLdA 0 107 := (y_X7_total_5 11).trans rfl
theorem n_X7_total_107 : nth t_X7_total 107 = aGetR 24 [6] 110 := (y_X7_total_5 12).trans rfl
theorem n_X7_total_110 : nth t_X7_total 110 = aK (.int 92) 112 := (y_X7_total_5 15).trans rfl
theorem n_X7_total_112 : nth t_X7_total 112 = aLdI 2 113 := (y_X7_total_5 17).trans rfl
theorem n_X7_total_113 : nth t_X7_total 113 = aB (fun x y => x + y) 114 := (y_X7_total_5 18).trans rfl
theorem n_X7_total_114 : nth t_X7_total 114 = aLdA 0 115 := (y_X7_total_5 19).trans rfl
theorem y_X7_total_6 (n : Nat) : nth t_X7_total (n + 115) = nth t_X7_total_c6 n := (y_X7_total_5 (n + 20)).trans rfl
theorem n_X7_total_115 : nth t_X7_total 115 = aGetR 34 [6] 118 := (y_X7_total_6 0).trans rfl
theorem n_X7_total_118 : nth t_X7_total 118 = aLdI 2 119 := (y_X7_total_6 3).trans rfl
theorem n_X7_total_119 : nth t_X7_total 119 = aAldI 120 := (y_X7_total_6 4).trans rfl
theorem n_X7_total_120 : nth t_X7_total 120 = aIfLt 123 127 := (y_X7_total_6 5).trans rfl
theorem n_X7_total_123 : nth t_X7_total 123 = aK (.int 1) 124 := (y_X7_total_6 8).trans rfl
theorem n_X7_total_124 : nth t_X7_total 124 = aGoto 128 := (y_X7_total_6 9).trans rfl
theorem n_X7_total_127 : nth t_X7_total 127 = aK (.int (-1)) 128 := (y_X7_total_6 12).trans rfl
theorem n_X7_total_128 : nth t_X7_total 128 = aAstI 129 := (y_X7_total_6 13).trans rfl
theorem n_X7_total_129 : nth t_X7_total 129 = aInc 2 1 132 := (y_X7_total_6 14).trans rfl
theorem n_X7_total_132 : nth t_X7_total 132 = aGoto 35 := (y_X7_total_6 17).trans rfl
theorem n_X7_total_135 : nth t_X7_total 135 = aRetV := (y_X7_total_6 20).trans rfl
theorem n_X7_keepRun_0 : nth t_X7_keepRun 0 = aLdA 0 1 := rfl
theorem n_X7_keepRun_1 : nth t_X7_keepRun 1 = aGetR 30 [6] 4 := rfl
theorem n_X7_keepRun_4 : nth t_X7_keepRun 4 = aLdI 1 5 := rfl
theorem n_X7_keepRun_5 : nth t_X7_keepRun 5 = aLdA 0 6 := rfl
theorem n_X7_keepRun_6 : nth t_X7_keepRun 6 = aGetR 30 [6] 9 := rfl
theorem n_X7_keepRun_9 : nth t_X7_keepRun 9 = aK (.int 0) 10 := rfl
theorem n_X7_keepRun_10 : nth t_X7_keepRun 10 = aAldI 11 := rfl
theorem n_X7_keepRun_11 : nth t_X7_keepRun 11 = aAstI 12 := rfl
theorem n_X7_keepRun_12 : nth t_X7_keepRun 12 = aLdA 0 13 := rfl
theorem n_X7_keepRun_13 : nth t_X7_keepRun 13 = aGetR 31 [6] 16 := rfl
theorem n_X7_keepRun_16 : nth t_X7_keepRun 16 = aLdI 1 17 := rfl
theorem n_X7_keepRun_17 : nth t_X7_keepRun 17 = aLdA 0 18 := rfl
theorem y_X7_keepRun_1 (n : Nat) : nth t_X7_keepRun (n + 18) = nth t_X7_keepRun_c1 n := rfl
theorem n_X7_keepRun_18 : nth t_X7_keepRun 18 = aGetR 31 [6] 21 := (y_X7_keepRun_1 0).trans rfl
theorem n_X7_keepRun_21 : nth t_X7_keepRun 21 = aK (.int 0) 22 := (y_X7_keepRun_1 3).trans rfl
theorem n_X7_keepRun_22 : nth t_X7_keepRun 22 = aAldI 23 := (y_X7_keepRun_1 4).trans rfl
theorem n_X7_keepRun_23 : nth t_X7_keepRun 23 = aAstI 24 := (y_X7_keepRun_1 5).trans rfl
theorem n_X7_keepRun_24 : nth t_X7_keepRun 24 = aLdA 0 25 := (y_X7_keepRun_1 6).trans rfl
theorem n_X7_keepRun_25 : nth t_X7_keepRun 25 = aGetR 32 [6] 28 := (y_X7_keepRun_1 7).trans rfl
theorem n_X7_keepRun_28 : nth t_X7_keepRun 28 = aLdI 1 29 := (y_X7_keepRun_1 10).trans rfl
theorem n_X7_keepRun_29 : nth t_X7_keepRun 29 = aLdA 0 30 := (y_X7_keepRun_1 11).trans rfl
theorem n_X7_keepRun_30 : nth t_X7_keepRun 30 = aGetR 32 [6] 33 := (y_X7_keepRun_1 12).trans rfl
theorem n_X7_keepRun_33 : nth t_X7_keepRun 33 = aK (.int 0) 34 := (y_X7_keepRun_1 15).trans rfl
theorem n_X7_keepRun_34 : nth t_X7_keepRun 34 = aAldI 35 := (y_X7_keepRun_1 16).trans rfl
theorem n_X7_keepRun_35 : nth t_X7_keepRun 35 = aAstI 36 := (y_X7_keepRun_1 17).trans rfl
theorem y_X7_keepRun_2 (n : Nat) : nth t_X7_keepRun (n + 36) = nth t_X7_keepRun_c2 n := (y_X7_keepRun_1 (n + 18)).trans rfl
theorem n_X7_keepRun_36 : nth t_X7_keepRun 36 = aLdA 0 37 := (y_X7_keepRun_2 0).trans rfl
theorem n_X7_keepRun_37 : nth t_X7_keepRun 37 = aGetR 36 [6] 40 := (y_X7_keepRun_2 1).trans rfl
theorem n_X7_keepRun_40 : nth t_X7_keepRun 40 = aLdI 1 41 := (y_X7_keepRun_2 4).trans rfl
theorem n_X7_keepRun_41 : nth t_X7_keepRun 41 = aLdA 0 42 := (y_X7_keepRun_2 5).trans rfl
theorem n_X7_keepRun_42 : nth t_X7_keepRun 42 = aGetR 36 [6] 45 := (y_X7_keepRun_2 6).trans rfl
theorem n_X7_keepRun_45 : nth t_X7_keepRun 45 = aK (.int 0) 46 := (y_X7_keepRun_2 9).trans rfl
theorem n_X7_keepRun_46 : nth t_X7_keepRun 46 = aAldI 47 := (y_X7_keepRun_2 10).trans rfl
theorem n_X7_keepRun_47 : nth t_X7_keepRun 47 = aAstI 48 := (y_X7_keepRun_2 11).trans rfl
theorem n_X7_keepRun_48 : nth t_X7_keepRun 48 = aLdA 0 49 := (y_X7_keepRun_2 12).trans rfl
theorem n_X7_keepRun_49 : nth t_X7_keepRun 49 = aGetR 37 [6] 52 := (y_X7_keepRun_2 13).trans rfl
theorem n_X7_keepRun_52 : nth t_X7_keepRun 52 = aLdI 1 53 := (y_X7_keepRun_2 16).trans rfl
theorem n_X7_keepRun_53 : nth t_X7_keepRun 53 = aLdA 0 54 := (y_X7_keepRun_2 17).trans rfl
theorem y_X7_keepRun_3 (n : Nat) : nth t_X7_keepRun (n + 54) = nth t_X7_keepRun_c3 n := (y_X7_keepRun_2 (n + 18)).trans rfl
theorem n_X7_keepRun_54 : nth t_X7_keepRun 54 = aGetR 37 [6] 57 := (y_X7_keepRun_3 0).trans rfl
theorem n_X7_keepRun_57 : nth t_X7_keepRun 57 = aK (.int 0) 58 := (y_X7_keepRun_3 3).trans rfl
theorem n_X7_keepRun_58 : nth t_X7_keepRun 58 = aAldI 59 := (y_X7_keepRun_3 4).trans rfl
theorem n_X7_keepRun_59 : nth t_X7_keepRun 59 = aAstI 60 := (y_X7_keepRun_3 5).trans rfl
theorem n_X7_keepRun_60 : nth t_X7_keepRun 60 = aLdA 0 61 := (y_X7_keepRun_3 6).trans rfl
theorem n_X7_keepRun_61 : nth t_X7_keepRun 61 = aGetR 38 [6] 64 := (y_X7_keepRun_3 7).trans rfl
theorem n_X7_keepRun_64 : nth t_X7_keepRun 64 = aLdI 1 65 := (y_X7_keepRun_3 10).trans rfl
theorem n_X7_keepRun_65 : nth t_X7_keepRun 65 = aLdA 0 66 := (y_X7_keepRun_3 11).trans rfl
theorem n_X7_keepRun_66 : nth t_X7_keepRun 66 = aGetR 38 [6] 69 := (y_X7_keepRun_3 12).trans rfl
theorem n_X7_keepRun_69 : nth t_X7_keepRun 69 = aK (.int 0) 70 := (y_X7_keepRun_3 15).trans rfl
theorem n_X7_keepRun_70 : nth t_X7_keepRun 70 = aAldI 71 := (y_X7_keepRun_3 16).trans rfl
theorem n_X7_keepRun_71 : nth t_X7_keepRun 71 = aAstI 72 := (y_X7_keepRun_3 17).trans rfl
theorem y_X7_keepRun_4 (n : Nat) : nth t_X7_keepRun (n + 72) = nth t_X7_keepRun_c4 n := (y_X7_keepRun_3 (n + 18)).trans rfl
theorem n_X7_keepRun_72 : nth t_X7_keepRun 72 = aLdA 0 73 := (y_X7_keepRun_4 0).trans rfl
theorem n_X7_keepRun_73 : nth t_X7_keepRun 73 = aGetR 39 [6] 76 := (y_X7_keepRun_4 1).trans rfl
theorem n_X7_keepRun_76 : nth t_X7_keepRun 76 = aLdI 1 77 := (y_X7_keepRun_4 4).trans rfl
theorem n_X7_keepRun_77 : nth t_X7_keepRun 77 = aLdA 0 78 := (y_X7_keepRun_4 5).trans rfl
theorem n_X7_keepRun_78 : nth t_X7_keepRun 78 = aGetR 39 [6] 81 := (y_X7_keepRun_4 6).trans rfl
theorem n_X7_keepRun_81 : nth t_X7_keepRun 81 = aK (.int 0) 82 := (y_X7_keepRun_4 9).trans rfl
theorem n_X7_keepRun_82 : nth t_X7_keepRun 82 = aAldI 83 := (y_X7_keepRun_4 10).trans rfl
theorem n_X7_keepRun_83 : nth t_X7_keepRun 83 = aAstI 84 := (y_X7_keepRun_4 11).trans rfl
theorem n_X7_keepRun_84 : nth t_X7_keepRun 84 = aLdA 0 85 := (y_X7_keepRun_4 12).trans rfl
theorem n_X7_keepRun_85 : nth t_X7_keepRun 85 = aGetR 40 [6] 88 := (y_X7_keepRun_4 13).trans rfl
theorem n_X7_keepRun_88 : nth t_X7_keepRun 88 = aLdI 1 89 := (y_X7_keepRun_4 16).trans rfl
theorem n_X7_keepRun_89 : nth t_X7_keepRun 89 = aLdA 0 90 := (y_X7_keepRun_4 17).trans rfl
theorem y_X7_keepRun_5 (n : Nat) : nth t_X7_keepRun (n + 90) = nth t_X7_keepRun_c5 n := (y_X7_keepRun_4 (n + 18)).trans rfl
theorem n_X7_keepRun_90 : nth t_X7_keepRun 90 = aGetR 40 [6] 93 := (y_X7_keepRun_5 0).trans rfl
theorem n_X7_keepRun_93 : nth t_X7_keepRun 93 = aK (.int 0) 94 := (y_X7_keepRun_5 3).trans rfl
theorem n_X7_keepRun_94 : nth t_X7_keepRun 94 = aAldI 95 := (y_X7_keepRun_5 4).trans rfl
theorem n_X7_keepRun_95 : nth t_X7_keepRun 95 = aAstI 96 := (y_X7_keepRun_5 5).trans rfl
theorem n_X7_keepRun_96 : nth t_X7_keepRun 96 = aK (.int 0) 97 := (y_X7_keepRun_5 6).trans rfl
theorem n_X7_keepRun_97 : nth t_X7_keepRun 97 = aStI 2 98 := (y_X7_keepRun_5 7).trans rfl
theorem n_X7_keepRun_98 : nth t_X7_keepRun 98 = aLdI 2 99 := (y_X7_keepRun_5 8).trans rfl
theorem n_X7_keepRun_99 : nth t_X7_keepRun 99 = aK (.int 720) 102 := (y_X7_keepRun_5 9).trans rfl
theorem n_X7_keepRun_102 : nth t_X7_keepRun 102 = aIcLt 105 129 := (y_X7_keepRun_5 12).trans rfl
theorem n_X7_keepRun_105 : nth t_X7_keepRun 105 = aLdA 0 106 := (y_X7_keepRun_5 15).trans rfl
theorem n_X7_keepRun_106 : nth t_X7_keepRun 106 = aGetR 33 [6] 109 := (y_X7_keepRun_5 16).trans rfl
theorem n_X7_keepRun_109 : nth t_X7_keepRun 109 = aK (.int 720) 112 := (y_X7_keepRun_5 19).trans rfl
theorem y_X7_keepRun_6 (n : Nat) : nth t_X7_keepRun (n + 112) = nth t_X7_keepRun_c6 n := (y_X7_keepRun_5 (n + 22)).trans rfl
theorem n_X7_keepRun_112 : nth t_X7_keepRun 112 = aLdI 1 113 := (y_X7_keepRun_6 0).trans rfl
theorem n_X7_keepRun_113 : nth t_X7_keepRun 113 = aB (fun x y => x * y) 114 := (y_X7_keepRun_6 1).trans rfl
theorem n_X7_keepRun_114 : nth t_X7_keepRun 114 = aLdI 2 115 := (y_X7_keepRun_6 2).trans rfl
theorem n_X7_keepRun_115 : nth t_X7_keepRun 115 = aB (fun x y => x + y) 116 := (y_X7_keepRun_6 3).trans rfl
theorem n_X7_keepRun_116 : nth t_X7_keepRun 116 = aLdA 0 117 := (y_X7_keepRun_6 4).trans rfl
theorem n_X7_keepRun_117 : nth t_X7_keepRun 117 = aGetR 33 [6] 120 := (y_X7_keepRun_6 5).trans rfl
theorem n_X7_keepRun_120 : nth t_X7_keepRun 120 = aLdI 2 121 := (y_X7_keepRun_6 8).trans rfl
theorem n_X7_keepRun_121 : nth t_X7_keepRun 121 = aAldI 122 := (y_X7_keepRun_6 9).trans rfl
theorem n_X7_keepRun_122 : nth t_X7_keepRun 122 = aAstI 123 := (y_X7_keepRun_6 10).trans rfl
theorem n_X7_keepRun_123 : nth t_X7_keepRun 123 = aInc 2 1 126 := (y_X7_keepRun_6 11).trans rfl
theorem n_X7_keepRun_126 : nth t_X7_keepRun 126 = aGoto 98 := (y_X7_keepRun_6 14).trans rfl
theorem n_X7_keepRun_129 : nth t_X7_keepRun 129 = aK (.int 0) 130 := (y_X7_keepRun_6 17).trans rfl
theorem y_X7_keepRun_7 (n : Nat) : nth t_X7_keepRun (n + 130) = nth t_X7_keepRun_c7 n := (y_X7_keepRun_6 (n + 18)).trans rfl
theorem n_X7_keepRun_130 : nth t_X7_keepRun 130 = aStI 2 131 := (y_X7_keepRun_7 0).trans rfl
theorem n_X7_keepRun_131 : nth t_X7_keepRun 131 = aLdI 2 132 := (y_X7_keepRun_7 1).trans rfl
theorem n_X7_keepRun_132 : nth t_X7_keepRun 132 = aK (.int 4) 133 := (y_X7_keepRun_7 2).trans rfl
theorem n_X7_keepRun_133 : nth t_X7_keepRun 133 = aIcLt 136 158 := (y_X7_keepRun_7 3).trans rfl
theorem n_X7_keepRun_136 : nth t_X7_keepRun 136 = aLdA 0 137 := (y_X7_keepRun_7 6).trans rfl
theorem n_X7_keepRun_137 : nth t_X7_keepRun 137 = aGetR 34 [6] 140 := (y_X7_keepRun_7 7).trans rfl
theorem n_X7_keepRun_140 : nth t_X7_keepRun 140 = aK (.int 4) 141 := (y_X7_keepRun_7 10).trans rfl
theorem n_X7_keepRun_141 : nth t_X7_keepRun 141 = aLdI 1 142 := (y_X7_keepRun_7 11).trans rfl
theorem n_X7_keepRun_142 : nth t_X7_keepRun 142 = aB (fun x y => x * y) 143 := (y_X7_keepRun_7 12).trans rfl
theorem n_X7_keepRun_143 : nth t_X7_keepRun 143 = aLdI 2 144 := (y_X7_keepRun_7 13).trans rfl
theorem n_X7_keepRun_144 : nth t_X7_keepRun 144 = aB (fun x y => x + y) 145 := (y_X7_keepRun_7 14).trans rfl
theorem n_X7_keepRun_145 : nth t_X7_keepRun 145 = aLdA 0 146 := (y_X7_keepRun_7 15).trans rfl
theorem y_X7_keepRun_8 (n : Nat) : nth t_X7_keepRun (n + 146) = nth t_X7_keepRun_c8 n := (y_X7_keepRun_7 (n + 16)).trans rfl
theorem n_X7_keepRun_146 : nth t_X7_keepRun 146 = aGetR 34 [6] 149 := (y_X7_keepRun_8 0).trans rfl
theorem n_X7_keepRun_149 : nth t_X7_keepRun 149 = aLdI 2 150 := (y_X7_keepRun_8 3).trans rfl
theorem n_X7_keepRun_150 : nth t_X7_keepRun 150 = aAldI 151 := (y_X7_keepRun_8 4).trans rfl
theorem n_X7_keepRun_151 : nth t_X7_keepRun 151 = aAstI 152 := (y_X7_keepRun_8 5).trans rfl
theorem n_X7_keepRun_152 : nth t_X7_keepRun 152 = aInc 2 1 155 := (y_X7_keepRun_8 6).trans rfl
theorem n_X7_keepRun_155 : nth t_X7_keepRun 155 = aGoto 131 := (y_X7_keepRun_8 9).trans rfl
theorem n_X7_keepRun_158 : nth t_X7_keepRun 158 = aK (.int 0) 159 := (y_X7_keepRun_8 12).trans rfl
theorem n_X7_keepRun_159 : nth t_X7_keepRun 159 = aStI 2 160 := (y_X7_keepRun_8 13).trans rfl
theorem n_X7_keepRun_160 : nth t_X7_keepRun 160 = aLdI 2 161 := (y_X7_keepRun_8 14).trans rfl
theorem n_X7_keepRun_161 : nth t_X7_keepRun 161 = aK (.int 800) 164 := (y_X7_keepRun_8 15).trans rfl
theorem n_X7_keepRun_164 : nth t_X7_keepRun 164 = aIcLt 167 191 := (y_X7_keepRun_8 18).trans rfl
theorem n_X7_keepRun_167 : nth t_X7_keepRun 167 = aLdA 0 168 := (y_X7_keepRun_8 21).trans rfl
theorem y_X7_keepRun_9 (n : Nat) : nth t_X7_keepRun (n + 168) = nth t_X7_keepRun_c9 n := (y_X7_keepRun_8 (n + 22)).trans rfl
theorem n_X7_keepRun_168 : nth t_X7_keepRun 168 = aGetR 35 [6] 171 := (y_X7_keepRun_9 0).trans rfl
theorem n_X7_keepRun_171 : nth t_X7_keepRun 171 = aK (.int 800) 174 := (y_X7_keepRun_9 3).trans rfl
theorem n_X7_keepRun_174 : nth t_X7_keepRun 174 = aLdI 1 175 := (y_X7_keepRun_9 6).trans rfl
theorem n_X7_keepRun_175 : nth t_X7_keepRun 175 = aB (fun x y => x * y) 176 := (y_X7_keepRun_9 7).trans rfl
theorem n_X7_keepRun_176 : nth t_X7_keepRun 176 = aLdI 2 177 := (y_X7_keepRun_9 8).trans rfl
theorem n_X7_keepRun_177 : nth t_X7_keepRun 177 = aB (fun x y => x + y) 178 := (y_X7_keepRun_9 9).trans rfl
theorem n_X7_keepRun_178 : nth t_X7_keepRun 178 = aLdA 0 179 := (y_X7_keepRun_9 10).trans rfl
theorem n_X7_keepRun_179 : nth t_X7_keepRun 179 = aGetR 35 [6] 182 := (y_X7_keepRun_9 11).trans rfl
theorem n_X7_keepRun_182 : nth t_X7_keepRun 182 = aLdI 2 183 := (y_X7_keepRun_9 14).trans rfl
theorem n_X7_keepRun_183 : nth t_X7_keepRun 183 = aAldI 184 := (y_X7_keepRun_9 15).trans rfl
theorem n_X7_keepRun_184 : nth t_X7_keepRun 184 = aAstI 185 := (y_X7_keepRun_9 16).trans rfl
theorem n_X7_keepRun_185 : nth t_X7_keepRun 185 = aInc 2 1 188 := (y_X7_keepRun_9 17).trans rfl
theorem y_X7_keepRun_10 (n : Nat) : nth t_X7_keepRun (n + 188) = nth t_X7_keepRun_c10 n := (y_X7_keepRun_9 (n + 20)).trans rfl
theorem n_X7_keepRun_188 : nth t_X7_keepRun 188 = aGoto 160 := (y_X7_keepRun_10 0).trans rfl
theorem n_X7_keepRun_191 : nth t_X7_keepRun 191 = aRetV := (y_X7_keepRun_10 3).trans rfl
theorem n_X7_ran_0 : nth t_X7_ran 0 = aLdA 0 1 := rfl
theorem n_X7_ran_1 : nth t_X7_ran 1 = aK (.int 0) 2 := rfl
theorem n_X7_ran_2 : nth t_X7_ran 2 = aPutI 0 [6] 5 := rfl
theorem n_X7_ran_5 : nth t_X7_ran 5 = aLdA 0 6 := rfl
theorem n_X7_ran_6 : nth t_X7_ran 6 = aGetI 44 [6] 9 := rfl
theorem n_X7_ran_9 : nth t_X7_ran 9 = aIfEq 12 14 := rfl
theorem n_X7_ran_12 : nth t_X7_ran 12 = aK (.int (-1)) 13 := rfl
theorem n_X7_ran_13 : nth t_X7_ran 13 = aRetI := rfl
theorem n_X7_ran_14 : nth t_X7_ran 14 = aLdI 1 15 := rfl
theorem n_X7_ran_15 : nth t_X7_ran 15 = aSw 0 [56, 63, 70, 77, 84, 91, 98] 105 := rfl
theorem n_X7_ran_56 : nth t_X7_ran 56 = aLdA 0 57 := rfl
theorem n_X7_ran_57 : nth t_X7_ran 57 = aGetR 36 [6] 60 := rfl
theorem y_X7_ran_1 (n : Nat) : nth t_X7_ran (n + 60) = nth t_X7_ran_c1 n := rfl
theorem n_X7_ran_60 : nth t_X7_ran 60 = aK (.int 1) 61 := (y_X7_ran_1 0).trans rfl
theorem n_X7_ran_61 : nth t_X7_ran 61 = aAldI 62 := (y_X7_ran_1 1).trans rfl
theorem n_X7_ran_62 : nth t_X7_ran 62 = aRetI := (y_X7_ran_1 2).trans rfl
theorem n_X7_ran_63 : nth t_X7_ran 63 = aLdA 0 64 := (y_X7_ran_1 3).trans rfl
theorem n_X7_ran_64 : nth t_X7_ran 64 = aGetR 37 [6] 67 := (y_X7_ran_1 4).trans rfl
theorem n_X7_ran_67 : nth t_X7_ran 67 = aK (.int 1) 68 := (y_X7_ran_1 7).trans rfl
theorem n_X7_ran_68 : nth t_X7_ran 68 = aAldI 69 := (y_X7_ran_1 8).trans rfl
theorem n_X7_ran_69 : nth t_X7_ran 69 = aRetI := (y_X7_ran_1 9).trans rfl
theorem n_X7_ran_70 : nth t_X7_ran 70 = aLdA 0 71 := (y_X7_ran_1 10).trans rfl
theorem n_X7_ran_71 : nth t_X7_ran 71 = aGetR 31 [6] 74 := (y_X7_ran_1 11).trans rfl
theorem n_X7_ran_74 : nth t_X7_ran 74 = aK (.int 1) 75 := (y_X7_ran_1 14).trans rfl
theorem n_X7_ran_75 : nth t_X7_ran 75 = aAldI 76 := (y_X7_ran_1 15).trans rfl
theorem y_X7_ran_2 (n : Nat) : nth t_X7_ran (n + 76) = nth t_X7_ran_c2 n := (y_X7_ran_1 (n + 16)).trans rfl
theorem n_X7_ran_76 : nth t_X7_ran 76 = aRetI := (y_X7_ran_2 0).trans rfl
theorem n_X7_ran_77 : nth t_X7_ran 77 = aLdA 0 78 := (y_X7_ran_2 1).trans rfl
theorem n_X7_ran_78 : nth t_X7_ran 78 = aGetR 32 [6] 81 := (y_X7_ran_2 2).trans rfl
theorem n_X7_ran_81 : nth t_X7_ran 81 = aK (.int 1) 82 := (y_X7_ran_2 5).trans rfl
theorem n_X7_ran_82 : nth t_X7_ran 82 = aAldI 83 := (y_X7_ran_2 6).trans rfl
theorem n_X7_ran_83 : nth t_X7_ran 83 = aRetI := (y_X7_ran_2 7).trans rfl
theorem n_X7_ran_84 : nth t_X7_ran 84 = aLdA 0 85 := (y_X7_ran_2 8).trans rfl
theorem n_X7_ran_85 : nth t_X7_ran 85 = aGetR 38 [6] 88 := (y_X7_ran_2 9).trans rfl
theorem n_X7_ran_88 : nth t_X7_ran 88 = aK (.int 1) 89 := (y_X7_ran_2 12).trans rfl
theorem n_X7_ran_89 : nth t_X7_ran 89 = aAldI 90 := (y_X7_ran_2 13).trans rfl
theorem n_X7_ran_90 : nth t_X7_ran 90 = aRetI := (y_X7_ran_2 14).trans rfl
theorem n_X7_ran_91 : nth t_X7_ran 91 = aLdA 0 92 := (y_X7_ran_2 15).trans rfl
theorem y_X7_ran_3 (n : Nat) : nth t_X7_ran (n + 92) = nth t_X7_ran_c3 n := (y_X7_ran_2 (n + 16)).trans rfl
theorem n_X7_ran_92 : nth t_X7_ran 92 = aGetR 39 [6] 95 := (y_X7_ran_3 0).trans rfl
theorem n_X7_ran_95 : nth t_X7_ran 95 = aK (.int 1) 96 := (y_X7_ran_3 3).trans rfl
theorem n_X7_ran_96 : nth t_X7_ran 96 = aAldI 97 := (y_X7_ran_3 4).trans rfl
theorem n_X7_ran_97 : nth t_X7_ran 97 = aRetI := (y_X7_ran_3 5).trans rfl
theorem n_X7_ran_98 : nth t_X7_ran 98 = aLdA 0 99 := (y_X7_ran_3 6).trans rfl
theorem n_X7_ran_99 : nth t_X7_ran 99 = aGetR 40 [6] 102 := (y_X7_ran_3 7).trans rfl
theorem n_X7_ran_102 : nth t_X7_ran 102 = aK (.int 1) 103 := (y_X7_ran_3 10).trans rfl
theorem n_X7_ran_103 : nth t_X7_ran 103 = aAldI 104 := (y_X7_ran_3 11).trans rfl
theorem n_X7_ran_104 : nth t_X7_ran 104 = aRetI := (y_X7_ran_3 12).trans rfl
theorem n_X7_ran_105 : nth t_X7_ran 105 = aK (.int (-1)) 106 := (y_X7_ran_3 13).trans rfl
theorem n_X7_ran_106 : nth t_X7_ran 106 = aRetI := (y_X7_ran_3 14).trans rfl
theorem n_X7_bar_0 : nth t_X7_bar 0 = aLdA 0 1 := rfl
theorem n_X7_bar_1 : nth t_X7_bar 1 = aLdA 0 2 := rfl
theorem n_X7_bar_2 : nth t_X7_bar 2 = aGetI 44 [6] 5 := rfl
theorem n_X7_bar_5 : nth t_X7_bar 5 = aIfEq 34 8 := rfl
theorem n_X7_bar_8 : nth t_X7_bar 8 = aLdI 1 9 := rfl
theorem n_X7_bar_9 : nth t_X7_bar 9 = aK (.int 0) 10 := rfl
theorem n_X7_bar_10 : nth t_X7_bar 10 = aLdA 0 11 := rfl
theorem n_X7_bar_11 : nth t_X7_bar 11 = aGetR 31 [6] 14 := rfl
theorem n_X7_bar_14 : nth t_X7_bar 14 = aK (.int 1) 15 := rfl
theorem n_X7_bar_15 : nth t_X7_bar 15 = aAldI 16 := rfl
theorem n_X7_bar_16 : nth t_X7_bar 16 = aK (.int 1) 17 := rfl
theorem n_X7_bar_17 : nth t_X7_bar 17 = aB (fun x y => x - y) 18 := rfl
theorem y_X7_bar_1 (n : Nat) : nth t_X7_bar (n + 18) = nth t_X7_bar_c1 n := rfl
theorem n_X7_bar_18 : nth t_X7_bar 18 = aCalS 154 3 21 none := (y_X7_bar_1 0).trans rfl
theorem n_X7_bar_21 : nth t_X7_bar 21 = aIfEq 34 24 := (y_X7_bar_1 3).trans rfl
theorem n_X7_bar_24 : nth t_X7_bar 24 = aLdI 2 25 := (y_X7_bar_1 6).trans rfl
theorem n_X7_bar_25 : nth t_X7_bar 25 = aK (.int 1) 26 := (y_X7_bar_1 7).trans rfl
theorem n_X7_bar_26 : nth t_X7_bar 26 = aK (.int 12) 28 := (y_X7_bar_1 8).trans rfl
theorem n_X7_bar_28 : nth t_X7_bar 28 = aCalS 154 3 31 none := (y_X7_bar_1 10).trans rfl
theorem n_X7_bar_31 : nth t_X7_bar 31 = aIfEq 34 38 := (y_X7_bar_1 13).trans rfl
theorem n_X7_bar_34 : nth t_X7_bar 34 = aK (.int 1) 35 := (y_X7_bar_1 16).trans rfl
theorem n_X7_bar_35 : nth t_X7_bar 35 = aGoto 39 := (y_X7_bar_1 17).trans rfl
theorem n_X7_bar_38 : nth t_X7_bar 38 = aK (.int 0) 39 := (y_X7_bar_1 20).trans rfl
theorem n_X7_bar_39 : nth t_X7_bar 39 = aCalV 158 1 42 [6] none := (y_X7_bar_1 21).trans rfl
theorem n_X7_bar_42 : nth t_X7_bar 42 = aIfEq 47 45 := (y_X7_bar_1 24).trans rfl
theorem y_X7_bar_2 (n : Nat) : nth t_X7_bar (n + 45) = nth t_X7_bar_c2 n := (y_X7_bar_1 (n + 27)).trans rfl
theorem n_X7_bar_45 : nth t_X7_bar 45 = aK (.int 0) 46 := (y_X7_bar_2 0).trans rfl
theorem n_X7_bar_46 : nth t_X7_bar 46 = aRetI := (y_X7_bar_2 1).trans rfl
theorem n_X7_bar_47 : nth t_X7_bar 47 = aLdA 0 48 := (y_X7_bar_2 2).trans rfl
theorem n_X7_bar_48 : nth t_X7_bar 48 = aGetR 33 [6] 51 := (y_X7_bar_2 3).trans rfl
theorem n_X7_bar_51 : nth t_X7_bar 51 = aK (.int 720) 54 := (y_X7_bar_2 6).trans rfl
theorem n_X7_bar_54 : nth t_X7_bar 54 = aK (.int 12) 56 := (y_X7_bar_2 9).trans rfl
theorem n_X7_bar_56 : nth t_X7_bar 56 = aLdI 1 57 := (y_X7_bar_2 11).trans rfl
theorem n_X7_bar_57 : nth t_X7_bar 57 = aB (fun x y => x * y) 58 := (y_X7_bar_2 12).trans rfl
theorem n_X7_bar_58 : nth t_X7_bar 58 = aB (fun x y => x + y) 59 := (y_X7_bar_2 13).trans rfl
theorem n_X7_bar_59 : nth t_X7_bar 59 = aLdI 2 60 := (y_X7_bar_2 14).trans rfl
theorem n_X7_bar_60 : nth t_X7_bar 60 = aB (fun x y => x + y) 61 := (y_X7_bar_2 15).trans rfl
theorem n_X7_bar_61 : nth t_X7_bar 61 = aK (.int 1) 62 := (y_X7_bar_2 16).trans rfl
theorem y_X7_bar_3 (n : Nat) : nth t_X7_bar (n + 62) = nth t_X7_bar_c3 n := (y_X7_bar_2 (n + 17)).trans rfl
theorem n_X7_bar_62 : nth t_X7_bar 62 = aB (fun x y => x - y) 63 := (y_X7_bar_3 0).trans rfl
theorem n_X7_bar_63 : nth t_X7_bar 63 = aAldI 64 := (y_X7_bar_3 1).trans rfl
theorem n_X7_bar_64 : nth t_X7_bar 64 = aRetI := (y_X7_bar_3 2).trans rfl
theorem n_X7_wheel_0 : nth t_X7_wheel 0 = aLdA 0 1 := rfl
theorem n_X7_wheel_1 : nth t_X7_wheel 1 = aLdA 0 2 := rfl
theorem n_X7_wheel_2 : nth t_X7_wheel 2 = aGetI 44 [6] 5 := rfl
theorem n_X7_wheel_5 : nth t_X7_wheel 5 = aIfEq 17 8 := rfl
theorem n_X7_wheel_8 : nth t_X7_wheel 8 = aLdI 1 9 := rfl
theorem n_X7_wheel_9 : nth t_X7_wheel 9 = aK (.int 1) 10 := rfl
theorem n_X7_wheel_10 : nth t_X7_wheel 10 = aK (.int 4) 11 := rfl
theorem n_X7_wheel_11 : nth t_X7_wheel 11 = aCalS 154 3 14 none := rfl
theorem n_X7_wheel_14 : nth t_X7_wheel 14 = aIfEq 17 21 := rfl
theorem n_X7_wheel_17 : nth t_X7_wheel 17 = aK (.int 1) 18 := rfl
theorem n_X7_wheel_18 : nth t_X7_wheel 18 = aGoto 22 := rfl
theorem n_X7_wheel_21 : nth t_X7_wheel 21 = aK (.int 0) 22 := rfl
theorem y_X7_wheel_1 (n : Nat) : nth t_X7_wheel (n + 22) = nth t_X7_wheel_c1 n := rfl
theorem n_X7_wheel_22 : nth t_X7_wheel 22 = aCalV 158 1 25 [6] none := (y_X7_wheel_1 0).trans rfl
theorem n_X7_wheel_25 : nth t_X7_wheel 25 = aIfEq 30 28 := (y_X7_wheel_1 3).trans rfl
theorem n_X7_wheel_28 : nth t_X7_wheel 28 = aK (.int 0) 29 := (y_X7_wheel_1 6).trans rfl
theorem n_X7_wheel_29 : nth t_X7_wheel 29 = aRetI := (y_X7_wheel_1 7).trans rfl
theorem n_X7_wheel_30 : nth t_X7_wheel 30 = aLdA 0 31 := (y_X7_wheel_1 8).trans rfl
theorem n_X7_wheel_31 : nth t_X7_wheel 31 = aGetR 34 [6] 34 := (y_X7_wheel_1 9).trans rfl
theorem n_X7_wheel_34 : nth t_X7_wheel 34 = aK (.int 4) 35 := (y_X7_wheel_1 12).trans rfl
theorem n_X7_wheel_35 : nth t_X7_wheel 35 = aLdI 1 36 := (y_X7_wheel_1 13).trans rfl
theorem n_X7_wheel_36 : nth t_X7_wheel 36 = aB (fun x y => x + y) 37 := (y_X7_wheel_1 14).trans rfl
theorem n_X7_wheel_37 : nth t_X7_wheel 37 = aK (.int 1) 38 := (y_X7_wheel_1 15).trans rfl
theorem n_X7_wheel_38 : nth t_X7_wheel 38 = aB (fun x y => x - y) 39 := (y_X7_wheel_1 16).trans rfl
theorem n_X7_wheel_39 : nth t_X7_wheel 39 = aAldI 40 := (y_X7_wheel_1 17).trans rfl
theorem y_X7_wheel_2 (n : Nat) : nth t_X7_wheel (n + 40) = nth t_X7_wheel_c2 n := (y_X7_wheel_1 (n + 18)).trans rfl
theorem n_X7_wheel_40 : nth t_X7_wheel 40 = aRetI := (y_X7_wheel_2 0).trans rfl
theorem n_X7_pass_0 : nth t_X7_pass 0 = aLdA 0 1 := rfl
theorem n_X7_pass_1 : nth t_X7_pass 1 = aK (.int 0) 2 := rfl
theorem n_X7_pass_2 : nth t_X7_pass 2 = aPutI 0 [6] 5 := rfl
theorem n_X7_pass_5 : nth t_X7_pass 5 = aLdI 1 6 := rfl
theorem n_X7_pass_6 : nth t_X7_pass 6 = aCalS 153 1 9 none := rfl
theorem n_X7_pass_9 : nth t_X7_pass 9 = aIfEq 22 12 := rfl
theorem n_X7_pass_12 : nth t_X7_pass 12 = aLdI 2 13 := rfl
theorem n_X7_pass_13 : nth t_X7_pass 13 = aK (.int 1) 14 := rfl
theorem n_X7_pass_14 : nth t_X7_pass 14 = aK (.int 20) 16 := rfl
theorem n_X7_pass_16 : nth t_X7_pass 16 = aCalS 154 3 19 none := rfl
theorem n_X7_pass_19 : nth t_X7_pass 19 = aIfEq 22 24 := rfl
theorem n_X7_pass_22 : nth t_X7_pass 22 = aK (.int 0) 23 := rfl
theorem y_X7_pass_1 (n : Nat) : nth t_X7_pass (n + 23) = nth t_X7_pass_c1 n := rfl
theorem n_X7_pass_23 : nth t_X7_pass 23 = aRetZ := (y_X7_pass_1 0).trans rfl
theorem n_X7_pass_24 : nth t_X7_pass 24 = aK (.int 0) 25 := (y_X7_pass_1 1).trans rfl
theorem n_X7_pass_25 : nth t_X7_pass 25 = aStI 3 26 := (y_X7_pass_1 2).trans rfl
theorem n_X7_pass_26 : nth t_X7_pass 26 = aLdI 3 27 := (y_X7_pass_1 3).trans rfl
theorem n_X7_pass_27 : nth t_X7_pass 27 = aLdA 0 28 := (y_X7_pass_1 4).trans rfl
theorem n_X7_pass_28 : nth t_X7_pass 28 = aGetR 6 [6] 31 := (y_X7_pass_1 5).trans rfl
theorem n_X7_pass_31 : nth t_X7_pass 31 = aLdI 1 32 := (y_X7_pass_1 8).trans rfl
theorem n_X7_pass_32 : nth t_X7_pass 32 = aAldI 33 := (y_X7_pass_1 9).trans rfl
theorem n_X7_pass_33 : nth t_X7_pass 33 = aIcLt 36 49 := (y_X7_pass_1 10).trans rfl
theorem n_X7_pass_36 : nth t_X7_pass 36 = aLdA 0 37 := (y_X7_pass_1 13).trans rfl
theorem n_X7_pass_37 : nth t_X7_pass 37 = aGetR 45 [6] 40 := (y_X7_pass_1 14).trans rfl
theorem n_X7_pass_40 : nth t_X7_pass 40 = aLdI 3 41 := (y_X7_pass_1 17).trans rfl
theorem y_X7_pass_2 (n : Nat) : nth t_X7_pass (n + 41) = nth t_X7_pass_c2 n := (y_X7_pass_1 (n + 18)).trans rfl
theorem n_X7_pass_41 : nth t_X7_pass 41 = aLdI 3 42 := (y_X7_pass_2 0).trans rfl
theorem n_X7_pass_42 : nth t_X7_pass 42 = aAstI 43 := (y_X7_pass_2 1).trans rfl
theorem n_X7_pass_43 : nth t_X7_pass 43 = aInc 3 1 46 := (y_X7_pass_2 2).trans rfl
theorem n_X7_pass_46 : nth t_X7_pass 46 = aGoto 26 := (y_X7_pass_2 5).trans rfl
theorem n_X7_pass_49 : nth t_X7_pass 49 = aLdA 0 50 := (y_X7_pass_2 8).trans rfl
theorem n_X7_pass_50 : nth t_X7_pass 50 = aLdI 1 51 := (y_X7_pass_2 9).trans rfl
theorem n_X7_pass_51 : nth t_X7_pass 51 = aLdI 2 52 := (y_X7_pass_2 10).trans rfl
theorem n_X7_pass_52 : nth t_X7_pass 52 = aK (.int 1) 53 := (y_X7_pass_2 11).trans rfl
theorem n_X7_pass_53 : nth t_X7_pass 53 = aB (fun x y => x - y) 54 := (y_X7_pass_2 12).trans rfl
theorem n_X7_pass_54 : nth t_X7_pass 54 = aCalV 194 2 57 [6] none := (y_X7_pass_2 13).trans rfl
theorem n_X7_pass_57 : nth t_X7_pass 57 = aK (.int 0) 58 := (y_X7_pass_2 16).trans rfl
theorem n_X7_pass_58 : nth t_X7_pass 58 = aStI 3 59 := (y_X7_pass_2 17).trans rfl
theorem y_X7_pass_3 (n : Nat) : nth t_X7_pass (n + 59) = nth t_X7_pass_c3 n := (y_X7_pass_2 (n + 18)).trans rfl
theorem n_X7_pass_59 : nth t_X7_pass 59 = aLdI 3 60 := (y_X7_pass_3 0).trans rfl
theorem n_X7_pass_60 : nth t_X7_pass 60 = aLdA 0 61 := (y_X7_pass_3 1).trans rfl
theorem n_X7_pass_61 : nth t_X7_pass 61 = aGetR 6 [6] 64 := (y_X7_pass_3 2).trans rfl
theorem n_X7_pass_64 : nth t_X7_pass 64 = aLdI 1 65 := (y_X7_pass_3 5).trans rfl
theorem n_X7_pass_65 : nth t_X7_pass 65 = aAldI 66 := (y_X7_pass_3 6).trans rfl
theorem n_X7_pass_66 : nth t_X7_pass 66 = aIcLt 69 125 := (y_X7_pass_3 7).trans rfl
theorem n_X7_pass_69 : nth t_X7_pass 69 = aK (.int 0) 70 := (y_X7_pass_3 10).trans rfl
theorem n_X7_pass_70 : nth t_X7_pass 70 = aStI 4 72 := (y_X7_pass_3 11).trans rfl
theorem n_X7_pass_72 : nth t_X7_pass 72 = aLdI 4 74 := (y_X7_pass_3 13).trans rfl
theorem n_X7_pass_74 : nth t_X7_pass 74 = aK (.int 20) 76 := (y_X7_pass_3 15).trans rfl
theorem n_X7_pass_76 : nth t_X7_pass 76 = aIcLt 79 119 := (y_X7_pass_3 17).trans rfl
theorem n_X7_pass_79 : nth t_X7_pass 79 = aLdA 0 80 := (y_X7_pass_3 20).trans rfl
theorem y_X7_pass_4 (n : Nat) : nth t_X7_pass (n + 80) = nth t_X7_pass_c4 n := (y_X7_pass_3 (n + 21)).trans rfl
theorem n_X7_pass_80 : nth t_X7_pass 80 = aGetR 46 [6] 83 := (y_X7_pass_4 0).trans rfl
theorem n_X7_pass_83 : nth t_X7_pass 83 = aK (.int 20) 85 := (y_X7_pass_4 3).trans rfl
theorem n_X7_pass_85 : nth t_X7_pass 85 = aLdI 3 86 := (y_X7_pass_4 5).trans rfl
theorem n_X7_pass_86 : nth t_X7_pass 86 = aB (fun x y => x * y) 87 := (y_X7_pass_4 6).trans rfl
theorem n_X7_pass_87 : nth t_X7_pass 87 = aLdI 4 89 := (y_X7_pass_4 7).trans rfl
theorem n_X7_pass_89 : nth t_X7_pass 89 = aB (fun x y => x + y) 90 := (y_X7_pass_4 9).trans rfl
theorem n_X7_pass_90 : nth t_X7_pass 90 = aLdA 0 91 := (y_X7_pass_4 10).trans rfl
theorem n_X7_pass_91 : nth t_X7_pass 91 = aGetR 5 [6] 94 := (y_X7_pass_4 11).trans rfl
theorem n_X7_pass_94 : nth t_X7_pass 94 = aK (.int 20) 96 := (y_X7_pass_4 14).trans rfl
theorem n_X7_pass_96 : nth t_X7_pass 96 = aK (.int 40) 98 := (y_X7_pass_4 16).trans rfl
theorem n_X7_pass_98 : nth t_X7_pass 98 = aLdI 1 99 := (y_X7_pass_4 18).trans rfl
theorem n_X7_pass_99 : nth t_X7_pass 99 = aB (fun x y => x * y) 100 := (y_X7_pass_4 19).trans rfl
theorem y_X7_pass_5 (n : Nat) : nth t_X7_pass (n + 100) = nth t_X7_pass_c5 n := (y_X7_pass_4 (n + 20)).trans rfl
theorem n_X7_pass_100 : nth t_X7_pass 100 = aLdA 0 101 := (y_X7_pass_5 0).trans rfl
theorem n_X7_pass_101 : nth t_X7_pass 101 = aGetR 45 [6] 104 := (y_X7_pass_5 1).trans rfl
theorem n_X7_pass_104 : nth t_X7_pass 104 = aLdI 3 105 := (y_X7_pass_5 4).trans rfl
theorem n_X7_pass_105 : nth t_X7_pass 105 = aAldI 106 := (y_X7_pass_5 5).trans rfl
theorem n_X7_pass_106 : nth t_X7_pass 106 = aB (fun x y => x + y) 107 := (y_X7_pass_5 6).trans rfl
theorem n_X7_pass_107 : nth t_X7_pass 107 = aB (fun x y => x * y) 108 := (y_X7_pass_5 7).trans rfl
theorem n_X7_pass_108 : nth t_X7_pass 108 = aLdI 4 110 := (y_X7_pass_5 8).trans rfl
theorem n_X7_pass_110 : nth t_X7_pass 110 = aB (fun x y => x + y) 111 := (y_X7_pass_5 10).trans rfl
theorem n_X7_pass_111 : nth t_X7_pass 111 = aAldI 112 := (y_X7_pass_5 11).trans rfl
theorem n_X7_pass_112 : nth t_X7_pass 112 = aAstI 113 := (y_X7_pass_5 12).trans rfl
theorem n_X7_pass_113 : nth t_X7_pass 113 = aInc 4 1 116 := (y_X7_pass_5 13).trans rfl
theorem n_X7_pass_116 : nth t_X7_pass 116 = aGoto 72 := (y_X7_pass_5 16).trans rfl
theorem y_X7_pass_6 (n : Nat) : nth t_X7_pass (n + 119) = nth t_X7_pass_c6 n := (y_X7_pass_5 (n + 19)).trans rfl
theorem n_X7_pass_119 : nth t_X7_pass 119 = aInc 3 1 122 := (y_X7_pass_6 0).trans rfl
theorem n_X7_pass_122 : nth t_X7_pass 122 = aGoto 59 := (y_X7_pass_6 3).trans rfl
theorem n_X7_pass_125 : nth t_X7_pass 125 = aK (.int 0) 126 := (y_X7_pass_6 6).trans rfl
theorem n_X7_pass_126 : nth t_X7_pass 126 = aStI 3 127 := (y_X7_pass_6 7).trans rfl
theorem n_X7_pass_127 : nth t_X7_pass 127 = aLdI 3 128 := (y_X7_pass_6 8).trans rfl
theorem n_X7_pass_128 : nth t_X7_pass 128 = aK (.int 20) 130 := (y_X7_pass_6 9).trans rfl
theorem n_X7_pass_130 : nth t_X7_pass 130 = aLdA 0 131 := (y_X7_pass_6 11).trans rfl
theorem n_X7_pass_131 : nth t_X7_pass 131 = aGetR 6 [6] 134 := (y_X7_pass_6 12).trans rfl
theorem n_X7_pass_134 : nth t_X7_pass 134 = aLdI 1 135 := (y_X7_pass_6 15).trans rfl
theorem n_X7_pass_135 : nth t_X7_pass 135 = aAldI 136 := (y_X7_pass_6 16).trans rfl
theorem n_X7_pass_136 : nth t_X7_pass 136 = aB (fun x y => x * y) 137 := (y_X7_pass_6 17).trans rfl
theorem n_X7_pass_137 : nth t_X7_pass 137 = aIcLt 140 164 := (y_X7_pass_6 18).trans rfl
theorem y_X7_pass_7 (n : Nat) : nth t_X7_pass (n + 140) = nth t_X7_pass_c7 n := (y_X7_pass_6 (n + 21)).trans rfl
theorem n_X7_pass_140 : nth t_X7_pass 140 = aLdA 0 141 := (y_X7_pass_7 0).trans rfl
theorem n_X7_pass_141 : nth t_X7_pass 141 = aGetR 5 [6] 144 := (y_X7_pass_7 1).trans rfl
theorem n_X7_pass_144 : nth t_X7_pass 144 = aK (.int 800) 147 := (y_X7_pass_7 4).trans rfl
theorem n_X7_pass_147 : nth t_X7_pass 147 = aLdI 1 148 := (y_X7_pass_7 7).trans rfl
theorem n_X7_pass_148 : nth t_X7_pass 148 = aB (fun x y => x * y) 149 := (y_X7_pass_7 8).trans rfl
theorem n_X7_pass_149 : nth t_X7_pass 149 = aLdI 3 150 := (y_X7_pass_7 9).trans rfl
theorem n_X7_pass_150 : nth t_X7_pass 150 = aB (fun x y => x + y) 151 := (y_X7_pass_7 10).trans rfl
theorem n_X7_pass_151 : nth t_X7_pass 151 = aLdA 0 152 := (y_X7_pass_7 11).trans rfl
theorem n_X7_pass_152 : nth t_X7_pass 152 = aGetR 46 [6] 155 := (y_X7_pass_7 12).trans rfl
theorem n_X7_pass_155 : nth t_X7_pass 155 = aLdI 3 156 := (y_X7_pass_7 15).trans rfl
theorem n_X7_pass_156 : nth t_X7_pass 156 = aAldI 157 := (y_X7_pass_7 16).trans rfl
theorem n_X7_pass_157 : nth t_X7_pass 157 = aAstI 158 := (y_X7_pass_7 17).trans rfl
theorem y_X7_pass_8 (n : Nat) : nth t_X7_pass (n + 158) = nth t_X7_pass_c8 n := (y_X7_pass_7 (n + 18)).trans rfl
theorem n_X7_pass_158 : nth t_X7_pass 158 = aInc 3 1 161 := (y_X7_pass_8 0).trans rfl
theorem n_X7_pass_161 : nth t_X7_pass 161 = aGoto 127 := (y_X7_pass_8 3).trans rfl
theorem n_X7_pass_164 : nth t_X7_pass 164 = aK (.int 1) 165 := (y_X7_pass_8 6).trans rfl
theorem n_X7_pass_165 : nth t_X7_pass 165 = aRetZ := (y_X7_pass_8 7).trans rfl
theorem n_X7_sort_0 : nth t_X7_sort 0 = aLdA 0 1 := rfl
theorem n_X7_sort_1 : nth t_X7_sort 1 = aGetR 6 [6] 4 := rfl
theorem n_X7_sort_4 : nth t_X7_sort 4 = aLdI 1 5 := rfl
theorem n_X7_sort_5 : nth t_X7_sort 5 = aAldI 6 := rfl
theorem n_X7_sort_6 : nth t_X7_sort 6 = aStI 3 7 := rfl
theorem n_X7_sort_7 : nth t_X7_sort 7 = aK (.int 0) 8 := rfl
theorem n_X7_sort_8 : nth t_X7_sort 8 = aStI 4 10 := rfl
theorem n_X7_sort_10 : nth t_X7_sort 10 = aK (.int (-1)) 11 := rfl
theorem n_X7_sort_11 : nth t_X7_sort 11 = aStI 5 13 := rfl
theorem n_X7_sort_13 : nth t_X7_sort 13 = aLdI 5 15 := rfl
theorem n_X7_sort_15 : nth t_X7_sort 15 = aK (.int 10) 17 := rfl
theorem n_X7_sort_17 : nth t_X7_sort 17 = aIcLt 20 106 := rfl
theorem y_X7_sort_1 (n : Nat) : nth t_X7_sort (n + 20) = nth t_X7_sort_c1 n := rfl
theorem n_X7_sort_20 : nth t_X7_sort 20 = aK (.int 0) 21 := (y_X7_sort_1 0).trans rfl
theorem n_X7_sort_21 : nth t_X7_sort 21 = aStI 6 23 := (y_X7_sort_1 1).trans rfl
theorem n_X7_sort_23 : nth t_X7_sort 23 = aLdI 6 25 := (y_X7_sort_1 3).trans rfl
theorem n_X7_sort_25 : nth t_X7_sort 25 = aLdI 3 26 := (y_X7_sort_1 5).trans rfl
theorem n_X7_sort_26 : nth t_X7_sort 26 = aIcLt 29 100 := (y_X7_sort_1 6).trans rfl
theorem n_X7_sort_29 : nth t_X7_sort 29 = aLdA 0 30 := (y_X7_sort_1 9).trans rfl
theorem n_X7_sort_30 : nth t_X7_sort 30 = aGetR 5 [6] 33 := (y_X7_sort_1 10).trans rfl
theorem n_X7_sort_33 : nth t_X7_sort 33 = aK (.int 20) 35 := (y_X7_sort_1 13).trans rfl
theorem n_X7_sort_35 : nth t_X7_sort 35 = aK (.int 40) 37 := (y_X7_sort_1 15).trans rfl
theorem n_X7_sort_37 : nth t_X7_sort 37 = aLdI 1 38 := (y_X7_sort_1 17).trans rfl
theorem n_X7_sort_38 : nth t_X7_sort 38 = aB (fun x y => x * y) 39 := (y_X7_sort_1 18).trans rfl
theorem n_X7_sort_39 : nth t_X7_sort 39 = aLdA 0 40 := (y_X7_sort_1 19).trans rfl
theorem y_X7_sort_2 (n : Nat) : nth t_X7_sort (n + 40) = nth t_X7_sort_c2 n := (y_X7_sort_1 (n + 20)).trans rfl
theorem n_X7_sort_40 : nth t_X7_sort 40 = aGetR 45 [6] 43 := (y_X7_sort_2 0).trans rfl
theorem n_X7_sort_43 : nth t_X7_sort 43 = aLdI 6 45 := (y_X7_sort_2 3).trans rfl
theorem n_X7_sort_45 : nth t_X7_sort 45 = aAldI 46 := (y_X7_sort_2 5).trans rfl
theorem n_X7_sort_46 : nth t_X7_sort 46 = aB (fun x y => x + y) 47 := (y_X7_sort_2 6).trans rfl
theorem n_X7_sort_47 : nth t_X7_sort 47 = aB (fun x y => x * y) 48 := (y_X7_sort_2 7).trans rfl
theorem n_X7_sort_48 : nth t_X7_sort 48 = aLdI 2 49 := (y_X7_sort_2 8).trans rfl
theorem n_X7_sort_49 : nth t_X7_sort 49 = aB (fun x y => x + y) 50 := (y_X7_sort_2 9).trans rfl
theorem n_X7_sort_50 : nth t_X7_sort 50 = aAldI 51 := (y_X7_sort_2 10).trans rfl
theorem n_X7_sort_51 : nth t_X7_sort 51 = aK (.int 16) 53 := (y_X7_sort_2 11).trans rfl
theorem n_X7_sort_53 : nth t_X7_sort 53 = aRem 54 := (y_X7_sort_2 13).trans rfl
theorem n_X7_sort_54 : nth t_X7_sort 54 = aStI 7 56 := (y_X7_sort_2 14).trans rfl
theorem n_X7_sort_56 : nth t_X7_sort 56 = aLdI 7 58 := (y_X7_sort_2 16).trans rfl
theorem y_X7_sort_3 (n : Nat) : nth t_X7_sort (n + 58) = nth t_X7_sort_c3 n := (y_X7_sort_2 (n + 18)).trans rfl
theorem n_X7_sort_58 : nth t_X7_sort 58 = aK (.int 15) 60 := (y_X7_sort_3 0).trans rfl
theorem n_X7_sort_60 : nth t_X7_sort 60 = aIcEq 63 67 := (y_X7_sort_3 2).trans rfl
theorem n_X7_sort_63 : nth t_X7_sort 63 = aK (.int (-1)) 64 := (y_X7_sort_3 5).trans rfl
theorem n_X7_sort_64 : nth t_X7_sort 64 = aGoto 69 := (y_X7_sort_3 6).trans rfl
theorem n_X7_sort_67 : nth t_X7_sort 67 = aLdI 7 69 := (y_X7_sort_3 9).trans rfl
theorem n_X7_sort_69 : nth t_X7_sort 69 = aLdI 5 71 := (y_X7_sort_3 11).trans rfl
theorem n_X7_sort_71 : nth t_X7_sort 71 = aIcEq 77 74 := (y_X7_sort_3 13).trans rfl
theorem n_X7_sort_74 : nth t_X7_sort 74 = aGoto 94 := (y_X7_sort_3 16).trans rfl
theorem n_X7_sort_77 : nth t_X7_sort 77 = aLdA 0 78 := (y_X7_sort_3 19).trans rfl
theorem n_X7_sort_78 : nth t_X7_sort 78 = aGetR 46 [6] 81 := (y_X7_sort_3 20).trans rfl
theorem n_X7_sort_81 : nth t_X7_sort 81 = aLdI 4 83 := (y_X7_sort_3 23).trans rfl
theorem n_X7_sort_83 : nth t_X7_sort 83 = aLdA 0 84 := (y_X7_sort_3 25).trans rfl
theorem y_X7_sort_4 (n : Nat) : nth t_X7_sort (n + 84) = nth t_X7_sort_c4 n := (y_X7_sort_3 (n + 26)).trans rfl
theorem n_X7_sort_84 : nth t_X7_sort 84 = aGetR 45 [6] 87 := (y_X7_sort_4 0).trans rfl
theorem n_X7_sort_87 : nth t_X7_sort 87 = aLdI 6 89 := (y_X7_sort_4 3).trans rfl
theorem n_X7_sort_89 : nth t_X7_sort 89 = aAldI 90 := (y_X7_sort_4 5).trans rfl
theorem n_X7_sort_90 : nth t_X7_sort 90 = aAstI 91 := (y_X7_sort_4 6).trans rfl
theorem n_X7_sort_91 : nth t_X7_sort 91 = aInc 4 1 94 := (y_X7_sort_4 7).trans rfl
theorem n_X7_sort_94 : nth t_X7_sort 94 = aInc 6 1 97 := (y_X7_sort_4 10).trans rfl
theorem n_X7_sort_97 : nth t_X7_sort 97 = aGoto 23 := (y_X7_sort_4 13).trans rfl
theorem n_X7_sort_100 : nth t_X7_sort 100 = aInc 5 1 103 := (y_X7_sort_4 16).trans rfl
theorem n_X7_sort_103 : nth t_X7_sort 103 = aGoto 13 := (y_X7_sort_4 19).trans rfl
theorem n_X7_sort_106 : nth t_X7_sort 106 = aK (.int 0) 107 := (y_X7_sort_4 22).trans rfl
theorem n_X7_sort_107 : nth t_X7_sort 107 = aStI 5 109 := (y_X7_sort_4 23).trans rfl
theorem n_X7_sort_109 : nth t_X7_sort 109 = aLdI 5 111 := (y_X7_sort_4 25).trans rfl
theorem y_X7_sort_5 (n : Nat) : nth t_X7_sort (n + 111) = nth t_X7_sort_c5 n := (y_X7_sort_4 (n + 27)).trans rfl
theorem n_X7_sort_111 : nth t_X7_sort 111 = aLdI 3 112 := (y_X7_sort_5 0).trans rfl
theorem n_X7_sort_112 : nth t_X7_sort 112 = aIcLt 115 135 := (y_X7_sort_5 1).trans rfl
theorem n_X7_sort_115 : nth t_X7_sort 115 = aLdA 0 116 := (y_X7_sort_5 4).trans rfl
theorem n_X7_sort_116 : nth t_X7_sort 116 = aGetR 45 [6] 119 := (y_X7_sort_5 5).trans rfl
theorem n_X7_sort_119 : nth t_X7_sort 119 = aLdI 5 121 := (y_X7_sort_5 8).trans rfl
theorem n_X7_sort_121 : nth t_X7_sort 121 = aLdA 0 122 := (y_X7_sort_5 10).trans rfl
theorem n_X7_sort_122 : nth t_X7_sort 122 = aGetR 46 [6] 125 := (y_X7_sort_5 11).trans rfl
theorem n_X7_sort_125 : nth t_X7_sort 125 = aLdI 5 127 := (y_X7_sort_5 14).trans rfl
theorem n_X7_sort_127 : nth t_X7_sort 127 = aAldI 128 := (y_X7_sort_5 16).trans rfl
theorem n_X7_sort_128 : nth t_X7_sort 128 = aAstI 129 := (y_X7_sort_5 17).trans rfl
theorem n_X7_sort_129 : nth t_X7_sort 129 = aInc 5 1 132 := (y_X7_sort_5 18).trans rfl
theorem n_X7_sort_132 : nth t_X7_sort 132 = aGoto 109 := (y_X7_sort_5 21).trans rfl
theorem y_X7_sort_6 (n : Nat) : nth t_X7_sort (n + 135) = nth t_X7_sort_c6 n := (y_X7_sort_5 (n + 24)).trans rfl
theorem n_X7_sort_135 : nth t_X7_sort 135 = aRetV := (y_X7_sort_6 0).trans rfl
theorem n_X7_needed_0 : nth t_X7_needed 0 = aLdA 0 1 := rfl
theorem n_X7_needed_1 : nth t_X7_needed 1 = aK (.int 0) 2 := rfl
theorem n_X7_needed_2 : nth t_X7_needed 2 = aPutI 0 [6] 5 := rfl
theorem n_X7_needed_5 : nth t_X7_needed 5 = aLdA 0 6 := rfl
theorem n_X7_needed_6 : nth t_X7_needed 6 = aCalV 152 0 9 [6] none := rfl
theorem n_X7_needed_9 : nth t_X7_needed 9 = aLdI 1 10 := rfl
theorem n_X7_needed_10 : nth t_X7_needed 10 = aCalS 153 1 13 none := rfl
theorem n_X7_needed_13 : nth t_X7_needed 13 = aIfEq 29 16 := rfl
theorem n_X7_needed_16 : nth t_X7_needed 16 = aLdA 0 17 := rfl
theorem n_X7_needed_17 : nth t_X7_needed 17 = aGetI 3 [6] 20 := rfl
theorem n_X7_needed_20 : nth t_X7_needed 20 = aK (.int 1) 21 := rfl
theorem n_X7_needed_21 : nth t_X7_needed 21 = aK (.int 8) 23 := rfl
theorem y_X7_needed_1 (n : Nat) : nth t_X7_needed (n + 23) = nth t_X7_needed_c1 n := rfl
theorem n_X7_needed_23 : nth t_X7_needed 23 = aCalS 154 3 26 none := (y_X7_needed_1 0).trans rfl
theorem n_X7_needed_26 : nth t_X7_needed 26 = aIfEq 29 31 := (y_X7_needed_1 3).trans rfl
theorem n_X7_needed_29 : nth t_X7_needed 29 = aK (.int (-1)) 30 := (y_X7_needed_1 6).trans rfl
theorem n_X7_needed_30 : nth t_X7_needed 30 = aRetI := (y_X7_needed_1 7).trans rfl
theorem n_X7_needed_31 : nth t_X7_needed 31 = aK (.int 0) 32 := (y_X7_needed_1 8).trans rfl
theorem n_X7_needed_32 : nth t_X7_needed 32 = aStI 2 33 := (y_X7_needed_1 9).trans rfl
theorem n_X7_needed_33 : nth t_X7_needed 33 = aLdI 2 34 := (y_X7_needed_1 10).trans rfl
theorem n_X7_needed_34 : nth t_X7_needed 34 = aLdA 0 35 := (y_X7_needed_1 11).trans rfl
theorem n_X7_needed_35 : nth t_X7_needed 35 = aGetI 3 [6] 38 := (y_X7_needed_1 12).trans rfl
theorem n_X7_needed_38 : nth t_X7_needed 38 = aIcLt 41 63 := (y_X7_needed_1 15).trans rfl
theorem n_X7_needed_41 : nth t_X7_needed 41 = aLdA 0 42 := (y_X7_needed_1 18).trans rfl
theorem n_X7_needed_42 : nth t_X7_needed 42 = aLdI 2 43 := (y_X7_needed_1 19).trans rfl
theorem y_X7_needed_2 (n : Nat) : nth t_X7_needed (n + 43) = nth t_X7_needed_c2 n := (y_X7_needed_1 (n + 20)).trans rfl
theorem n_X7_needed_43 : nth t_X7_needed 43 = aCalV 155 1 46 [6] none := (y_X7_needed_2 0).trans rfl
theorem n_X7_needed_46 : nth t_X7_needed 46 = aK (.int 1) 47 := (y_X7_needed_2 3).trans rfl
theorem n_X7_needed_47 : nth t_X7_needed 47 = aK (.int 20) 49 := (y_X7_needed_2 4).trans rfl
theorem n_X7_needed_49 : nth t_X7_needed 49 = aCalS 154 3 52 none := (y_X7_needed_2 6).trans rfl
theorem n_X7_needed_52 : nth t_X7_needed 52 = aIfEq 55 57 := (y_X7_needed_2 9).trans rfl
theorem n_X7_needed_55 : nth t_X7_needed 55 = aK (.int (-1)) 56 := (y_X7_needed_2 12).trans rfl
theorem n_X7_needed_56 : nth t_X7_needed 56 = aRetI := (y_X7_needed_2 13).trans rfl
theorem n_X7_needed_57 : nth t_X7_needed 57 = aInc 2 1 60 := (y_X7_needed_2 14).trans rfl
theorem n_X7_needed_60 : nth t_X7_needed 60 = aGoto 33 := (y_X7_needed_2 17).trans rfl
theorem n_X7_needed_63 : nth t_X7_needed 63 = aK (.int (-1)) 64 := (y_X7_needed_2 20).trans rfl
theorem n_X7_needed_64 : nth t_X7_needed 64 = aStI 2 65 := (y_X7_needed_2 21).trans rfl
theorem n_X7_needed_65 : nth t_X7_needed 65 = aK (.int 0) 66 := (y_X7_needed_2 22).trans rfl
theorem y_X7_needed_3 (n : Nat) : nth t_X7_needed (n + 66) = nth t_X7_needed_c3 n := (y_X7_needed_2 (n + 23)).trans rfl
theorem n_X7_needed_66 : nth t_X7_needed 66 = aStI 3 67 := (y_X7_needed_3 0).trans rfl
theorem n_X7_needed_67 : nth t_X7_needed 67 = aLdI 3 68 := (y_X7_needed_3 1).trans rfl
theorem n_X7_needed_68 : nth t_X7_needed 68 = aK (.int 1) 69 := (y_X7_needed_3 2).trans rfl
theorem n_X7_needed_69 : nth t_X7_needed 69 = aLdA 0 70 := (y_X7_needed_3 3).trans rfl
theorem n_X7_needed_70 : nth t_X7_needed 70 = aGetI 3 [6] 73 := (y_X7_needed_3 4).trans rfl
theorem n_X7_needed_73 : nth t_X7_needed 73 = aB (fun x y => x <<< (y &&& 31)) 74 := (y_X7_needed_3 7).trans rfl
theorem n_X7_needed_74 : nth t_X7_needed 74 = aIcLt 77 196 := (y_X7_needed_3 8).trans rfl
theorem n_X7_needed_77 : nth t_X7_needed 77 = aLdI 2 78 := (y_X7_needed_3 11).trans rfl
theorem n_X7_needed_78 : nth t_X7_needed 78 = aIfLt 93 81 := (y_X7_needed_3 12).trans rfl
theorem n_X7_needed_81 : nth t_X7_needed 81 = aLdI 3 82 := (y_X7_needed_3 15).trans rfl
theorem n_X7_needed_82 : nth t_X7_needed 82 = aI2L 83 := (y_X7_needed_3 16).trans rfl
theorem n_X7_needed_83 : nth t_X7_needed 83 = aCalS 196 1 86 none := (y_X7_needed_3 17).trans rfl
theorem y_X7_needed_4 (n : Nat) : nth t_X7_needed (n + 86) = nth t_X7_needed_c4 n := (y_X7_needed_3 (n + 20)).trans rfl
theorem n_X7_needed_86 : nth t_X7_needed 86 = aLdI 2 87 := (y_X7_needed_4 0).trans rfl
theorem n_X7_needed_87 : nth t_X7_needed 87 = aIcLt 93 90 := (y_X7_needed_4 1).trans rfl
theorem n_X7_needed_90 : nth t_X7_needed 90 = aGoto 190 := (y_X7_needed_4 4).trans rfl
theorem n_X7_needed_93 : nth t_X7_needed 93 = aK (.int 0) 94 := (y_X7_needed_4 7).trans rfl
theorem n_X7_needed_94 : nth t_X7_needed 94 = aStI 4 96 := (y_X7_needed_4 8).trans rfl
theorem n_X7_needed_96 : nth t_X7_needed 96 = aLdI 4 98 := (y_X7_needed_4 10).trans rfl
theorem n_X7_needed_98 : nth t_X7_needed 98 = aLdA 0 99 := (y_X7_needed_4 12).trans rfl
theorem n_X7_needed_99 : nth t_X7_needed 99 = aGetR 6 [6] 102 := (y_X7_needed_4 13).trans rfl
theorem n_X7_needed_102 : nth t_X7_needed 102 = aLdI 1 103 := (y_X7_needed_4 16).trans rfl
theorem n_X7_needed_103 : nth t_X7_needed 103 = aAldI 104 := (y_X7_needed_4 17).trans rfl
theorem n_X7_needed_104 : nth t_X7_needed 104 = aIcLt 107 122 := (y_X7_needed_4 18).trans rfl
theorem n_X7_needed_107 : nth t_X7_needed 107 = aLdA 0 108 := (y_X7_needed_4 21).trans rfl
theorem y_X7_needed_5 (n : Nat) : nth t_X7_needed (n + 108) = nth t_X7_needed_c5 n := (y_X7_needed_4 (n + 22)).trans rfl
theorem n_X7_needed_108 : nth t_X7_needed 108 = aGetR 45 [6] 111 := (y_X7_needed_5 0).trans rfl
theorem n_X7_needed_111 : nth t_X7_needed 111 = aLdI 4 113 := (y_X7_needed_5 3).trans rfl
theorem n_X7_needed_113 : nth t_X7_needed 113 = aLdI 4 115 := (y_X7_needed_5 5).trans rfl
theorem n_X7_needed_115 : nth t_X7_needed 115 = aAstI 116 := (y_X7_needed_5 7).trans rfl
theorem n_X7_needed_116 : nth t_X7_needed 116 = aInc 4 1 119 := (y_X7_needed_5 8).trans rfl
theorem n_X7_needed_119 : nth t_X7_needed 119 = aGoto 96 := (y_X7_needed_5 11).trans rfl
theorem n_X7_needed_122 : nth t_X7_needed 122 = aLdA 0 123 := (y_X7_needed_5 14).trans rfl
theorem n_X7_needed_123 : nth t_X7_needed 123 = aGetI 3 [6] 126 := (y_X7_needed_5 15).trans rfl
theorem n_X7_needed_126 : nth t_X7_needed 126 = aK (.int 1) 127 := (y_X7_needed_5 18).trans rfl
theorem n_X7_needed_127 : nth t_X7_needed 127 = aB (fun x y => x - y) 128 := (y_X7_needed_5 19).trans rfl
theorem n_X7_needed_128 : nth t_X7_needed 128 = aStI 4 130 := (y_X7_needed_5 20).trans rfl
theorem n_X7_needed_130 : nth t_X7_needed 130 = aLdI 4 132 := (y_X7_needed_5 22).trans rfl
theorem y_X7_needed_6 (n : Nat) : nth t_X7_needed (n + 132) = nth t_X7_needed_c6 n := (y_X7_needed_5 (n + 24)).trans rfl
theorem n_X7_needed_132 : nth t_X7_needed 132 = aIfLt 164 135 := (y_X7_needed_6 0).trans rfl
theorem n_X7_needed_135 : nth t_X7_needed 135 = aLdI 3 136 := (y_X7_needed_6 3).trans rfl
theorem n_X7_needed_136 : nth t_X7_needed 136 = aLdI 4 138 := (y_X7_needed_6 4).trans rfl
theorem n_X7_needed_138 : nth t_X7_needed 138 = aB (fun x y => x >>> (y &&& 31)) 139 := (y_X7_needed_6 6).trans rfl
theorem n_X7_needed_139 : nth t_X7_needed 139 = aK (.int 1) 140 := (y_X7_needed_6 7).trans rfl
theorem n_X7_needed_140 : nth t_X7_needed 140 = aB (fun x y => x &&& y) 141 := (y_X7_needed_6 8).trans rfl
theorem n_X7_needed_141 : nth t_X7_needed 141 = aK (.int 1) 142 := (y_X7_needed_6 9).trans rfl
theorem n_X7_needed_142 : nth t_X7_needed 142 = aIcEq 145 158 := (y_X7_needed_6 10).trans rfl
theorem n_X7_needed_145 : nth t_X7_needed 145 = aLdA 0 146 := (y_X7_needed_6 13).trans rfl
theorem n_X7_needed_146 : nth t_X7_needed 146 = aLdI 1 147 := (y_X7_needed_6 14).trans rfl
theorem n_X7_needed_147 : nth t_X7_needed 147 = aLdA 0 148 := (y_X7_needed_6 15).trans rfl
theorem n_X7_needed_148 : nth t_X7_needed 148 = aLdI 4 150 := (y_X7_needed_6 16).trans rfl
theorem y_X7_needed_7 (n : Nat) : nth t_X7_needed (n + 150) = nth t_X7_needed_c7 n := (y_X7_needed_6 (n + 18)).trans rfl
theorem n_X7_needed_150 : nth t_X7_needed 150 = aCalV 155 1 153 [6] none := (y_X7_needed_7 0).trans rfl
theorem n_X7_needed_153 : nth t_X7_needed 153 = aK (.int 1) 154 := (y_X7_needed_7 3).trans rfl
theorem n_X7_needed_154 : nth t_X7_needed 154 = aB (fun x y => x - y) 155 := (y_X7_needed_7 4).trans rfl
theorem n_X7_needed_155 : nth t_X7_needed 155 = aCalV 194 2 158 [6] none := (y_X7_needed_7 5).trans rfl
theorem n_X7_needed_158 : nth t_X7_needed 158 = aInc 4 (-1) 161 := (y_X7_needed_7 8).trans rfl
theorem n_X7_needed_161 : nth t_X7_needed 161 = aGoto 130 := (y_X7_needed_7 11).trans rfl
theorem n_X7_needed_164 : nth t_X7_needed 164 = aLdA 0 165 := (y_X7_needed_7 14).trans rfl
theorem n_X7_needed_165 : nth t_X7_needed 165 = aLdI 1 166 := (y_X7_needed_7 15).trans rfl
theorem n_X7_needed_166 : nth t_X7_needed 166 = aLdA 0 167 := (y_X7_needed_7 16).trans rfl
theorem n_X7_needed_167 : nth t_X7_needed 167 = aGetI 3 [6] 170 := (y_X7_needed_7 17).trans rfl
theorem n_X7_needed_170 : nth t_X7_needed 170 = aCalV 197 2 173 [6] none := (y_X7_needed_7 20).trans rfl
theorem n_X7_needed_173 : nth t_X7_needed 173 = aIfEq 176 179 := (y_X7_needed_7 23).trans rfl
theorem y_X7_needed_8 (n : Nat) : nth t_X7_needed (n + 176) = nth t_X7_needed_c8 n := (y_X7_needed_7 (n + 26)).trans rfl
theorem n_X7_needed_176 : nth t_X7_needed 176 = aGoto 190 := (y_X7_needed_8 0).trans rfl
theorem n_X7_needed_179 : nth t_X7_needed 179 = aLdI 3 180 := (y_X7_needed_8 3).trans rfl
theorem n_X7_needed_180 : nth t_X7_needed 180 = aI2L 181 := (y_X7_needed_8 4).trans rfl
theorem n_X7_needed_181 : nth t_X7_needed 181 = aCalS 196 1 184 none := (y_X7_needed_8 5).trans rfl
theorem n_X7_needed_184 : nth t_X7_needed 184 = aStI 2 185 := (y_X7_needed_8 8).trans rfl
theorem n_X7_needed_185 : nth t_X7_needed 185 = aLdA 0 186 := (y_X7_needed_8 9).trans rfl
theorem n_X7_needed_186 : nth t_X7_needed 186 = aLdI 3 187 := (y_X7_needed_8 10).trans rfl
theorem n_X7_needed_187 : nth t_X7_needed 187 = aPutI 47 [6] 190 := (y_X7_needed_8 11).trans rfl
theorem n_X7_needed_190 : nth t_X7_needed 190 = aInc 3 1 193 := (y_X7_needed_8 14).trans rfl
theorem n_X7_needed_193 : nth t_X7_needed 193 = aGoto 67 := (y_X7_needed_8 17).trans rfl
theorem n_X7_needed_196 : nth t_X7_needed 196 = aLdI 2 197 := (y_X7_needed_8 20).trans rfl
theorem n_X7_needed_197 : nth t_X7_needed 197 = aRetI := (y_X7_needed_8 21).trans rfl
theorem n_X7_bits_0 : nth t_X7_bits 0 = aK (.int 0) 1 := rfl
theorem n_X7_bits_1 : nth t_X7_bits 1 = aStI 2 2 := rfl
theorem n_X7_bits_2 : nth t_X7_bits 2 = aLdL 0 3 := rfl
theorem n_X7_bits_3 : nth t_X7_bits 3 = aStL 3 4 := rfl
theorem n_X7_bits_4 : nth t_X7_bits 4 = aLdL 3 5 := rfl
theorem n_X7_bits_5 : nth t_X7_bits 5 = aK (.long 0) 6 := rfl
theorem n_X7_bits_6 : nth t_X7_bits 6 = aLcmp 7 := rfl
theorem n_X7_bits_7 : nth t_X7_bits 7 = aIfEq 22 10 := rfl
theorem n_X7_bits_10 : nth t_X7_bits 10 = aInc 2 1 13 := rfl
theorem n_X7_bits_13 : nth t_X7_bits 13 = aLdL 3 14 := rfl
theorem n_X7_bits_14 : nth t_X7_bits 14 = aLdL 3 15 := rfl
theorem n_X7_bits_15 : nth t_X7_bits 15 = aK (.long 1) 16 := rfl
theorem y_X7_bits_1 (n : Nat) : nth t_X7_bits (n + 16) = nth t_X7_bits_c1 n := rfl
theorem n_X7_bits_16 : nth t_X7_bits 16 = aLB (fun x y => x - y) 17 := (y_X7_bits_1 0).trans rfl
theorem n_X7_bits_17 : nth t_X7_bits 17 = aLB (fun x y => x &&& y) 18 := (y_X7_bits_1 1).trans rfl
theorem n_X7_bits_18 : nth t_X7_bits 18 = aStL 3 19 := (y_X7_bits_1 2).trans rfl
theorem n_X7_bits_19 : nth t_X7_bits 19 = aGoto 4 := (y_X7_bits_1 3).trans rfl
theorem n_X7_bits_22 : nth t_X7_bits 22 = aLdI 2 23 := (y_X7_bits_1 6).trans rfl
theorem n_X7_bits_23 : nth t_X7_bits 23 = aRetI := (y_X7_bits_1 7).trans rfl
theorem n_X7_isOrdered_0 : nth t_X7_isOrdered 0 = aK (.int 0) 1 := rfl
theorem n_X7_isOrdered_1 : nth t_X7_isOrdered 1 = aStI 3 2 := rfl
theorem n_X7_isOrdered_2 : nth t_X7_isOrdered 2 = aLdI 3 3 := rfl
theorem n_X7_isOrdered_3 : nth t_X7_isOrdered 3 = aK (.int 1) 4 := rfl
theorem n_X7_isOrdered_4 : nth t_X7_isOrdered 4 = aB (fun x y => x + y) 5 := rfl
theorem n_X7_isOrdered_5 : nth t_X7_isOrdered 5 = aLdA 0 6 := rfl
theorem n_X7_isOrdered_6 : nth t_X7_isOrdered 6 = aGetR 6 [6] 9 := rfl
theorem n_X7_isOrdered_9 : nth t_X7_isOrdered 9 = aLdI 1 10 := rfl
theorem n_X7_isOrdered_10 : nth t_X7_isOrdered 10 = aAldI 11 := rfl
theorem n_X7_isOrdered_11 : nth t_X7_isOrdered 11 = aIcLt 14 135 := rfl
theorem n_X7_isOrdered_14 : nth t_X7_isOrdered 14 = aK (.int 0) 15 := rfl
theorem n_X7_isOrdered_15 : nth t_X7_isOrdered 15 = aStI 4 17 := rfl
theorem y_X7_isOrdered_1 (n : Nat) : nth t_X7_isOrdered (n + 17) = nth t_X7_isOrdered_c1 n := rfl
theorem n_X7_isOrdered_17 : nth t_X7_isOrdered 17 = aK (.int 0) 18 := (y_X7_isOrdered_1 0).trans rfl
theorem n_X7_isOrdered_18 : nth t_X7_isOrdered 18 = aStI 5 20 := (y_X7_isOrdered_1 1).trans rfl
theorem n_X7_isOrdered_20 : nth t_X7_isOrdered 20 = aLdI 5 22 := (y_X7_isOrdered_1 3).trans rfl
theorem n_X7_isOrdered_22 : nth t_X7_isOrdered 22 = aLdI 2 23 := (y_X7_isOrdered_1 5).trans rfl
theorem n_X7_isOrdered_23 : nth t_X7_isOrdered 23 = aIcLt 26 122 := (y_X7_isOrdered_1 6).trans rfl
theorem n_X7_isOrdered_26 : nth t_X7_isOrdered 26 = aLdI 4 28 := (y_X7_isOrdered_1 9).trans rfl
theorem n_X7_isOrdered_28 : nth t_X7_isOrdered 28 = aIfEq 31 122 := (y_X7_isOrdered_1 11).trans rfl
theorem n_X7_isOrdered_31 : nth t_X7_isOrdered 31 = aLdA 0 32 := (y_X7_isOrdered_1 14).trans rfl
theorem n_X7_isOrdered_32 : nth t_X7_isOrdered 32 = aGetR 5 [6] 35 := (y_X7_isOrdered_1 15).trans rfl
theorem n_X7_isOrdered_35 : nth t_X7_isOrdered 35 = aK (.int 20) 37 := (y_X7_isOrdered_1 18).trans rfl
theorem n_X7_isOrdered_37 : nth t_X7_isOrdered 37 = aK (.int 40) 39 := (y_X7_isOrdered_1 20).trans rfl
theorem n_X7_isOrdered_39 : nth t_X7_isOrdered 39 = aLdI 1 40 := (y_X7_isOrdered_1 22).trans rfl
theorem y_X7_isOrdered_2 (n : Nat) : nth t_X7_isOrdered (n + 40) = nth t_X7_isOrdered_c2 n := (y_X7_isOrdered_1 (n + 23)).trans rfl
theorem n_X7_isOrdered_40 : nth t_X7_isOrdered 40 = aB (fun x y => x * y) 41 := (y_X7_isOrdered_2 0).trans rfl
theorem n_X7_isOrdered_41 : nth t_X7_isOrdered 41 = aLdA 0 42 := (y_X7_isOrdered_2 1).trans rfl
theorem n_X7_isOrdered_42 : nth t_X7_isOrdered 42 = aGetR 45 [6] 45 := (y_X7_isOrdered_2 2).trans rfl
theorem n_X7_isOrdered_45 : nth t_X7_isOrdered 45 = aLdI 3 46 := (y_X7_isOrdered_2 5).trans rfl
theorem n_X7_isOrdered_46 : nth t_X7_isOrdered 46 = aAldI 47 := (y_X7_isOrdered_2 6).trans rfl
theorem n_X7_isOrdered_47 : nth t_X7_isOrdered 47 = aB (fun x y => x + y) 48 := (y_X7_isOrdered_2 7).trans rfl
theorem n_X7_isOrdered_48 : nth t_X7_isOrdered 48 = aB (fun x y => x * y) 49 := (y_X7_isOrdered_2 8).trans rfl
theorem n_X7_isOrdered_49 : nth t_X7_isOrdered 49 = aLdA 0 50 := (y_X7_isOrdered_2 9).trans rfl
theorem n_X7_isOrdered_50 : nth t_X7_isOrdered 50 = aLdI 5 52 := (y_X7_isOrdered_2 10).trans rfl
theorem n_X7_isOrdered_52 : nth t_X7_isOrdered 52 = aCalV 155 1 55 [6] none := (y_X7_isOrdered_2 12).trans rfl
theorem n_X7_isOrdered_55 : nth t_X7_isOrdered 55 = aB (fun x y => x + y) 56 := (y_X7_isOrdered_2 15).trans rfl
theorem n_X7_isOrdered_56 : nth t_X7_isOrdered 56 = aK (.int 1) 57 := (y_X7_isOrdered_2 16).trans rfl
theorem y_X7_isOrdered_3 (n : Nat) : nth t_X7_isOrdered (n + 57) = nth t_X7_isOrdered_c3 n := (y_X7_isOrdered_2 (n + 17)).trans rfl
theorem n_X7_isOrdered_57 : nth t_X7_isOrdered 57 = aB (fun x y => x - y) 58 := (y_X7_isOrdered_3 0).trans rfl
theorem n_X7_isOrdered_58 : nth t_X7_isOrdered 58 = aAldI 59 := (y_X7_isOrdered_3 1).trans rfl
theorem n_X7_isOrdered_59 : nth t_X7_isOrdered 59 = aK (.int 16) 61 := (y_X7_isOrdered_3 2).trans rfl
theorem n_X7_isOrdered_61 : nth t_X7_isOrdered 61 = aRem 62 := (y_X7_isOrdered_3 4).trans rfl
theorem n_X7_isOrdered_62 : nth t_X7_isOrdered 62 = aStI 6 64 := (y_X7_isOrdered_3 5).trans rfl
theorem n_X7_isOrdered_64 : nth t_X7_isOrdered 64 = aLdA 0 65 := (y_X7_isOrdered_3 7).trans rfl
theorem n_X7_isOrdered_65 : nth t_X7_isOrdered 65 = aGetR 5 [6] 68 := (y_X7_isOrdered_3 8).trans rfl
theorem n_X7_isOrdered_68 : nth t_X7_isOrdered 68 = aK (.int 20) 70 := (y_X7_isOrdered_3 11).trans rfl
theorem n_X7_isOrdered_70 : nth t_X7_isOrdered 70 = aK (.int 40) 72 := (y_X7_isOrdered_3 13).trans rfl
theorem n_X7_isOrdered_72 : nth t_X7_isOrdered 72 = aLdI 1 73 := (y_X7_isOrdered_3 15).trans rfl
theorem n_X7_isOrdered_73 : nth t_X7_isOrdered 73 = aB (fun x y => x * y) 74 := (y_X7_isOrdered_3 16).trans rfl
theorem n_X7_isOrdered_74 : nth t_X7_isOrdered 74 = aLdA 0 75 := (y_X7_isOrdered_3 17).trans rfl
theorem y_X7_isOrdered_4 (n : Nat) : nth t_X7_isOrdered (n + 75) = nth t_X7_isOrdered_c4 n := (y_X7_isOrdered_3 (n + 18)).trans rfl
theorem n_X7_isOrdered_75 : nth t_X7_isOrdered 75 = aGetR 45 [6] 78 := (y_X7_isOrdered_4 0).trans rfl
theorem n_X7_isOrdered_78 : nth t_X7_isOrdered 78 = aLdI 3 79 := (y_X7_isOrdered_4 3).trans rfl
theorem n_X7_isOrdered_79 : nth t_X7_isOrdered 79 = aK (.int 1) 80 := (y_X7_isOrdered_4 4).trans rfl
theorem n_X7_isOrdered_80 : nth t_X7_isOrdered 80 = aB (fun x y => x + y) 81 := (y_X7_isOrdered_4 5).trans rfl
theorem n_X7_isOrdered_81 : nth t_X7_isOrdered 81 = aAldI 82 := (y_X7_isOrdered_4 6).trans rfl
theorem n_X7_isOrdered_82 : nth t_X7_isOrdered 82 = aB (fun x y => x + y) 83 := (y_X7_isOrdered_4 7).trans rfl
theorem n_X7_isOrdered_83 : nth t_X7_isOrdered 83 = aB (fun x y => x * y) 84 := (y_X7_isOrdered_4 8).trans rfl
theorem n_X7_isOrdered_84 : nth t_X7_isOrdered 84 = aLdA 0 85 := (y_X7_isOrdered_4 9).trans rfl
theorem n_X7_isOrdered_85 : nth t_X7_isOrdered 85 = aLdI 5 87 := (y_X7_isOrdered_4 10).trans rfl
theorem n_X7_isOrdered_87 : nth t_X7_isOrdered 87 = aCalV 155 1 90 [6] none := (y_X7_isOrdered_4 12).trans rfl
theorem n_X7_isOrdered_90 : nth t_X7_isOrdered 90 = aB (fun x y => x + y) 91 := (y_X7_isOrdered_4 15).trans rfl
theorem n_X7_isOrdered_91 : nth t_X7_isOrdered 91 = aK (.int 1) 92 := (y_X7_isOrdered_4 16).trans rfl
theorem y_X7_isOrdered_5 (n : Nat) : nth t_X7_isOrdered (n + 92) = nth t_X7_isOrdered_c5 n := (y_X7_isOrdered_4 (n + 17)).trans rfl
theorem n_X7_isOrdered_92 : nth t_X7_isOrdered 92 = aB (fun x y => x - y) 93 := (y_X7_isOrdered_5 0).trans rfl
theorem n_X7_isOrdered_93 : nth t_X7_isOrdered 93 = aAldI 94 := (y_X7_isOrdered_5 1).trans rfl
theorem n_X7_isOrdered_94 : nth t_X7_isOrdered 94 = aK (.int 16) 96 := (y_X7_isOrdered_5 2).trans rfl
theorem n_X7_isOrdered_96 : nth t_X7_isOrdered 96 = aRem 97 := (y_X7_isOrdered_5 4).trans rfl
theorem n_X7_isOrdered_97 : nth t_X7_isOrdered 97 = aStI 7 99 := (y_X7_isOrdered_5 5).trans rfl
theorem n_X7_isOrdered_99 : nth t_X7_isOrdered 99 = aLdI 6 101 := (y_X7_isOrdered_5 7).trans rfl
theorem n_X7_isOrdered_101 : nth t_X7_isOrdered 101 = aK (.int 1) 102 := (y_X7_isOrdered_5 9).trans rfl
theorem n_X7_isOrdered_102 : nth t_X7_isOrdered 102 = aB (fun x y => x + y) 103 := (y_X7_isOrdered_5 10).trans rfl
theorem n_X7_isOrdered_103 : nth t_X7_isOrdered 103 = aK (.int 16) 105 := (y_X7_isOrdered_5 11).trans rfl
theorem n_X7_isOrdered_105 : nth t_X7_isOrdered 105 = aRem 106 := (y_X7_isOrdered_5 13).trans rfl
theorem n_X7_isOrdered_106 : nth t_X7_isOrdered 106 = aLdI 7 108 := (y_X7_isOrdered_5 14).trans rfl
theorem n_X7_isOrdered_108 : nth t_X7_isOrdered 108 = aK (.int 1) 109 := (y_X7_isOrdered_5 16).trans rfl
theorem y_X7_isOrdered_6 (n : Nat) : nth t_X7_isOrdered (n + 109) = nth t_X7_isOrdered_c6 n := (y_X7_isOrdered_5 (n + 17)).trans rfl
theorem n_X7_isOrdered_109 : nth t_X7_isOrdered 109 = aB (fun x y => x + y) 110 := (y_X7_isOrdered_6 0).trans rfl
theorem n_X7_isOrdered_110 : nth t_X7_isOrdered 110 = aK (.int 16) 112 := (y_X7_isOrdered_6 1).trans rfl
theorem n_X7_isOrdered_112 : nth t_X7_isOrdered 112 = aRem 113 := (y_X7_isOrdered_6 3).trans rfl
theorem n_X7_isOrdered_113 : nth t_X7_isOrdered 113 = aB (fun x y => x - y) 114 := (y_X7_isOrdered_6 4).trans rfl
theorem n_X7_isOrdered_114 : nth t_X7_isOrdered 114 = aStI 4 116 := (y_X7_isOrdered_6 5).trans rfl
theorem n_X7_isOrdered_116 : nth t_X7_isOrdered 116 = aInc 5 1 119 := (y_X7_isOrdered_6 7).trans rfl
theorem n_X7_isOrdered_119 : nth t_X7_isOrdered 119 = aGoto 20 := (y_X7_isOrdered_6 10).trans rfl
theorem n_X7_isOrdered_122 : nth t_X7_isOrdered 122 = aLdI 4 124 := (y_X7_isOrdered_6 13).trans rfl
theorem n_X7_isOrdered_124 : nth t_X7_isOrdered 124 = aIfLe 129 127 := (y_X7_isOrdered_6 15).trans rfl
theorem n_X7_isOrdered_127 : nth t_X7_isOrdered 127 = aK (.int 0) 128 := (y_X7_isOrdered_6 18).trans rfl
theorem n_X7_isOrdered_128 : nth t_X7_isOrdered 128 = aRetZ := (y_X7_isOrdered_6 19).trans rfl
theorem n_X7_isOrdered_129 : nth t_X7_isOrdered 129 = aInc 3 1 132 := (y_X7_isOrdered_6 20).trans rfl
theorem y_X7_isOrdered_7 (n : Nat) : nth t_X7_isOrdered (n + 132) = nth t_X7_isOrdered_c7 n := (y_X7_isOrdered_6 (n + 23)).trans rfl
theorem n_X7_isOrdered_132 : nth t_X7_isOrdered 132 = aGoto 2 := (y_X7_isOrdered_7 0).trans rfl
theorem n_X7_isOrdered_135 : nth t_X7_isOrdered 135 = aK (.int 1) 136 := (y_X7_isOrdered_7 3).trans rfl
theorem n_X7_isOrdered_136 : nth t_X7_isOrdered 136 = aRetZ := (y_X7_isOrdered_7 4).trans rfl
theorem n_X7_neededSet_0 : nth t_X7_neededSet 0 = aLdA 0 1 := rfl
theorem n_X7_neededSet_1 : nth t_X7_neededSet 1 = aK (.int 0) 2 := rfl
theorem n_X7_neededSet_2 : nth t_X7_neededSet 2 = aPutI 0 [6] 5 := rfl
theorem n_X7_neededSet_5 : nth t_X7_neededSet 5 = aLdA 0 6 := rfl
theorem n_X7_neededSet_6 : nth t_X7_neededSet 6 = aGetI 47 [6] 9 := rfl
theorem n_X7_neededSet_9 : nth t_X7_neededSet 9 = aRetI := rfl
theorem n_X7_idle_0 : nth t_X7_idle 0 = aLdA 0 1 := rfl
theorem n_X7_idle_1 : nth t_X7_idle 1 = aK (.int 0) 2 := rfl
theorem n_X7_idle_2 : nth t_X7_idle 2 = aPutI 0 [6] 5 := rfl
theorem n_X7_idle_5 : nth t_X7_idle 5 = aLdI 1 6 := rfl
theorem n_X7_idle_6 : nth t_X7_idle 6 = aCalS 153 1 9 none := rfl
theorem n_X7_idle_9 : nth t_X7_idle 9 = aIfEq 12 14 := rfl
theorem n_X7_idle_12 : nth t_X7_idle 12 = aK (.int (-1)) 13 := rfl
theorem n_X7_idle_13 : nth t_X7_idle 13 = aRetI := rfl
theorem n_X7_idle_14 : nth t_X7_idle 14 = aLdA 0 15 := rfl
theorem n_X7_idle_15 : nth t_X7_idle 15 = aK (.int (-1)) 16 := rfl
theorem n_X7_idle_16 : nth t_X7_idle 16 = aPutI 42 [6] 19 := rfl
theorem n_X7_idle_19 : nth t_X7_idle 19 = aLdA 0 20 := rfl
theorem y_X7_idle_1 (n : Nat) : nth t_X7_idle (n + 20) = nth t_X7_idle_c1 n := rfl
theorem n_X7_idle_20 : nth t_X7_idle 20 = aLdI 1 21 := (y_X7_idle_1 0).trans rfl
theorem n_X7_idle_21 : nth t_X7_idle 21 = aK (.int 0) 22 := (y_X7_idle_1 1).trans rfl
theorem n_X7_idle_22 : nth t_X7_idle 22 = aLdA 0 23 := (y_X7_idle_1 2).trans rfl
theorem n_X7_idle_23 : nth t_X7_idle 23 = aGetR 6 [6] 26 := (y_X7_idle_1 3).trans rfl
theorem n_X7_idle_26 : nth t_X7_idle 26 = aLdI 1 27 := (y_X7_idle_1 6).trans rfl
theorem n_X7_idle_27 : nth t_X7_idle 27 = aAldI 28 := (y_X7_idle_1 7).trans rfl
theorem n_X7_idle_28 : nth t_X7_idle 28 = aK (.int (-1)) 29 := (y_X7_idle_1 8).trans rfl
theorem n_X7_idle_29 : nth t_X7_idle 29 = aCalV 176 4 32 [6] none := (y_X7_idle_1 9).trans rfl
theorem n_X7_idle_32 : nth t_X7_idle 32 = aLdA 0 33 := (y_X7_idle_1 12).trans rfl
theorem n_X7_idle_33 : nth t_X7_idle 33 = aK (.int 40) 35 := (y_X7_idle_1 13).trans rfl
theorem n_X7_idle_35 : nth t_X7_idle 35 = aCalV 177 1 38 [6] none := (y_X7_idle_1 15).trans rfl
theorem n_X7_idle_38 : nth t_X7_idle 38 = aLdA 0 39 := (y_X7_idle_1 18).trans rfl
theorem y_X7_idle_2 (n : Nat) : nth t_X7_idle (n + 39) = nth t_X7_idle_c2 n := (y_X7_idle_1 (n + 19)).trans rfl
theorem n_X7_idle_39 : nth t_X7_idle 39 = aK (.int 2) 40 := (y_X7_idle_2 0).trans rfl
theorem n_X7_idle_40 : nth t_X7_idle 40 = aCalV 189 1 43 [6] none := (y_X7_idle_2 1).trans rfl
theorem n_X7_idle_43 : nth t_X7_idle 43 = aLdA 0 44 := (y_X7_idle_2 4).trans rfl
theorem n_X7_idle_44 : nth t_X7_idle 44 = aK (.int 0) 45 := (y_X7_idle_2 5).trans rfl
theorem n_X7_idle_45 : nth t_X7_idle 45 = aPutI 53 [6] 48 := (y_X7_idle_2 6).trans rfl
theorem n_X7_idle_48 : nth t_X7_idle 48 = aK (.int 0) 49 := (y_X7_idle_2 9).trans rfl
theorem n_X7_idle_49 : nth t_X7_idle 49 = aStI 2 50 := (y_X7_idle_2 10).trans rfl
theorem n_X7_idle_50 : nth t_X7_idle 50 = aLdI 2 51 := (y_X7_idle_2 11).trans rfl
theorem n_X7_idle_51 : nth t_X7_idle 51 = aLdA 0 52 := (y_X7_idle_2 12).trans rfl
theorem n_X7_idle_52 : nth t_X7_idle 52 = aGetR 17 [6] 55 := (y_X7_idle_2 13).trans rfl
theorem n_X7_idle_55 : nth t_X7_idle 55 = aK (.int 0) 56 := (y_X7_idle_2 16).trans rfl
theorem n_X7_idle_56 : nth t_X7_idle 56 = aAldI 57 := (y_X7_idle_2 17).trans rfl
theorem y_X7_idle_3 (n : Nat) : nth t_X7_idle (n + 57) = nth t_X7_idle_c3 n := (y_X7_idle_2 (n + 18)).trans rfl
theorem n_X7_idle_57 : nth t_X7_idle 57 = aIcLt 60 108 := (y_X7_idle_3 0).trans rfl
theorem n_X7_idle_60 : nth t_X7_idle 60 = aLdA 0 61 := (y_X7_idle_3 3).trans rfl
theorem n_X7_idle_61 : nth t_X7_idle 61 = aLdI 2 62 := (y_X7_idle_3 4).trans rfl
theorem n_X7_idle_62 : nth t_X7_idle 62 = aPutI 42 [6] 65 := (y_X7_idle_3 5).trans rfl
theorem n_X7_idle_65 : nth t_X7_idle 65 = aLdA 0 66 := (y_X7_idle_3 8).trans rfl
theorem n_X7_idle_66 : nth t_X7_idle 66 = aK (.int 40) 68 := (y_X7_idle_3 9).trans rfl
theorem n_X7_idle_68 : nth t_X7_idle 68 = aCalV 177 1 71 [6] none := (y_X7_idle_3 11).trans rfl
theorem n_X7_idle_71 : nth t_X7_idle 71 = aLdA 0 72 := (y_X7_idle_3 14).trans rfl
theorem n_X7_idle_72 : nth t_X7_idle 72 = aK (.int 2) 73 := (y_X7_idle_3 15).trans rfl
theorem n_X7_idle_73 : nth t_X7_idle 73 = aCalV 200 1 76 [6] none := (y_X7_idle_3 16).trans rfl
theorem n_X7_idle_76 : nth t_X7_idle 76 = aIfEq 79 82 := (y_X7_idle_3 19).trans rfl
theorem n_X7_idle_79 : nth t_X7_idle 79 = aGoto 102 := (y_X7_idle_3 22).trans rfl
theorem y_X7_idle_4 (n : Nat) : nth t_X7_idle (n + 82) = nth t_X7_idle_c4 n := (y_X7_idle_3 (n + 25)).trans rfl
theorem n_X7_idle_82 : nth t_X7_idle 82 = aLdA 0 83 := (y_X7_idle_4 0).trans rfl
theorem n_X7_idle_83 : nth t_X7_idle 83 = aGetR 48 [6] 86 := (y_X7_idle_4 1).trans rfl
theorem n_X7_idle_86 : nth t_X7_idle 86 = aLdA 0 87 := (y_X7_idle_4 4).trans rfl
theorem n_X7_idle_87 : nth t_X7_idle 87 = aGetI 53 [6] 90 := (y_X7_idle_4 5).trans rfl
theorem n_X7_idle_90 : nth t_X7_idle 90 = aLdI 2 91 := (y_X7_idle_4 8).trans rfl
theorem n_X7_idle_91 : nth t_X7_idle 91 = aAstI 92 := (y_X7_idle_4 9).trans rfl
theorem n_X7_idle_92 : nth t_X7_idle 92 = aLdA 0 93 := (y_X7_idle_4 10).trans rfl
theorem n_X7_idle_93 : nth t_X7_idle 93 = aDup 94 := (y_X7_idle_4 11).trans rfl
theorem n_X7_idle_94 : nth t_X7_idle 94 = aGetI 53 [6] 97 := (y_X7_idle_4 12).trans rfl
theorem n_X7_idle_97 : nth t_X7_idle 97 = aK (.int 1) 98 := (y_X7_idle_4 15).trans rfl
theorem n_X7_idle_98 : nth t_X7_idle 98 = aB (fun x y => x + y) 99 := (y_X7_idle_4 16).trans rfl
theorem n_X7_idle_99 : nth t_X7_idle 99 = aPutI 53 [6] 102 := (y_X7_idle_4 17).trans rfl
theorem y_X7_idle_5 (n : Nat) : nth t_X7_idle (n + 102) = nth t_X7_idle_c5 n := (y_X7_idle_4 (n + 20)).trans rfl
theorem n_X7_idle_102 : nth t_X7_idle 102 = aInc 2 1 105 := (y_X7_idle_5 0).trans rfl
theorem n_X7_idle_105 : nth t_X7_idle 105 = aGoto 50 := (y_X7_idle_5 3).trans rfl
theorem n_X7_idle_108 : nth t_X7_idle 108 = aLdA 0 109 := (y_X7_idle_5 6).trans rfl
theorem n_X7_idle_109 : nth t_X7_idle 109 = aK (.int (-1)) 110 := (y_X7_idle_5 7).trans rfl
theorem n_X7_idle_110 : nth t_X7_idle 110 = aPutI 42 [6] 113 := (y_X7_idle_5 8).trans rfl
theorem n_X7_idle_113 : nth t_X7_idle 113 = aLdA 0 114 := (y_X7_idle_5 11).trans rfl
theorem n_X7_idle_114 : nth t_X7_idle 114 = aGetI 53 [6] 117 := (y_X7_idle_5 12).trans rfl
theorem n_X7_idle_117 : nth t_X7_idle 117 = aRetI := (y_X7_idle_5 15).trans rfl
theorem n_X7_isLike_0 : nth t_X7_isLike 0 = aLdA 0 1 := rfl
theorem n_X7_isLike_1 : nth t_X7_isLike 1 = aGetR 30 [6] 4 := rfl
theorem n_X7_isLike_4 : nth t_X7_isLike 4 = aK (.int 0) 5 := rfl
theorem n_X7_isLike_5 : nth t_X7_isLike 5 = aAldI 6 := rfl
theorem n_X7_isLike_6 : nth t_X7_isLike 6 = aLdA 0 7 := rfl
theorem n_X7_isLike_7 : nth t_X7_isLike 7 = aGetR 30 [6] 10 := rfl
theorem n_X7_isLike_10 : nth t_X7_isLike 10 = aLdI 1 11 := rfl
theorem n_X7_isLike_11 : nth t_X7_isLike 11 = aAldI 12 := rfl
theorem n_X7_isLike_12 : nth t_X7_isLike 12 = aIcEq 15 45 := rfl
theorem n_X7_isLike_15 : nth t_X7_isLike 15 = aLdA 0 16 := rfl
theorem n_X7_isLike_16 : nth t_X7_isLike 16 = aGetR 31 [6] 19 := rfl
theorem n_X7_isLike_19 : nth t_X7_isLike 19 = aK (.int 0) 20 := rfl
theorem y_X7_isLike_1 (n : Nat) : nth t_X7_isLike (n + 20) = nth t_X7_isLike_c1 n := rfl
theorem n_X7_isLike_20 : nth t_X7_isLike 20 = aAldI 21 := (y_X7_isLike_1 0).trans rfl
theorem n_X7_isLike_21 : nth t_X7_isLike 21 = aLdA 0 22 := (y_X7_isLike_1 1).trans rfl
theorem n_X7_isLike_22 : nth t_X7_isLike 22 = aGetR 31 [6] 25 := (y_X7_isLike_1 2).trans rfl
theorem n_X7_isLike_25 : nth t_X7_isLike 25 = aLdI 1 26 := (y_X7_isLike_1 5).trans rfl
theorem n_X7_isLike_26 : nth t_X7_isLike 26 = aAldI 27 := (y_X7_isLike_1 6).trans rfl
theorem n_X7_isLike_27 : nth t_X7_isLike 27 = aIcEq 30 45 := (y_X7_isLike_1 7).trans rfl
theorem n_X7_isLike_30 : nth t_X7_isLike 30 = aLdA 0 31 := (y_X7_isLike_1 10).trans rfl
theorem n_X7_isLike_31 : nth t_X7_isLike 31 = aGetR 32 [6] 34 := (y_X7_isLike_1 11).trans rfl
theorem n_X7_isLike_34 : nth t_X7_isLike 34 = aK (.int 0) 35 := (y_X7_isLike_1 14).trans rfl
theorem n_X7_isLike_35 : nth t_X7_isLike 35 = aAldI 36 := (y_X7_isLike_1 15).trans rfl
theorem n_X7_isLike_36 : nth t_X7_isLike 36 = aLdA 0 37 := (y_X7_isLike_1 16).trans rfl
theorem n_X7_isLike_37 : nth t_X7_isLike 37 = aGetR 32 [6] 40 := (y_X7_isLike_1 17).trans rfl
theorem y_X7_isLike_2 (n : Nat) : nth t_X7_isLike (n + 40) = nth t_X7_isLike_c2 n := (y_X7_isLike_1 (n + 20)).trans rfl
theorem n_X7_isLike_40 : nth t_X7_isLike 40 = aLdI 1 41 := (y_X7_isLike_2 0).trans rfl
theorem n_X7_isLike_41 : nth t_X7_isLike 41 = aAldI 42 := (y_X7_isLike_2 1).trans rfl
theorem n_X7_isLike_42 : nth t_X7_isLike 42 = aIcEq 47 45 := (y_X7_isLike_2 2).trans rfl
theorem n_X7_isLike_45 : nth t_X7_isLike 45 = aK (.int 0) 46 := (y_X7_isLike_2 5).trans rfl
theorem n_X7_isLike_46 : nth t_X7_isLike 46 = aRetZ := (y_X7_isLike_2 6).trans rfl
theorem n_X7_isLike_47 : nth t_X7_isLike 47 = aK (.int 0) 48 := (y_X7_isLike_2 7).trans rfl
theorem n_X7_isLike_48 : nth t_X7_isLike 48 = aStI 2 49 := (y_X7_isLike_2 8).trans rfl
theorem n_X7_isLike_49 : nth t_X7_isLike 49 = aLdI 2 50 := (y_X7_isLike_2 9).trans rfl
theorem n_X7_isLike_50 : nth t_X7_isLike 50 = aK (.int 4) 51 := (y_X7_isLike_2 10).trans rfl
theorem n_X7_isLike_51 : nth t_X7_isLike 51 = aIcLt 54 81 := (y_X7_isLike_2 11).trans rfl
theorem n_X7_isLike_54 : nth t_X7_isLike 54 = aLdA 0 55 := (y_X7_isLike_2 14).trans rfl
theorem n_X7_isLike_55 : nth t_X7_isLike 55 = aGetR 34 [6] 58 := (y_X7_isLike_2 15).trans rfl
theorem y_X7_isLike_3 (n : Nat) : nth t_X7_isLike (n + 58) = nth t_X7_isLike_c3 n := (y_X7_isLike_2 (n + 18)).trans rfl
theorem n_X7_isLike_58 : nth t_X7_isLike 58 = aLdI 2 59 := (y_X7_isLike_3 0).trans rfl
theorem n_X7_isLike_59 : nth t_X7_isLike 59 = aAldI 60 := (y_X7_isLike_3 1).trans rfl
theorem n_X7_isLike_60 : nth t_X7_isLike 60 = aLdA 0 61 := (y_X7_isLike_3 2).trans rfl
theorem n_X7_isLike_61 : nth t_X7_isLike 61 = aGetR 34 [6] 64 := (y_X7_isLike_3 3).trans rfl
theorem n_X7_isLike_64 : nth t_X7_isLike 64 = aK (.int 4) 65 := (y_X7_isLike_3 6).trans rfl
theorem n_X7_isLike_65 : nth t_X7_isLike 65 = aLdI 1 66 := (y_X7_isLike_3 7).trans rfl
theorem n_X7_isLike_66 : nth t_X7_isLike 66 = aB (fun x y => x * y) 67 := (y_X7_isLike_3 8).trans rfl
theorem n_X7_isLike_67 : nth t_X7_isLike 67 = aLdI 2 68 := (y_X7_isLike_3 9).trans rfl
theorem n_X7_isLike_68 : nth t_X7_isLike 68 = aB (fun x y => x + y) 69 := (y_X7_isLike_3 10).trans rfl
theorem n_X7_isLike_69 : nth t_X7_isLike 69 = aAldI 70 := (y_X7_isLike_3 11).trans rfl
theorem n_X7_isLike_70 : nth t_X7_isLike 70 = aIcEq 75 73 := (y_X7_isLike_3 12).trans rfl
theorem n_X7_isLike_73 : nth t_X7_isLike 73 = aK (.int 0) 74 := (y_X7_isLike_3 15).trans rfl
theorem y_X7_isLike_4 (n : Nat) : nth t_X7_isLike (n + 74) = nth t_X7_isLike_c4 n := (y_X7_isLike_3 (n + 16)).trans rfl
theorem n_X7_isLike_74 : nth t_X7_isLike 74 = aRetZ := (y_X7_isLike_4 0).trans rfl
theorem n_X7_isLike_75 : nth t_X7_isLike 75 = aInc 2 1 78 := (y_X7_isLike_4 1).trans rfl
theorem n_X7_isLike_78 : nth t_X7_isLike 78 = aGoto 49 := (y_X7_isLike_4 4).trans rfl
theorem n_X7_isLike_81 : nth t_X7_isLike 81 = aK (.int 0) 82 := (y_X7_isLike_4 7).trans rfl
theorem n_X7_isLike_82 : nth t_X7_isLike 82 = aStI 2 83 := (y_X7_isLike_4 8).trans rfl
theorem n_X7_isLike_83 : nth t_X7_isLike 83 = aLdI 2 84 := (y_X7_isLike_4 9).trans rfl
theorem n_X7_isLike_84 : nth t_X7_isLike 84 = aK (.int 12) 86 := (y_X7_isLike_4 10).trans rfl
theorem n_X7_isLike_86 : nth t_X7_isLike 86 = aLdA 0 87 := (y_X7_isLike_4 12).trans rfl
theorem n_X7_isLike_87 : nth t_X7_isLike 87 = aGetR 31 [6] 90 := (y_X7_isLike_4 13).trans rfl
theorem n_X7_isLike_90 : nth t_X7_isLike 90 = aK (.int 0) 91 := (y_X7_isLike_4 16).trans rfl
theorem n_X7_isLike_91 : nth t_X7_isLike 91 = aAldI 92 := (y_X7_isLike_4 17).trans rfl
theorem n_X7_isLike_92 : nth t_X7_isLike 92 = aB (fun x y => x * y) 93 := (y_X7_isLike_4 18).trans rfl
theorem y_X7_isLike_5 (n : Nat) : nth t_X7_isLike (n + 93) = nth t_X7_isLike_c5 n := (y_X7_isLike_4 (n + 19)).trans rfl
theorem n_X7_isLike_93 : nth t_X7_isLike 93 = aIcLt 96 125 := (y_X7_isLike_5 0).trans rfl
theorem n_X7_isLike_96 : nth t_X7_isLike 96 = aLdA 0 97 := (y_X7_isLike_5 3).trans rfl
theorem n_X7_isLike_97 : nth t_X7_isLike 97 = aGetR 33 [6] 100 := (y_X7_isLike_5 4).trans rfl
theorem n_X7_isLike_100 : nth t_X7_isLike 100 = aLdI 2 101 := (y_X7_isLike_5 7).trans rfl
theorem n_X7_isLike_101 : nth t_X7_isLike 101 = aAldI 102 := (y_X7_isLike_5 8).trans rfl
theorem n_X7_isLike_102 : nth t_X7_isLike 102 = aLdA 0 103 := (y_X7_isLike_5 9).trans rfl
theorem n_X7_isLike_103 : nth t_X7_isLike 103 = aGetR 33 [6] 106 := (y_X7_isLike_5 10).trans rfl
theorem n_X7_isLike_106 : nth t_X7_isLike 106 = aK (.int 720) 109 := (y_X7_isLike_5 13).trans rfl
theorem n_X7_isLike_109 : nth t_X7_isLike 109 = aLdI 1 110 := (y_X7_isLike_5 16).trans rfl
theorem n_X7_isLike_110 : nth t_X7_isLike 110 = aB (fun x y => x * y) 111 := (y_X7_isLike_5 17).trans rfl
theorem n_X7_isLike_111 : nth t_X7_isLike 111 = aLdI 2 112 := (y_X7_isLike_5 18).trans rfl
theorem n_X7_isLike_112 : nth t_X7_isLike 112 = aB (fun x y => x + y) 113 := (y_X7_isLike_5 19).trans rfl
theorem y_X7_isLike_6 (n : Nat) : nth t_X7_isLike (n + 113) = nth t_X7_isLike_c6 n := (y_X7_isLike_5 (n + 20)).trans rfl
theorem n_X7_isLike_113 : nth t_X7_isLike 113 = aAldI 114 := (y_X7_isLike_6 0).trans rfl
theorem n_X7_isLike_114 : nth t_X7_isLike 114 = aIcEq 119 117 := (y_X7_isLike_6 1).trans rfl
theorem n_X7_isLike_117 : nth t_X7_isLike 117 = aK (.int 0) 118 := (y_X7_isLike_6 4).trans rfl
theorem n_X7_isLike_118 : nth t_X7_isLike 118 = aRetZ := (y_X7_isLike_6 5).trans rfl
theorem n_X7_isLike_119 : nth t_X7_isLike 119 = aInc 2 1 122 := (y_X7_isLike_6 6).trans rfl
theorem n_X7_isLike_122 : nth t_X7_isLike 122 = aGoto 83 := (y_X7_isLike_6 9).trans rfl
theorem n_X7_isLike_125 : nth t_X7_isLike 125 = aK (.int 0) 126 := (y_X7_isLike_6 12).trans rfl
theorem n_X7_isLike_126 : nth t_X7_isLike 126 = aStI 2 127 := (y_X7_isLike_6 13).trans rfl
theorem n_X7_isLike_127 : nth t_X7_isLike 127 = aLdI 2 128 := (y_X7_isLike_6 14).trans rfl
theorem n_X7_isLike_128 : nth t_X7_isLike 128 = aK (.int 20) 130 := (y_X7_isLike_6 15).trans rfl
theorem n_X7_isLike_130 : nth t_X7_isLike 130 = aLdA 0 131 := (y_X7_isLike_6 17).trans rfl
theorem n_X7_isLike_131 : nth t_X7_isLike 131 = aGetR 32 [6] 134 := (y_X7_isLike_6 18).trans rfl
theorem y_X7_isLike_7 (n : Nat) : nth t_X7_isLike (n + 134) = nth t_X7_isLike_c7 n := (y_X7_isLike_6 (n + 21)).trans rfl
theorem n_X7_isLike_134 : nth t_X7_isLike 134 = aK (.int 0) 135 := (y_X7_isLike_7 0).trans rfl
theorem n_X7_isLike_135 : nth t_X7_isLike 135 = aAldI 136 := (y_X7_isLike_7 1).trans rfl
theorem n_X7_isLike_136 : nth t_X7_isLike 136 = aB (fun x y => x * y) 137 := (y_X7_isLike_7 2).trans rfl
theorem n_X7_isLike_137 : nth t_X7_isLike 137 = aIcLt 140 169 := (y_X7_isLike_7 3).trans rfl
theorem n_X7_isLike_140 : nth t_X7_isLike 140 = aLdA 0 141 := (y_X7_isLike_7 6).trans rfl
theorem n_X7_isLike_141 : nth t_X7_isLike 141 = aGetR 35 [6] 144 := (y_X7_isLike_7 7).trans rfl
theorem n_X7_isLike_144 : nth t_X7_isLike 144 = aLdI 2 145 := (y_X7_isLike_7 10).trans rfl
theorem n_X7_isLike_145 : nth t_X7_isLike 145 = aAldI 146 := (y_X7_isLike_7 11).trans rfl
theorem n_X7_isLike_146 : nth t_X7_isLike 146 = aLdA 0 147 := (y_X7_isLike_7 12).trans rfl
theorem n_X7_isLike_147 : nth t_X7_isLike 147 = aGetR 35 [6] 150 := (y_X7_isLike_7 13).trans rfl
theorem n_X7_isLike_150 : nth t_X7_isLike 150 = aK (.int 800) 153 := (y_X7_isLike_7 16).trans rfl
theorem n_X7_isLike_153 : nth t_X7_isLike 153 = aLdI 1 154 := (y_X7_isLike_7 19).trans rfl
theorem y_X7_isLike_8 (n : Nat) : nth t_X7_isLike (n + 154) = nth t_X7_isLike_c8 n := (y_X7_isLike_7 (n + 20)).trans rfl
theorem n_X7_isLike_154 : nth t_X7_isLike 154 = aB (fun x y => x * y) 155 := (y_X7_isLike_8 0).trans rfl
theorem n_X7_isLike_155 : nth t_X7_isLike 155 = aLdI 2 156 := (y_X7_isLike_8 1).trans rfl
theorem n_X7_isLike_156 : nth t_X7_isLike 156 = aB (fun x y => x + y) 157 := (y_X7_isLike_8 2).trans rfl
theorem n_X7_isLike_157 : nth t_X7_isLike 157 = aAldI 158 := (y_X7_isLike_8 3).trans rfl
theorem n_X7_isLike_158 : nth t_X7_isLike 158 = aIcEq 163 161 := (y_X7_isLike_8 4).trans rfl
theorem n_X7_isLike_161 : nth t_X7_isLike 161 = aK (.int 0) 162 := (y_X7_isLike_8 7).trans rfl
theorem n_X7_isLike_162 : nth t_X7_isLike 162 = aRetZ := (y_X7_isLike_8 8).trans rfl
theorem n_X7_isLike_163 : nth t_X7_isLike 163 = aInc 2 1 166 := (y_X7_isLike_8 9).trans rfl
theorem n_X7_isLike_166 : nth t_X7_isLike 166 = aGoto 127 := (y_X7_isLike_8 12).trans rfl
theorem n_X7_isLike_169 : nth t_X7_isLike 169 = aK (.int 1) 170 := (y_X7_isLike_8 15).trans rfl
theorem n_X7_isLike_170 : nth t_X7_isLike 170 = aRetZ := (y_X7_isLike_8 16).trans rfl
theorem n_X7_missing_0 : nth t_X7_missing 0 = aLdA 0 1 := rfl
theorem n_X7_missing_1 : nth t_X7_missing 1 = aK (.int 0) 2 := rfl
theorem n_X7_missing_2 : nth t_X7_missing 2 = aPutI 0 [6] 5 := rfl
theorem n_X7_missing_5 : nth t_X7_missing 5 = aLdA 0 6 := rfl
theorem n_X7_missing_6 : nth t_X7_missing 6 = aCalV 202 0 9 [6] none := rfl
theorem n_X7_missing_9 : nth t_X7_missing 9 = aIfEq 19 12 := rfl
theorem n_X7_missing_12 : nth t_X7_missing 12 = aLdI 1 13 := rfl
theorem n_X7_missing_13 : nth t_X7_missing 13 = aCalS 153 1 16 none := rfl
theorem n_X7_missing_16 : nth t_X7_missing 16 = aIfEq 19 21 := rfl
theorem n_X7_missing_19 : nth t_X7_missing 19 = aK (.int (-1)) 20 := rfl
theorem n_X7_missing_20 : nth t_X7_missing 20 = aRetI := rfl
theorem n_X7_missing_21 : nth t_X7_missing 21 = aLdA 0 22 := rfl
theorem y_X7_missing_1 (n : Nat) : nth t_X7_missing (n + 22) = nth t_X7_missing_c1 n := rfl
theorem n_X7_missing_22 : nth t_X7_missing 22 = aLdI 1 23 := (y_X7_missing_1 0).trans rfl
theorem n_X7_missing_23 : nth t_X7_missing 23 = aK (.int 0) 24 := (y_X7_missing_1 1).trans rfl
theorem n_X7_missing_24 : nth t_X7_missing 24 = aLdA 0 25 := (y_X7_missing_1 2).trans rfl
theorem n_X7_missing_25 : nth t_X7_missing 25 = aGetR 6 [6] 28 := (y_X7_missing_1 3).trans rfl
theorem n_X7_missing_28 : nth t_X7_missing 28 = aLdI 1 29 := (y_X7_missing_1 6).trans rfl
theorem n_X7_missing_29 : nth t_X7_missing 29 = aAldI 30 := (y_X7_missing_1 7).trans rfl
theorem n_X7_missing_30 : nth t_X7_missing 30 = aK (.int (-1)) 31 := (y_X7_missing_1 8).trans rfl
theorem n_X7_missing_31 : nth t_X7_missing 31 = aCalV 176 4 34 [6] none := (y_X7_missing_1 9).trans rfl
theorem n_X7_missing_34 : nth t_X7_missing 34 = aLdA 0 35 := (y_X7_missing_1 12).trans rfl
theorem n_X7_missing_35 : nth t_X7_missing 35 = aK (.int 0) 36 := (y_X7_missing_1 13).trans rfl
theorem n_X7_missing_36 : nth t_X7_missing 36 = aPutI 53 [6] 39 := (y_X7_missing_1 14).trans rfl
theorem n_X7_missing_39 : nth t_X7_missing 39 = aK (.int 0) 40 := (y_X7_missing_1 17).trans rfl
theorem y_X7_missing_2 (n : Nat) : nth t_X7_missing (n + 40) = nth t_X7_missing_c2 n := (y_X7_missing_1 (n + 18)).trans rfl
theorem n_X7_missing_40 : nth t_X7_missing 40 = aStI 2 41 := (y_X7_missing_2 0).trans rfl
theorem n_X7_missing_41 : nth t_X7_missing 41 = aLdI 2 42 := (y_X7_missing_2 1).trans rfl
theorem n_X7_missing_42 : nth t_X7_missing 42 = aLdA 0 43 := (y_X7_missing_2 2).trans rfl
theorem n_X7_missing_43 : nth t_X7_missing 43 = aGetR 17 [6] 46 := (y_X7_missing_2 3).trans rfl
theorem n_X7_missing_46 : nth t_X7_missing 46 = aK (.int 0) 47 := (y_X7_missing_2 6).trans rfl
theorem n_X7_missing_47 : nth t_X7_missing 47 = aAldI 48 := (y_X7_missing_2 7).trans rfl
theorem n_X7_missing_48 : nth t_X7_missing 48 = aIcLt 51 98 := (y_X7_missing_2 8).trans rfl
theorem n_X7_missing_51 : nth t_X7_missing 51 = aLdA 0 52 := (y_X7_missing_2 11).trans rfl
theorem n_X7_missing_52 : nth t_X7_missing 52 = aLdI 2 53 := (y_X7_missing_2 12).trans rfl
theorem n_X7_missing_53 : nth t_X7_missing 53 = aPutI 42 [6] 56 := (y_X7_missing_2 13).trans rfl
theorem n_X7_missing_56 : nth t_X7_missing 56 = aLdA 0 57 := (y_X7_missing_2 16).trans rfl
theorem n_X7_missing_57 : nth t_X7_missing 57 = aK (.int 40) 59 := (y_X7_missing_2 17).trans rfl
theorem y_X7_missing_3 (n : Nat) : nth t_X7_missing (n + 59) = nth t_X7_missing_c3 n := (y_X7_missing_2 (n + 19)).trans rfl
theorem n_X7_missing_59 : nth t_X7_missing 59 = aCalV 177 1 62 [6] none := (y_X7_missing_3 0).trans rfl
theorem n_X7_missing_62 : nth t_X7_missing 62 = aLdA 0 63 := (y_X7_missing_3 3).trans rfl
theorem n_X7_missing_63 : nth t_X7_missing 63 = aCalV 203 0 66 [6] none := (y_X7_missing_3 4).trans rfl
theorem n_X7_missing_66 : nth t_X7_missing 66 = aIfEq 69 72 := (y_X7_missing_3 7).trans rfl
theorem n_X7_missing_69 : nth t_X7_missing 69 = aGoto 92 := (y_X7_missing_3 10).trans rfl
theorem n_X7_missing_72 : nth t_X7_missing 72 = aLdA 0 73 := (y_X7_missing_3 13).trans rfl
theorem n_X7_missing_73 : nth t_X7_missing 73 = aGetR 48 [6] 76 := (y_X7_missing_3 14).trans rfl
theorem n_X7_missing_76 : nth t_X7_missing 76 = aLdA 0 77 := (y_X7_missing_3 17).trans rfl
theorem n_X7_missing_77 : nth t_X7_missing 77 = aGetI 53 [6] 80 := (y_X7_missing_3 18).trans rfl
theorem n_X7_missing_80 : nth t_X7_missing 80 = aLdI 2 81 := (y_X7_missing_3 21).trans rfl
theorem n_X7_missing_81 : nth t_X7_missing 81 = aAstI 82 := (y_X7_missing_3 22).trans rfl
theorem n_X7_missing_82 : nth t_X7_missing 82 = aLdA 0 83 := (y_X7_missing_3 23).trans rfl
theorem y_X7_missing_4 (n : Nat) : nth t_X7_missing (n + 83) = nth t_X7_missing_c4 n := (y_X7_missing_3 (n + 24)).trans rfl
theorem n_X7_missing_83 : nth t_X7_missing 83 = aDup 84 := (y_X7_missing_4 0).trans rfl
theorem n_X7_missing_84 : nth t_X7_missing 84 = aGetI 53 [6] 87 := (y_X7_missing_4 1).trans rfl
theorem n_X7_missing_87 : nth t_X7_missing 87 = aK (.int 1) 88 := (y_X7_missing_4 4).trans rfl
theorem n_X7_missing_88 : nth t_X7_missing 88 = aB (fun x y => x + y) 89 := (y_X7_missing_4 5).trans rfl
theorem n_X7_missing_89 : nth t_X7_missing 89 = aPutI 53 [6] 92 := (y_X7_missing_4 6).trans rfl
theorem n_X7_missing_92 : nth t_X7_missing 92 = aInc 2 1 95 := (y_X7_missing_4 9).trans rfl
theorem n_X7_missing_95 : nth t_X7_missing 95 = aGoto 41 := (y_X7_missing_4 12).trans rfl
theorem n_X7_missing_98 : nth t_X7_missing 98 = aLdA 0 99 := (y_X7_missing_4 15).trans rfl
theorem n_X7_missing_99 : nth t_X7_missing 99 = aK (.int (-1)) 100 := (y_X7_missing_4 16).trans rfl
theorem n_X7_missing_100 : nth t_X7_missing 100 = aPutI 42 [6] 103 := (y_X7_missing_4 17).trans rfl
theorem n_X7_missing_103 : nth t_X7_missing 103 = aLdA 0 104 := (y_X7_missing_4 20).trans rfl
theorem n_X7_missing_104 : nth t_X7_missing 104 = aGetI 53 [6] 107 := (y_X7_missing_4 21).trans rfl
theorem y_X7_missing_5 (n : Nat) : nth t_X7_missing (n + 107) = nth t_X7_missing_c5 n := (y_X7_missing_4 (n + 24)).trans rfl
theorem n_X7_missing_107 : nth t_X7_missing 107 = aRetI := (y_X7_missing_5 0).trans rfl
theorem n_X7_takeLines_0 : nth t_X7_takeLines 0 = aLdA 0 1 := rfl
theorem n_X7_takeLines_1 : nth t_X7_takeLines 1 = aCalV 152 0 4 [6] none := rfl
theorem n_X7_takeLines_4 : nth t_X7_takeLines 4 = aLdA 0 5 := rfl
theorem n_X7_takeLines_5 : nth t_X7_takeLines 5 = aGetI 3 [6] 8 := rfl
theorem n_X7_takeLines_8 : nth t_X7_takeLines 8 = aK (.int 12) 10 := rfl
theorem n_X7_takeLines_10 : nth t_X7_takeLines 10 = aRem 11 := rfl
theorem n_X7_takeLines_11 : nth t_X7_takeLines 11 = aIfEq 14 24 := rfl
theorem n_X7_takeLines_14 : nth t_X7_takeLines 14 = aLdA 0 15 := rfl
theorem n_X7_takeLines_15 : nth t_X7_takeLines 15 = aGetI 3 [6] 18 := rfl
theorem n_X7_takeLines_18 : nth t_X7_takeLines 18 = aK (.int 720) 21 := rfl
theorem n_X7_takeLines_21 : nth t_X7_takeLines 21 = aIcLe 26 24 := rfl
theorem n_X7_takeLines_24 : nth t_X7_takeLines 24 = aK (.int 0) 25 := rfl
theorem y_X7_takeLines_1 (n : Nat) : nth t_X7_takeLines (n + 25) = nth t_X7_takeLines_c1 n := rfl
theorem n_X7_takeLines_25 : nth t_X7_takeLines 25 = aRetZ := (y_X7_takeLines_1 0).trans rfl
theorem n_X7_takeLines_26 : nth t_X7_takeLines 26 = aK (.int 0) 27 := (y_X7_takeLines_1 1).trans rfl
theorem n_X7_takeLines_27 : nth t_X7_takeLines 27 = aStI 1 28 := (y_X7_takeLines_1 2).trans rfl
theorem n_X7_takeLines_28 : nth t_X7_takeLines 28 = aLdI 1 29 := (y_X7_takeLines_1 3).trans rfl
theorem n_X7_takeLines_29 : nth t_X7_takeLines 29 = aLdA 0 30 := (y_X7_takeLines_1 4).trans rfl
theorem n_X7_takeLines_30 : nth t_X7_takeLines 30 = aGetI 3 [6] 33 := (y_X7_takeLines_1 5).trans rfl
theorem n_X7_takeLines_33 : nth t_X7_takeLines 33 = aIcLt 36 64 := (y_X7_takeLines_1 8).trans rfl
theorem n_X7_takeLines_36 : nth t_X7_takeLines 36 = aLdA 0 37 := (y_X7_takeLines_1 11).trans rfl
theorem n_X7_takeLines_37 : nth t_X7_takeLines 37 = aLdI 1 38 := (y_X7_takeLines_1 12).trans rfl
theorem n_X7_takeLines_38 : nth t_X7_takeLines 38 = aCalV 155 1 41 [6] none := (y_X7_takeLines_1 13).trans rfl
theorem n_X7_takeLines_41 : nth t_X7_takeLines 41 = aK (.int 9) 43 := (y_X7_takeLines_1 16).trans rfl
theorem n_X7_takeLines_43 : nth t_X7_takeLines 43 = aIcLe 58 46 := (y_X7_takeLines_1 18).trans rfl
theorem y_X7_takeLines_2 (n : Nat) : nth t_X7_takeLines (n + 46) = nth t_X7_takeLines_c2 n := (y_X7_takeLines_1 (n + 21)).trans rfl
theorem n_X7_takeLines_46 : nth t_X7_takeLines 46 = aLdA 0 47 := (y_X7_takeLines_2 0).trans rfl
theorem n_X7_takeLines_47 : nth t_X7_takeLines 47 = aLdI 1 48 := (y_X7_takeLines_2 1).trans rfl
theorem n_X7_takeLines_48 : nth t_X7_takeLines 48 = aCalV 155 1 51 [6] none := (y_X7_takeLines_2 2).trans rfl
theorem n_X7_takeLines_51 : nth t_X7_takeLines 51 = aK (.int 15) 53 := (y_X7_takeLines_2 5).trans rfl
theorem n_X7_takeLines_53 : nth t_X7_takeLines 53 = aIcEq 58 56 := (y_X7_takeLines_2 7).trans rfl
theorem n_X7_takeLines_56 : nth t_X7_takeLines 56 = aK (.int 0) 57 := (y_X7_takeLines_2 10).trans rfl
theorem n_X7_takeLines_57 : nth t_X7_takeLines 57 = aRetZ := (y_X7_takeLines_2 11).trans rfl
theorem n_X7_takeLines_58 : nth t_X7_takeLines 58 = aInc 1 1 61 := (y_X7_takeLines_2 12).trans rfl
theorem n_X7_takeLines_61 : nth t_X7_takeLines 61 = aGoto 28 := (y_X7_takeLines_2 15).trans rfl
theorem n_X7_takeLines_64 : nth t_X7_takeLines 64 = aK (.int 0) 65 := (y_X7_takeLines_2 18).trans rfl
theorem n_X7_takeLines_65 : nth t_X7_takeLines 65 = aStI 1 66 := (y_X7_takeLines_2 19).trans rfl
theorem n_X7_takeLines_66 : nth t_X7_takeLines 66 = aLdI 1 67 := (y_X7_takeLines_2 20).trans rfl
theorem y_X7_takeLines_3 (n : Nat) : nth t_X7_takeLines (n + 67) = nth t_X7_takeLines_c3 n := (y_X7_takeLines_2 (n + 21)).trans rfl
theorem n_X7_takeLines_67 : nth t_X7_takeLines 67 = aLdA 0 68 := (y_X7_takeLines_3 0).trans rfl
theorem n_X7_takeLines_68 : nth t_X7_takeLines 68 = aGetI 3 [6] 71 := (y_X7_takeLines_3 1).trans rfl
theorem n_X7_takeLines_71 : nth t_X7_takeLines 71 = aIcLt 74 91 := (y_X7_takeLines_3 4).trans rfl
theorem n_X7_takeLines_74 : nth t_X7_takeLines 74 = aLdA 0 75 := (y_X7_takeLines_3 7).trans rfl
theorem n_X7_takeLines_75 : nth t_X7_takeLines 75 = aGetR 50 [6] 78 := (y_X7_takeLines_3 8).trans rfl
theorem n_X7_takeLines_78 : nth t_X7_takeLines 78 = aLdI 1 79 := (y_X7_takeLines_3 11).trans rfl
theorem n_X7_takeLines_79 : nth t_X7_takeLines 79 = aLdA 0 80 := (y_X7_takeLines_3 12).trans rfl
theorem n_X7_takeLines_80 : nth t_X7_takeLines 80 = aLdI 1 81 := (y_X7_takeLines_3 13).trans rfl
theorem n_X7_takeLines_81 : nth t_X7_takeLines 81 = aCalV 155 1 84 [6] none := (y_X7_takeLines_3 14).trans rfl
theorem n_X7_takeLines_84 : nth t_X7_takeLines 84 = aAstI 85 := (y_X7_takeLines_3 17).trans rfl
theorem n_X7_takeLines_85 : nth t_X7_takeLines 85 = aInc 1 1 88 := (y_X7_takeLines_3 18).trans rfl
theorem n_X7_takeLines_88 : nth t_X7_takeLines 88 = aGoto 66 := (y_X7_takeLines_3 21).trans rfl
theorem y_X7_takeLines_4 (n : Nat) : nth t_X7_takeLines (n + 91) = nth t_X7_takeLines_c4 n := (y_X7_takeLines_3 (n + 24)).trans rfl
theorem n_X7_takeLines_91 : nth t_X7_takeLines 91 = aLdA 0 92 := (y_X7_takeLines_4 0).trans rfl
theorem n_X7_takeLines_92 : nth t_X7_takeLines 92 = aLdA 0 93 := (y_X7_takeLines_4 1).trans rfl
theorem n_X7_takeLines_93 : nth t_X7_takeLines 93 = aGetI 3 [6] 96 := (y_X7_takeLines_4 2).trans rfl
theorem n_X7_takeLines_96 : nth t_X7_takeLines 96 = aK (.int 12) 98 := (y_X7_takeLines_4 5).trans rfl
theorem n_X7_takeLines_98 : nth t_X7_takeLines 98 = aDiv 99 := (y_X7_takeLines_4 7).trans rfl
theorem n_X7_takeLines_99 : nth t_X7_takeLines 99 = aPutI 55 [6] 102 := (y_X7_takeLines_4 8).trans rfl
theorem n_X7_takeLines_102 : nth t_X7_takeLines 102 = aK (.int 1) 103 := (y_X7_takeLines_4 11).trans rfl
theorem n_X7_takeLines_103 : nth t_X7_takeLines 103 = aRetZ := (y_X7_takeLines_4 12).trans rfl
theorem n_X7_isWanted_0 : nth t_X7_isWanted 0 = aLdA 0 1 := rfl
theorem n_X7_isWanted_1 : nth t_X7_isWanted 1 = aGetR 31 [6] 4 := rfl
theorem n_X7_isWanted_4 : nth t_X7_isWanted 4 = aK (.int 0) 5 := rfl
theorem n_X7_isWanted_5 : nth t_X7_isWanted 5 = aAldI 6 := rfl
theorem n_X7_isWanted_6 : nth t_X7_isWanted 6 = aLdA 0 7 := rfl
theorem n_X7_isWanted_7 : nth t_X7_isWanted 7 = aGetI 55 [6] 10 := rfl
theorem n_X7_isWanted_10 : nth t_X7_isWanted 10 = aIcEq 15 13 := rfl
theorem n_X7_isWanted_13 : nth t_X7_isWanted 13 = aK (.int 0) 14 := rfl
theorem n_X7_isWanted_14 : nth t_X7_isWanted 14 = aRetZ := rfl
theorem n_X7_isWanted_15 : nth t_X7_isWanted 15 = aK (.int 0) 16 := rfl
theorem n_X7_isWanted_16 : nth t_X7_isWanted 16 = aStI 1 17 := rfl
theorem n_X7_isWanted_17 : nth t_X7_isWanted 17 = aLdI 1 18 := rfl
theorem y_X7_isWanted_1 (n : Nat) : nth t_X7_isWanted (n + 18) = nth t_X7_isWanted_c1 n := rfl
theorem n_X7_isWanted_18 : nth t_X7_isWanted 18 = aK (.int 12) 20 := (y_X7_isWanted_1 0).trans rfl
theorem n_X7_isWanted_20 : nth t_X7_isWanted 20 = aLdA 0 21 := (y_X7_isWanted_1 2).trans rfl
theorem n_X7_isWanted_21 : nth t_X7_isWanted 21 = aGetI 55 [6] 24 := (y_X7_isWanted_1 3).trans rfl
theorem n_X7_isWanted_24 : nth t_X7_isWanted 24 = aB (fun x y => x * y) 25 := (y_X7_isWanted_1 6).trans rfl
theorem n_X7_isWanted_25 : nth t_X7_isWanted 25 = aIcLt 28 51 := (y_X7_isWanted_1 7).trans rfl
theorem n_X7_isWanted_28 : nth t_X7_isWanted 28 = aLdA 0 29 := (y_X7_isWanted_1 10).trans rfl
theorem n_X7_isWanted_29 : nth t_X7_isWanted 29 = aGetR 33 [6] 32 := (y_X7_isWanted_1 11).trans rfl
theorem n_X7_isWanted_32 : nth t_X7_isWanted 32 = aLdI 1 33 := (y_X7_isWanted_1 14).trans rfl
theorem n_X7_isWanted_33 : nth t_X7_isWanted 33 = aAldI 34 := (y_X7_isWanted_1 15).trans rfl
theorem n_X7_isWanted_34 : nth t_X7_isWanted 34 = aLdA 0 35 := (y_X7_isWanted_1 16).trans rfl
theorem n_X7_isWanted_35 : nth t_X7_isWanted 35 = aGetR 50 [6] 38 := (y_X7_isWanted_1 17).trans rfl
theorem n_X7_isWanted_38 : nth t_X7_isWanted 38 = aLdI 1 39 := (y_X7_isWanted_1 20).trans rfl
theorem y_X7_isWanted_2 (n : Nat) : nth t_X7_isWanted (n + 39) = nth t_X7_isWanted_c2 n := (y_X7_isWanted_1 (n + 21)).trans rfl
theorem n_X7_isWanted_39 : nth t_X7_isWanted 39 = aAldI 40 := (y_X7_isWanted_2 0).trans rfl
theorem n_X7_isWanted_40 : nth t_X7_isWanted 40 = aIcEq 45 43 := (y_X7_isWanted_2 1).trans rfl
theorem n_X7_isWanted_43 : nth t_X7_isWanted 43 = aK (.int 0) 44 := (y_X7_isWanted_2 4).trans rfl
theorem n_X7_isWanted_44 : nth t_X7_isWanted 44 = aRetZ := (y_X7_isWanted_2 5).trans rfl
theorem n_X7_isWanted_45 : nth t_X7_isWanted 45 = aInc 1 1 48 := (y_X7_isWanted_2 6).trans rfl
theorem n_X7_isWanted_48 : nth t_X7_isWanted 48 = aGoto 17 := (y_X7_isWanted_2 9).trans rfl
theorem n_X7_isWanted_51 : nth t_X7_isWanted 51 = aK (.int 1) 52 := (y_X7_isWanted_2 12).trans rfl
theorem n_X7_isWanted_52 : nth t_X7_isWanted 52 = aRetZ := (y_X7_isWanted_2 13).trans rfl
theorem n_X7_wire_0 : nth t_X7_wire 0 = aLdA 0 1 := rfl
theorem n_X7_wire_1 : nth t_X7_wire 1 = aK (.int 0) 2 := rfl
theorem n_X7_wire_2 : nth t_X7_wire 2 = aPutI 0 [6] 5 := rfl
theorem n_X7_wire_5 : nth t_X7_wire 5 = aLdI 1 6 := rfl
theorem n_X7_wire_6 : nth t_X7_wire 6 = aK (.int 0) 7 := rfl
theorem n_X7_wire_7 : nth t_X7_wire 7 = aLdA 0 8 := rfl
theorem n_X7_wire_8 : nth t_X7_wire 8 = aGetI 53 [6] 11 := rfl
theorem n_X7_wire_11 : nth t_X7_wire 11 = aK (.int 1) 12 := rfl
theorem n_X7_wire_12 : nth t_X7_wire 12 = aB (fun x y => x - y) 13 := rfl
theorem n_X7_wire_13 : nth t_X7_wire 13 = aCalS 154 3 16 none := rfl
theorem n_X7_wire_16 : nth t_X7_wire 16 = aIfEq 28 19 := rfl
theorem n_X7_wire_19 : nth t_X7_wire 19 = aLdA 0 20 := rfl
theorem y_X7_wire_1 (n : Nat) : nth t_X7_wire (n + 20) = nth t_X7_wire_c1 n := rfl
theorem n_X7_wire_20 : nth t_X7_wire 20 = aGetR 48 [6] 23 := (y_X7_wire_1 0).trans rfl
theorem n_X7_wire_23 : nth t_X7_wire 23 = aLdI 1 24 := (y_X7_wire_1 3).trans rfl
theorem n_X7_wire_24 : nth t_X7_wire 24 = aAldI 25 := (y_X7_wire_1 4).trans rfl
theorem n_X7_wire_25 : nth t_X7_wire 25 = aGoto 29 := (y_X7_wire_1 5).trans rfl
theorem n_X7_wire_28 : nth t_X7_wire 28 = aK (.int (-1)) 29 := (y_X7_wire_1 8).trans rfl
theorem n_X7_wire_29 : nth t_X7_wire 29 = aRetI := (y_X7_wire_1 9).trans rfl
theorem n_X7_tests_0 : nth t_X7_tests 0 = aLdA 0 1 := rfl
theorem n_X7_tests_1 : nth t_X7_tests 1 = aK (.int 0) 2 := rfl
theorem n_X7_tests_2 : nth t_X7_tests 2 = aPutI 0 [6] 5 := rfl
theorem n_X7_tests_5 : nth t_X7_tests 5 = aLdI 1 6 := rfl
theorem n_X7_tests_6 : nth t_X7_tests 6 = aCalS 153 1 9 none := rfl
theorem n_X7_tests_9 : nth t_X7_tests 9 = aIfEq 12 14 := rfl
theorem n_X7_tests_12 : nth t_X7_tests 12 = aK (.int (-1)) 13 := rfl
theorem n_X7_tests_13 : nth t_X7_tests 13 = aRetI := rfl
theorem n_X7_tests_14 : nth t_X7_tests 14 = aLdA 0 15 := rfl
theorem n_X7_tests_15 : nth t_X7_tests 15 = aGetR 6 [6] 18 := rfl
theorem n_X7_tests_18 : nth t_X7_tests 18 = aLdI 1 19 := rfl
theorem n_X7_tests_19 : nth t_X7_tests 19 = aAldI 20 := rfl
theorem y_X7_tests_1 (n : Nat) : nth t_X7_tests (n + 20) = nth t_X7_tests_c1 n := rfl
theorem n_X7_tests_20 : nth t_X7_tests 20 = aK (.int 10) 22 := (y_X7_tests_1 0).trans rfl
theorem n_X7_tests_22 : nth t_X7_tests 22 = aIcLt 25 34 := (y_X7_tests_1 2).trans rfl
theorem n_X7_tests_25 : nth t_X7_tests 25 = aLdA 0 26 := (y_X7_tests_1 5).trans rfl
theorem n_X7_tests_26 : nth t_X7_tests 26 = aGetR 6 [6] 29 := (y_X7_tests_1 6).trans rfl
theorem n_X7_tests_29 : nth t_X7_tests 29 = aLdI 1 30 := (y_X7_tests_1 9).trans rfl
theorem n_X7_tests_30 : nth t_X7_tests 30 = aAldI 31 := (y_X7_tests_1 10).trans rfl
theorem n_X7_tests_31 : nth t_X7_tests 31 = aGoto 36 := (y_X7_tests_1 11).trans rfl
theorem n_X7_tests_34 : nth t_X7_tests 34 = aK (.int 10) 36 := (y_X7_tests_1 14).trans rfl
theorem n_X7_tests_36 : nth t_X7_tests 36 = aStI 2 37 := (y_X7_tests_1 16).trans rfl
theorem n_X7_tests_37 : nth t_X7_tests 37 = aK (.long 0) 38 := (y_X7_tests_1 17).trans rfl
theorem n_X7_tests_38 : nth t_X7_tests 38 = aStL 3 39 := (y_X7_tests_1 18).trans rfl
theorem n_X7_tests_39 : nth t_X7_tests 39 = aK (.int 0) 40 := (y_X7_tests_1 19).trans rfl
theorem y_X7_tests_2 (n : Nat) : nth t_X7_tests (n + 40) = nth t_X7_tests_c2 n := (y_X7_tests_1 (n + 20)).trans rfl
theorem n_X7_tests_40 : nth t_X7_tests 40 = aStI 5 42 := (y_X7_tests_2 0).trans rfl
theorem n_X7_tests_42 : nth t_X7_tests 42 = aLdI 5 44 := (y_X7_tests_2 2).trans rfl
theorem n_X7_tests_44 : nth t_X7_tests 44 = aLdI 2 45 := (y_X7_tests_2 4).trans rfl
theorem n_X7_tests_45 : nth t_X7_tests 45 = aIcLt 48 151 := (y_X7_tests_2 5).trans rfl
theorem n_X7_tests_48 : nth t_X7_tests 48 = aLdA 0 49 := (y_X7_tests_2 8).trans rfl
theorem n_X7_tests_49 : nth t_X7_tests 49 = aK (.int (-1)) 50 := (y_X7_tests_2 9).trans rfl
theorem n_X7_tests_50 : nth t_X7_tests 50 = aPutI 42 [6] 53 := (y_X7_tests_2 10).trans rfl
theorem n_X7_tests_53 : nth t_X7_tests 53 = aLdA 0 54 := (y_X7_tests_2 13).trans rfl
theorem n_X7_tests_54 : nth t_X7_tests 54 = aLdI 1 55 := (y_X7_tests_2 14).trans rfl
theorem n_X7_tests_55 : nth t_X7_tests 55 = aLdI 5 57 := (y_X7_tests_2 15).trans rfl
theorem n_X7_tests_57 : nth t_X7_tests 57 = aK (.int 1) 58 := (y_X7_tests_2 17).trans rfl
theorem n_X7_tests_58 : nth t_X7_tests 58 = aK (.int (-1)) 59 := (y_X7_tests_2 18).trans rfl
theorem y_X7_tests_3 (n : Nat) : nth t_X7_tests (n + 59) = nth t_X7_tests_c3 n := (y_X7_tests_2 (n + 19)).trans rfl
theorem n_X7_tests_59 : nth t_X7_tests 59 = aCalV 176 4 62 [6] none := (y_X7_tests_3 0).trans rfl
theorem n_X7_tests_62 : nth t_X7_tests 62 = aLdA 0 63 := (y_X7_tests_3 3).trans rfl
theorem n_X7_tests_63 : nth t_X7_tests 63 = aK (.int 40) 65 := (y_X7_tests_3 4).trans rfl
theorem n_X7_tests_65 : nth t_X7_tests 65 = aCalV 177 1 68 [6] none := (y_X7_tests_3 6).trans rfl
theorem n_X7_tests_68 : nth t_X7_tests 68 = aLdA 0 69 := (y_X7_tests_3 9).trans rfl
theorem n_X7_tests_69 : nth t_X7_tests 69 = aK (.int 2) 70 := (y_X7_tests_3 10).trans rfl
theorem n_X7_tests_70 : nth t_X7_tests 70 = aCalV 189 1 73 [6] none := (y_X7_tests_3 11).trans rfl
theorem n_X7_tests_73 : nth t_X7_tests 73 = aLdA 0 74 := (y_X7_tests_3 14).trans rfl
theorem n_X7_tests_74 : nth t_X7_tests 74 = aGetR 52 [6] 77 := (y_X7_tests_3 15).trans rfl
theorem n_X7_tests_77 : nth t_X7_tests 77 = aLdI 5 79 := (y_X7_tests_3 18).trans rfl
theorem n_X7_tests_79 : nth t_X7_tests 79 = aK (.long 0) 80 := (y_X7_tests_3 20).trans rfl
theorem n_X7_tests_80 : nth t_X7_tests 80 = aAstL 81 := (y_X7_tests_3 21).trans rfl
theorem y_X7_tests_4 (n : Nat) : nth t_X7_tests (n + 81) = nth t_X7_tests_c4 n := (y_X7_tests_3 (n + 22)).trans rfl
theorem n_X7_tests_81 : nth t_X7_tests 81 = aK (.int 0) 82 := (y_X7_tests_4 0).trans rfl
theorem n_X7_tests_82 : nth t_X7_tests 82 = aStI 6 84 := (y_X7_tests_4 1).trans rfl
theorem n_X7_tests_84 : nth t_X7_tests 84 = aLdI 6 86 := (y_X7_tests_4 3).trans rfl
theorem n_X7_tests_86 : nth t_X7_tests 86 = aLdA 0 87 := (y_X7_tests_4 5).trans rfl
theorem n_X7_tests_87 : nth t_X7_tests 87 = aGetR 17 [6] 90 := (y_X7_tests_4 6).trans rfl
theorem n_X7_tests_90 : nth t_X7_tests 90 = aK (.int 0) 91 := (y_X7_tests_4 9).trans rfl
theorem n_X7_tests_91 : nth t_X7_tests 91 = aAldI 92 := (y_X7_tests_4 10).trans rfl
theorem n_X7_tests_92 : nth t_X7_tests 92 = aIcLt 95 135 := (y_X7_tests_4 11).trans rfl
theorem n_X7_tests_95 : nth t_X7_tests 95 = aLdA 0 96 := (y_X7_tests_4 14).trans rfl
theorem n_X7_tests_96 : nth t_X7_tests 96 = aLdI 6 98 := (y_X7_tests_4 15).trans rfl
theorem n_X7_tests_98 : nth t_X7_tests 98 = aPutI 42 [6] 101 := (y_X7_tests_4 17).trans rfl
theorem n_X7_tests_101 : nth t_X7_tests 101 = aLdA 0 102 := (y_X7_tests_4 20).trans rfl
theorem y_X7_tests_5 (n : Nat) : nth t_X7_tests (n + 102) = nth t_X7_tests_c5 n := (y_X7_tests_4 (n + 21)).trans rfl
theorem n_X7_tests_102 : nth t_X7_tests 102 = aK (.int 40) 104 := (y_X7_tests_5 0).trans rfl
theorem n_X7_tests_104 : nth t_X7_tests 104 = aCalV 177 1 107 [6] none := (y_X7_tests_5 2).trans rfl
theorem n_X7_tests_107 : nth t_X7_tests 107 = aLdA 0 108 := (y_X7_tests_5 5).trans rfl
theorem n_X7_tests_108 : nth t_X7_tests 108 = aK (.int 2) 109 := (y_X7_tests_5 6).trans rfl
theorem n_X7_tests_109 : nth t_X7_tests 109 = aCalV 200 1 112 [6] none := (y_X7_tests_5 7).trans rfl
theorem n_X7_tests_112 : nth t_X7_tests 112 = aIfEq 115 129 := (y_X7_tests_5 10).trans rfl
theorem n_X7_tests_115 : nth t_X7_tests 115 = aLdA 0 116 := (y_X7_tests_5 13).trans rfl
theorem n_X7_tests_116 : nth t_X7_tests 116 = aGetR 52 [6] 119 := (y_X7_tests_5 14).trans rfl
theorem n_X7_tests_119 : nth t_X7_tests 119 = aLdI 5 121 := (y_X7_tests_5 17).trans rfl
theorem n_X7_tests_121 : nth t_X7_tests 121 = aDup2 122 := (y_X7_tests_5 19).trans rfl
theorem n_X7_tests_122 : nth t_X7_tests 122 = aAldL 123 := (y_X7_tests_5 20).trans rfl
theorem n_X7_tests_123 : nth t_X7_tests 123 = aK (.long 1) 124 := (y_X7_tests_5 21).trans rfl
theorem y_X7_tests_6 (n : Nat) : nth t_X7_tests (n + 124) = nth t_X7_tests_c6 n := (y_X7_tests_5 (n + 22)).trans rfl
theorem n_X7_tests_124 : nth t_X7_tests 124 = aLdI 6 126 := (y_X7_tests_6 0).trans rfl
theorem n_X7_tests_126 : nth t_X7_tests 126 = aLS (fun x y => x <<< (y.toInt64 &&& 63)) 127 := (y_X7_tests_6 2).trans rfl
theorem n_X7_tests_127 : nth t_X7_tests 127 = aLB (fun x y => x ||| y) 128 := (y_X7_tests_6 3).trans rfl
theorem n_X7_tests_128 : nth t_X7_tests 128 = aAstL 129 := (y_X7_tests_6 4).trans rfl
theorem n_X7_tests_129 : nth t_X7_tests 129 = aInc 6 1 132 := (y_X7_tests_6 5).trans rfl
theorem n_X7_tests_132 : nth t_X7_tests 132 = aGoto 84 := (y_X7_tests_6 8).trans rfl
theorem n_X7_tests_135 : nth t_X7_tests 135 = aLdL 3 136 := (y_X7_tests_6 11).trans rfl
theorem n_X7_tests_136 : nth t_X7_tests 136 = aLdA 0 137 := (y_X7_tests_6 12).trans rfl
theorem n_X7_tests_137 : nth t_X7_tests 137 = aGetR 52 [6] 140 := (y_X7_tests_6 13).trans rfl
theorem n_X7_tests_140 : nth t_X7_tests 140 = aLdI 5 142 := (y_X7_tests_6 16).trans rfl
theorem n_X7_tests_142 : nth t_X7_tests 142 = aAldL 143 := (y_X7_tests_6 18).trans rfl
theorem n_X7_tests_143 : nth t_X7_tests 143 = aLB (fun x y => x ||| y) 144 := (y_X7_tests_6 19).trans rfl
theorem y_X7_tests_7 (n : Nat) : nth t_X7_tests (n + 144) = nth t_X7_tests_c7 n := (y_X7_tests_6 (n + 20)).trans rfl
theorem n_X7_tests_144 : nth t_X7_tests 144 = aStL 3 145 := (y_X7_tests_7 0).trans rfl
theorem n_X7_tests_145 : nth t_X7_tests 145 = aInc 5 1 148 := (y_X7_tests_7 1).trans rfl
theorem n_X7_tests_148 : nth t_X7_tests 148 = aGoto 42 := (y_X7_tests_7 4).trans rfl
theorem n_X7_tests_151 : nth t_X7_tests 151 = aLdA 0 152 := (y_X7_tests_7 7).trans rfl
theorem n_X7_tests_152 : nth t_X7_tests 152 = aK (.int (-1)) 153 := (y_X7_tests_7 8).trans rfl
theorem n_X7_tests_153 : nth t_X7_tests 153 = aPutI 42 [6] 156 := (y_X7_tests_7 9).trans rfl
theorem n_X7_tests_156 : nth t_X7_tests 156 = aK (.int (-1)) 157 := (y_X7_tests_7 12).trans rfl
theorem n_X7_tests_157 : nth t_X7_tests 157 = aStI 5 159 := (y_X7_tests_7 13).trans rfl
theorem n_X7_tests_159 : nth t_X7_tests 159 = aK (.int 0) 160 := (y_X7_tests_7 15).trans rfl
theorem n_X7_tests_160 : nth t_X7_tests 160 = aStI 6 162 := (y_X7_tests_7 16).trans rfl
theorem n_X7_tests_162 : nth t_X7_tests 162 = aLdI 6 164 := (y_X7_tests_7 18).trans rfl
theorem n_X7_tests_164 : nth t_X7_tests 164 = aK (.int 1) 165 := (y_X7_tests_7 20).trans rfl
theorem y_X7_tests_8 (n : Nat) : nth t_X7_tests (n + 165) = nth t_X7_tests_c8 n := (y_X7_tests_7 (n + 21)).trans rfl
theorem n_X7_tests_165 : nth t_X7_tests 165 = aLdI 2 166 := (y_X7_tests_8 0).trans rfl
theorem n_X7_tests_166 : nth t_X7_tests 166 = aB (fun x y => x <<< (y &&& 31)) 167 := (y_X7_tests_8 1).trans rfl
theorem n_X7_tests_167 : nth t_X7_tests 167 = aIcLt 170 264 := (y_X7_tests_8 2).trans rfl
theorem n_X7_tests_170 : nth t_X7_tests 170 = aLdI 5 172 := (y_X7_tests_8 5).trans rfl
theorem n_X7_tests_172 : nth t_X7_tests 172 = aIfLt 189 175 := (y_X7_tests_8 7).trans rfl
theorem n_X7_tests_175 : nth t_X7_tests 175 = aLdI 6 177 := (y_X7_tests_8 10).trans rfl
theorem n_X7_tests_177 : nth t_X7_tests 177 = aI2L 178 := (y_X7_tests_8 12).trans rfl
theorem n_X7_tests_178 : nth t_X7_tests 178 = aCalS 196 1 181 none := (y_X7_tests_8 13).trans rfl
theorem n_X7_tests_181 : nth t_X7_tests 181 = aLdI 5 183 := (y_X7_tests_8 16).trans rfl
theorem n_X7_tests_183 : nth t_X7_tests 183 = aIcLt 189 186 := (y_X7_tests_8 18).trans rfl
theorem n_X7_tests_186 : nth t_X7_tests 186 = aGoto 258 := (y_X7_tests_8 21).trans rfl
theorem n_X7_tests_189 : nth t_X7_tests 189 = aK (.long 0) 190 := (y_X7_tests_8 24).trans rfl
theorem y_X7_tests_9 (n : Nat) : nth t_X7_tests (n + 190) = nth t_X7_tests_c9 n := (y_X7_tests_8 (n + 25)).trans rfl
theorem n_X7_tests_190 : nth t_X7_tests 190 = aStL 7 192 := (y_X7_tests_9 0).trans rfl
theorem n_X7_tests_192 : nth t_X7_tests 192 = aK (.int 0) 193 := (y_X7_tests_9 2).trans rfl
theorem n_X7_tests_193 : nth t_X7_tests 193 = aStI 9 195 := (y_X7_tests_9 3).trans rfl
theorem n_X7_tests_195 : nth t_X7_tests 195 = aLdI 9 197 := (y_X7_tests_9 5).trans rfl
theorem n_X7_tests_197 : nth t_X7_tests 197 = aLdI 2 198 := (y_X7_tests_9 7).trans rfl
theorem n_X7_tests_198 : nth t_X7_tests 198 = aIcLt 201 234 := (y_X7_tests_9 8).trans rfl
theorem n_X7_tests_201 : nth t_X7_tests 201 = aLdL 7 203 := (y_X7_tests_9 11).trans rfl
theorem n_X7_tests_203 : nth t_X7_tests 203 = aLdI 6 205 := (y_X7_tests_9 13).trans rfl
theorem n_X7_tests_205 : nth t_X7_tests 205 = aLdI 9 207 := (y_X7_tests_9 15).trans rfl
theorem n_X7_tests_207 : nth t_X7_tests 207 = aB (fun x y => x >>> (y &&& 31)) 208 := (y_X7_tests_9 17).trans rfl
theorem n_X7_tests_208 : nth t_X7_tests 208 = aK (.int 1) 209 := (y_X7_tests_9 18).trans rfl
theorem n_X7_tests_209 : nth t_X7_tests 209 = aB (fun x y => x &&& y) 210 := (y_X7_tests_9 19).trans rfl
theorem y_X7_tests_10 (n : Nat) : nth t_X7_tests (n + 210) = nth t_X7_tests_c10 n := (y_X7_tests_9 (n + 20)).trans rfl
theorem n_X7_tests_210 : nth t_X7_tests 210 = aK (.int 1) 211 := (y_X7_tests_10 0).trans rfl
theorem n_X7_tests_211 : nth t_X7_tests 211 = aIcEq 214 224 := (y_X7_tests_10 1).trans rfl
theorem n_X7_tests_214 : nth t_X7_tests 214 = aLdA 0 215 := (y_X7_tests_10 4).trans rfl
theorem n_X7_tests_215 : nth t_X7_tests 215 = aGetR 52 [6] 218 := (y_X7_tests_10 5).trans rfl
theorem n_X7_tests_218 : nth t_X7_tests 218 = aLdI 9 220 := (y_X7_tests_10 8).trans rfl
theorem n_X7_tests_220 : nth t_X7_tests 220 = aAldL 221 := (y_X7_tests_10 10).trans rfl
theorem n_X7_tests_221 : nth t_X7_tests 221 = aGoto 225 := (y_X7_tests_10 11).trans rfl
theorem n_X7_tests_224 : nth t_X7_tests 224 = aK (.long 0) 225 := (y_X7_tests_10 14).trans rfl
theorem n_X7_tests_225 : nth t_X7_tests 225 = aLB (fun x y => x ||| y) 226 := (y_X7_tests_10 15).trans rfl
theorem n_X7_tests_226 : nth t_X7_tests 226 = aStL 7 228 := (y_X7_tests_10 16).trans rfl
theorem n_X7_tests_228 : nth t_X7_tests 228 = aInc 9 1 231 := (y_X7_tests_10 18).trans rfl
theorem n_X7_tests_231 : nth t_X7_tests 231 = aGoto 195 := (y_X7_tests_10 21).trans rfl
theorem y_X7_tests_11 (n : Nat) : nth t_X7_tests (n + 234) = nth t_X7_tests_c11 n := (y_X7_tests_10 (n + 24)).trans rfl
theorem n_X7_tests_234 : nth t_X7_tests 234 = aLdL 7 236 := (y_X7_tests_11 0).trans rfl
theorem n_X7_tests_236 : nth t_X7_tests 236 = aLdL 3 237 := (y_X7_tests_11 2).trans rfl
theorem n_X7_tests_237 : nth t_X7_tests 237 = aLcmp 238 := (y_X7_tests_11 3).trans rfl
theorem n_X7_tests_238 : nth t_X7_tests 238 = aIfEq 244 241 := (y_X7_tests_11 4).trans rfl
theorem n_X7_tests_241 : nth t_X7_tests 241 = aGoto 258 := (y_X7_tests_11 7).trans rfl
theorem n_X7_tests_244 : nth t_X7_tests 244 = aLdI 6 246 := (y_X7_tests_11 10).trans rfl
theorem n_X7_tests_246 : nth t_X7_tests 246 = aI2L 247 := (y_X7_tests_11 12).trans rfl
theorem n_X7_tests_247 : nth t_X7_tests 247 = aCalS 196 1 250 none := (y_X7_tests_11 13).trans rfl
theorem n_X7_tests_250 : nth t_X7_tests 250 = aStI 5 252 := (y_X7_tests_11 16).trans rfl
theorem n_X7_tests_252 : nth t_X7_tests 252 = aLdA 0 253 := (y_X7_tests_11 18).trans rfl
theorem n_X7_tests_253 : nth t_X7_tests 253 = aLdI 6 255 := (y_X7_tests_11 19).trans rfl
theorem n_X7_tests_255 : nth t_X7_tests 255 = aPutI 56 [6] 258 := (y_X7_tests_11 21).trans rfl
theorem y_X7_tests_12 (n : Nat) : nth t_X7_tests (n + 258) = nth t_X7_tests_c12 n := (y_X7_tests_11 (n + 24)).trans rfl
theorem n_X7_tests_258 : nth t_X7_tests 258 = aInc 6 1 261 := (y_X7_tests_12 0).trans rfl
theorem n_X7_tests_261 : nth t_X7_tests 261 = aGoto 162 := (y_X7_tests_12 3).trans rfl
theorem n_X7_tests_264 : nth t_X7_tests 264 = aLdA 0 265 := (y_X7_tests_12 6).trans rfl
theorem n_X7_tests_265 : nth t_X7_tests 265 = aLdL 3 266 := (y_X7_tests_12 7).trans rfl
theorem n_X7_tests_266 : nth t_X7_tests 266 = aCalS 196 1 269 none := (y_X7_tests_12 8).trans rfl
theorem n_X7_tests_269 : nth t_X7_tests 269 = aPutI 57 [6] 272 := (y_X7_tests_12 11).trans rfl
theorem n_X7_tests_272 : nth t_X7_tests 272 = aLdI 5 274 := (y_X7_tests_12 14).trans rfl
theorem n_X7_tests_274 : nth t_X7_tests 274 = aRetI := (y_X7_tests_12 16).trans rfl
theorem n_X7_testSet_0 : nth t_X7_testSet 0 = aLdA 0 1 := rfl
theorem n_X7_testSet_1 : nth t_X7_testSet 1 = aK (.int 0) 2 := rfl
theorem n_X7_testSet_2 : nth t_X7_testSet 2 = aPutI 0 [6] 5 := rfl
theorem n_X7_testSet_5 : nth t_X7_testSet 5 = aLdA 0 6 := rfl
theorem n_X7_testSet_6 : nth t_X7_testSet 6 = aGetI 56 [6] 9 := rfl
theorem n_X7_testSet_9 : nth t_X7_testSet 9 = aRetI := rfl
theorem n_X7_shown_0 : nth t_X7_shown 0 = aLdA 0 1 := rfl
theorem n_X7_shown_1 : nth t_X7_shown 1 = aK (.int 0) 2 := rfl
theorem n_X7_shown_2 : nth t_X7_shown 2 = aPutI 0 [6] 5 := rfl
theorem n_X7_shown_5 : nth t_X7_shown 5 = aLdA 0 6 := rfl
theorem n_X7_shown_6 : nth t_X7_shown 6 = aGetI 57 [6] 9 := rfl
theorem n_X7_shown_9 : nth t_X7_shown 9 = aRetI := rfl
theorem n_X7_unseen_0 : nth t_X7_unseen 0 = aLdA 0 1 := rfl
theorem n_X7_unseen_1 : nth t_X7_unseen 1 = aK (.int 0) 2 := rfl
theorem n_X7_unseen_2 : nth t_X7_unseen 2 = aPutI 0 [6] 5 := rfl
theorem n_X7_unseen_5 : nth t_X7_unseen 5 = aLdI 1 6 := rfl
theorem n_X7_unseen_6 : nth t_X7_unseen 6 = aCalS 153 1 9 none := rfl
theorem n_X7_unseen_9 : nth t_X7_unseen 9 = aIfEq 12 14 := rfl
theorem n_X7_unseen_12 : nth t_X7_unseen 12 = aK (.int (-1)) 13 := rfl
theorem n_X7_unseen_13 : nth t_X7_unseen 13 = aRetI := rfl
theorem n_X7_unseen_14 : nth t_X7_unseen 14 = aLdA 0 15 := rfl
theorem n_X7_unseen_15 : nth t_X7_unseen 15 = aK (.int (-1)) 16 := rfl
theorem n_X7_unseen_16 : nth t_X7_unseen 16 = aPutI 42 [6] 19 := rfl
theorem n_X7_unseen_19 : nth t_X7_unseen 19 = aLdA 0 20 := rfl
theorem y_X7_unseen_1 (n : Nat) : nth t_X7_unseen (n + 20) = nth t_X7_unseen_c1 n := rfl
theorem n_X7_unseen_20 : nth t_X7_unseen 20 = aLdI 1 21 := (y_X7_unseen_1 0).trans rfl
theorem n_X7_unseen_21 : nth t_X7_unseen 21 = aK (.int 0) 22 := (y_X7_unseen_1 1).trans rfl
theorem n_X7_unseen_22 : nth t_X7_unseen 22 = aLdA 0 23 := (y_X7_unseen_1 2).trans rfl
theorem n_X7_unseen_23 : nth t_X7_unseen 23 = aGetR 6 [6] 26 := (y_X7_unseen_1 3).trans rfl
theorem n_X7_unseen_26 : nth t_X7_unseen 26 = aLdI 1 27 := (y_X7_unseen_1 6).trans rfl
theorem n_X7_unseen_27 : nth t_X7_unseen 27 = aAldI 28 := (y_X7_unseen_1 7).trans rfl
theorem n_X7_unseen_28 : nth t_X7_unseen 28 = aK (.int (-1)) 29 := (y_X7_unseen_1 8).trans rfl
theorem n_X7_unseen_29 : nth t_X7_unseen 29 = aCalV 176 4 32 [6] none := (y_X7_unseen_1 9).trans rfl
theorem n_X7_unseen_32 : nth t_X7_unseen 32 = aLdA 0 33 := (y_X7_unseen_1 12).trans rfl
theorem n_X7_unseen_33 : nth t_X7_unseen 33 = aK (.int 40) 35 := (y_X7_unseen_1 13).trans rfl
theorem n_X7_unseen_35 : nth t_X7_unseen 35 = aCalV 177 1 38 [6] none := (y_X7_unseen_1 15).trans rfl
theorem n_X7_unseen_38 : nth t_X7_unseen 38 = aLdA 0 39 := (y_X7_unseen_1 18).trans rfl
theorem y_X7_unseen_2 (n : Nat) : nth t_X7_unseen (n + 39) = nth t_X7_unseen_c2 n := (y_X7_unseen_1 (n + 19)).trans rfl
theorem n_X7_unseen_39 : nth t_X7_unseen 39 = aK (.int 2) 40 := (y_X7_unseen_2 0).trans rfl
theorem n_X7_unseen_40 : nth t_X7_unseen 40 = aCalV 189 1 43 [6] none := (y_X7_unseen_2 1).trans rfl
theorem n_X7_unseen_43 : nth t_X7_unseen 43 = aLdA 0 44 := (y_X7_unseen_2 4).trans rfl
theorem n_X7_unseen_44 : nth t_X7_unseen 44 = aK (.int 0) 45 := (y_X7_unseen_2 5).trans rfl
theorem n_X7_unseen_45 : nth t_X7_unseen 45 = aPutI 54 [6] 48 := (y_X7_unseen_2 6).trans rfl
theorem n_X7_unseen_48 : nth t_X7_unseen 48 = aK (.int 0) 49 := (y_X7_unseen_2 9).trans rfl
theorem n_X7_unseen_49 : nth t_X7_unseen 49 = aStI 2 50 := (y_X7_unseen_2 10).trans rfl
theorem n_X7_unseen_50 : nth t_X7_unseen 50 = aLdI 2 51 := (y_X7_unseen_2 11).trans rfl
theorem n_X7_unseen_51 : nth t_X7_unseen 51 = aK (.int 1) 52 := (y_X7_unseen_2 12).trans rfl
theorem n_X7_unseen_52 : nth t_X7_unseen 52 = aB (fun x y => x + y) 53 := (y_X7_unseen_2 13).trans rfl
theorem n_X7_unseen_53 : nth t_X7_unseen 53 = aLdA 0 54 := (y_X7_unseen_2 14).trans rfl
theorem n_X7_unseen_54 : nth t_X7_unseen 54 = aGetR 6 [6] 57 := (y_X7_unseen_2 15).trans rfl
theorem y_X7_unseen_3 (n : Nat) : nth t_X7_unseen (n + 57) = nth t_X7_unseen_c3 n := (y_X7_unseen_2 (n + 18)).trans rfl
theorem n_X7_unseen_57 : nth t_X7_unseen 57 = aLdI 1 58 := (y_X7_unseen_3 0).trans rfl
theorem n_X7_unseen_58 : nth t_X7_unseen 58 = aAldI 59 := (y_X7_unseen_3 1).trans rfl
theorem n_X7_unseen_59 : nth t_X7_unseen 59 = aIcLt 62 120 := (y_X7_unseen_3 2).trans rfl
theorem n_X7_unseen_62 : nth t_X7_unseen 62 = aLdA 0 63 := (y_X7_unseen_3 5).trans rfl
theorem n_X7_unseen_63 : nth t_X7_unseen 63 = aLdI 1 64 := (y_X7_unseen_3 6).trans rfl
theorem n_X7_unseen_64 : nth t_X7_unseen 64 = aK (.int 0) 65 := (y_X7_unseen_3 7).trans rfl
theorem n_X7_unseen_65 : nth t_X7_unseen 65 = aLdA 0 66 := (y_X7_unseen_3 8).trans rfl
theorem n_X7_unseen_66 : nth t_X7_unseen 66 = aGetR 6 [6] 69 := (y_X7_unseen_3 9).trans rfl
theorem n_X7_unseen_69 : nth t_X7_unseen 69 = aLdI 1 70 := (y_X7_unseen_3 12).trans rfl
theorem n_X7_unseen_70 : nth t_X7_unseen 70 = aAldI 71 := (y_X7_unseen_3 13).trans rfl
theorem n_X7_unseen_71 : nth t_X7_unseen 71 = aLdI 2 72 := (y_X7_unseen_3 14).trans rfl
theorem n_X7_unseen_72 : nth t_X7_unseen 72 = aK (.int 1) 73 := (y_X7_unseen_3 15).trans rfl
theorem y_X7_unseen_4 (n : Nat) : nth t_X7_unseen (n + 73) = nth t_X7_unseen_c4 n := (y_X7_unseen_3 (n + 16)).trans rfl
theorem n_X7_unseen_73 : nth t_X7_unseen 73 = aB (fun x y => x + y) 74 := (y_X7_unseen_4 0).trans rfl
theorem n_X7_unseen_74 : nth t_X7_unseen 74 = aCalV 176 4 77 [6] none := (y_X7_unseen_4 1).trans rfl
theorem n_X7_unseen_77 : nth t_X7_unseen 77 = aLdA 0 78 := (y_X7_unseen_4 4).trans rfl
theorem n_X7_unseen_78 : nth t_X7_unseen 78 = aK (.int 40) 80 := (y_X7_unseen_4 5).trans rfl
theorem n_X7_unseen_80 : nth t_X7_unseen 80 = aCalV 177 1 83 [6] none := (y_X7_unseen_4 7).trans rfl
theorem n_X7_unseen_83 : nth t_X7_unseen 83 = aLdA 0 84 := (y_X7_unseen_4 10).trans rfl
theorem n_X7_unseen_84 : nth t_X7_unseen 84 = aK (.int 2) 85 := (y_X7_unseen_4 11).trans rfl
theorem n_X7_unseen_85 : nth t_X7_unseen 85 = aCalV 200 1 88 [6] none := (y_X7_unseen_4 12).trans rfl
theorem n_X7_unseen_88 : nth t_X7_unseen 88 = aIfEq 91 94 := (y_X7_unseen_4 15).trans rfl
theorem n_X7_unseen_91 : nth t_X7_unseen 91 = aGoto 114 := (y_X7_unseen_4 18).trans rfl
theorem n_X7_unseen_94 : nth t_X7_unseen 94 = aLdA 0 95 := (y_X7_unseen_4 21).trans rfl
theorem n_X7_unseen_95 : nth t_X7_unseen 95 = aGetR 49 [6] 98 := (y_X7_unseen_4 22).trans rfl
theorem y_X7_unseen_5 (n : Nat) : nth t_X7_unseen (n + 98) = nth t_X7_unseen_c5 n := (y_X7_unseen_4 (n + 25)).trans rfl
theorem n_X7_unseen_98 : nth t_X7_unseen 98 = aLdA 0 99 := (y_X7_unseen_5 0).trans rfl
theorem n_X7_unseen_99 : nth t_X7_unseen 99 = aGetI 54 [6] 102 := (y_X7_unseen_5 1).trans rfl
theorem n_X7_unseen_102 : nth t_X7_unseen 102 = aLdI 2 103 := (y_X7_unseen_5 4).trans rfl
theorem n_X7_unseen_103 : nth t_X7_unseen 103 = aAstI 104 := (y_X7_unseen_5 5).trans rfl
theorem n_X7_unseen_104 : nth t_X7_unseen 104 = aLdA 0 105 := (y_X7_unseen_5 6).trans rfl
theorem n_X7_unseen_105 : nth t_X7_unseen 105 = aDup 106 := (y_X7_unseen_5 7).trans rfl
theorem n_X7_unseen_106 : nth t_X7_unseen 106 = aGetI 54 [6] 109 := (y_X7_unseen_5 8).trans rfl
theorem n_X7_unseen_109 : nth t_X7_unseen 109 = aK (.int 1) 110 := (y_X7_unseen_5 11).trans rfl
theorem n_X7_unseen_110 : nth t_X7_unseen 110 = aB (fun x y => x + y) 111 := (y_X7_unseen_5 12).trans rfl
theorem n_X7_unseen_111 : nth t_X7_unseen 111 = aPutI 54 [6] 114 := (y_X7_unseen_5 13).trans rfl
theorem n_X7_unseen_114 : nth t_X7_unseen 114 = aInc 2 1 117 := (y_X7_unseen_5 16).trans rfl
theorem n_X7_unseen_117 : nth t_X7_unseen 117 = aGoto 50 := (y_X7_unseen_5 19).trans rfl
theorem y_X7_unseen_6 (n : Nat) : nth t_X7_unseen (n + 120) = nth t_X7_unseen_c6 n := (y_X7_unseen_5 (n + 22)).trans rfl
theorem n_X7_unseen_120 : nth t_X7_unseen 120 = aLdA 0 121 := (y_X7_unseen_6 0).trans rfl
theorem n_X7_unseen_121 : nth t_X7_unseen 121 = aGetI 54 [6] 124 := (y_X7_unseen_6 1).trans rfl
theorem n_X7_unseen_124 : nth t_X7_unseen 124 = aRetI := (y_X7_unseen_6 4).trans rfl
theorem n_X7_unseenAt_0 : nth t_X7_unseenAt 0 = aLdA 0 1 := rfl
theorem n_X7_unseenAt_1 : nth t_X7_unseenAt 1 = aK (.int 0) 2 := rfl
theorem n_X7_unseenAt_2 : nth t_X7_unseenAt 2 = aPutI 0 [6] 5 := rfl
theorem n_X7_unseenAt_5 : nth t_X7_unseenAt 5 = aLdI 1 6 := rfl
theorem n_X7_unseenAt_6 : nth t_X7_unseenAt 6 = aK (.int 0) 7 := rfl
theorem n_X7_unseenAt_7 : nth t_X7_unseenAt 7 = aLdA 0 8 := rfl
theorem n_X7_unseenAt_8 : nth t_X7_unseenAt 8 = aGetI 54 [6] 11 := rfl
theorem n_X7_unseenAt_11 : nth t_X7_unseenAt 11 = aK (.int 1) 12 := rfl
theorem n_X7_unseenAt_12 : nth t_X7_unseenAt 12 = aB (fun x y => x - y) 13 := rfl
theorem n_X7_unseenAt_13 : nth t_X7_unseenAt 13 = aCalS 154 3 16 none := rfl
theorem n_X7_unseenAt_16 : nth t_X7_unseenAt 16 = aIfEq 28 19 := rfl
theorem n_X7_unseenAt_19 : nth t_X7_unseenAt 19 = aLdA 0 20 := rfl
theorem y_X7_unseenAt_1 (n : Nat) : nth t_X7_unseenAt (n + 20) = nth t_X7_unseenAt_c1 n := rfl
theorem n_X7_unseenAt_20 : nth t_X7_unseenAt 20 = aGetR 49 [6] 23 := (y_X7_unseenAt_1 0).trans rfl
theorem n_X7_unseenAt_23 : nth t_X7_unseenAt 23 = aLdI 1 24 := (y_X7_unseenAt_1 3).trans rfl
theorem n_X7_unseenAt_24 : nth t_X7_unseenAt 24 = aAldI 25 := (y_X7_unseenAt_1 4).trans rfl
theorem n_X7_unseenAt_25 : nth t_X7_unseenAt 25 = aGoto 29 := (y_X7_unseenAt_1 5).trans rfl
theorem n_X7_unseenAt_28 : nth t_X7_unseenAt 28 = aK (.int (-1)) 29 := (y_X7_unseenAt_1 8).trans rfl
theorem n_X7_unseenAt_29 : nth t_X7_unseenAt 29 = aRetI := (y_X7_unseenAt_1 9).trans rfl
theorem n_X7_moves_0 : nth t_X7_moves 0 = aLdA 0 1 := rfl
theorem n_X7_moves_1 : nth t_X7_moves 1 = aK (.int 0) 2 := rfl
theorem n_X7_moves_2 : nth t_X7_moves 2 = aPutI 0 [6] 5 := rfl
theorem n_X7_moves_5 : nth t_X7_moves 5 = aLdA 0 6 := rfl
theorem n_X7_moves_6 : nth t_X7_moves 6 = aCalV 202 0 9 [6] none := rfl
theorem n_X7_moves_9 : nth t_X7_moves 9 = aIfEq 19 12 := rfl
theorem n_X7_moves_12 : nth t_X7_moves 12 = aLdI 1 13 := rfl
theorem n_X7_moves_13 : nth t_X7_moves 13 = aCalS 153 1 16 none := rfl
theorem n_X7_moves_16 : nth t_X7_moves 16 = aIfEq 19 21 := rfl
theorem n_X7_moves_19 : nth t_X7_moves 19 = aK (.int (-1)) 20 := rfl
theorem n_X7_moves_20 : nth t_X7_moves 20 = aRetI := rfl
theorem n_X7_moves_21 : nth t_X7_moves 21 = aLdA 0 22 := rfl
theorem y_X7_moves_1 (n : Nat) : nth t_X7_moves (n + 22) = nth t_X7_moves_c1 n := rfl
theorem n_X7_moves_22 : nth t_X7_moves 22 = aK (.int (-1)) 23 := (y_X7_moves_1 0).trans rfl
theorem n_X7_moves_23 : nth t_X7_moves 23 = aPutI 42 [6] 26 := (y_X7_moves_1 1).trans rfl
theorem n_X7_moves_26 : nth t_X7_moves 26 = aLdA 0 27 := (y_X7_moves_1 4).trans rfl
theorem n_X7_moves_27 : nth t_X7_moves 27 = aLdI 1 28 := (y_X7_moves_1 5).trans rfl
theorem n_X7_moves_28 : nth t_X7_moves 28 = aK (.int 0) 29 := (y_X7_moves_1 6).trans rfl
theorem n_X7_moves_29 : nth t_X7_moves 29 = aLdA 0 30 := (y_X7_moves_1 7).trans rfl
theorem n_X7_moves_30 : nth t_X7_moves 30 = aGetR 6 [6] 33 := (y_X7_moves_1 8).trans rfl
theorem n_X7_moves_33 : nth t_X7_moves 33 = aLdI 1 34 := (y_X7_moves_1 11).trans rfl
theorem n_X7_moves_34 : nth t_X7_moves 34 = aAldI 35 := (y_X7_moves_1 12).trans rfl
theorem n_X7_moves_35 : nth t_X7_moves 35 = aK (.int 3) 36 := (y_X7_moves_1 13).trans rfl
theorem n_X7_moves_36 : nth t_X7_moves 36 = aIcLt 39 48 := (y_X7_moves_1 14).trans rfl
theorem n_X7_moves_39 : nth t_X7_moves 39 = aLdA 0 40 := (y_X7_moves_1 17).trans rfl
theorem y_X7_moves_2 (n : Nat) : nth t_X7_moves (n + 40) = nth t_X7_moves_c2 n := (y_X7_moves_1 (n + 18)).trans rfl
theorem n_X7_moves_40 : nth t_X7_moves 40 = aGetR 6 [6] 43 := (y_X7_moves_2 0).trans rfl
theorem n_X7_moves_43 : nth t_X7_moves 43 = aLdI 1 44 := (y_X7_moves_2 3).trans rfl
theorem n_X7_moves_44 : nth t_X7_moves 44 = aAldI 45 := (y_X7_moves_2 4).trans rfl
theorem n_X7_moves_45 : nth t_X7_moves 45 = aGoto 49 := (y_X7_moves_2 5).trans rfl
theorem n_X7_moves_48 : nth t_X7_moves 48 = aK (.int 3) 49 := (y_X7_moves_2 8).trans rfl
theorem n_X7_moves_49 : nth t_X7_moves 49 = aK (.int (-1)) 50 := (y_X7_moves_2 9).trans rfl
theorem n_X7_moves_50 : nth t_X7_moves 50 = aCalV 176 4 53 [6] none := (y_X7_moves_2 10).trans rfl
theorem n_X7_moves_53 : nth t_X7_moves 53 = aK (.int 0) 54 := (y_X7_moves_2 13).trans rfl
theorem n_X7_moves_54 : nth t_X7_moves 54 = aStI 2 55 := (y_X7_moves_2 14).trans rfl
theorem n_X7_moves_55 : nth t_X7_moves 55 = aLdI 2 56 := (y_X7_moves_2 15).trans rfl
theorem n_X7_moves_56 : nth t_X7_moves 56 = aK (.int 217) 59 := (y_X7_moves_2 16).trans rfl
theorem n_X7_moves_59 : nth t_X7_moves 59 = aIcLt 62 75 := (y_X7_moves_2 19).trans rfl
theorem y_X7_moves_3 (n : Nat) : nth t_X7_moves (n + 62) = nth t_X7_moves_c3 n := (y_X7_moves_2 (n + 22)).trans rfl
theorem n_X7_moves_62 : nth t_X7_moves 62 = aLdA 0 63 := (y_X7_moves_3 0).trans rfl
theorem n_X7_moves_63 : nth t_X7_moves 63 = aGetR 18 [6] 66 := (y_X7_moves_3 1).trans rfl
theorem n_X7_moves_66 : nth t_X7_moves 66 = aLdI 2 67 := (y_X7_moves_3 4).trans rfl
theorem n_X7_moves_67 : nth t_X7_moves 67 = aK (.int 0) 68 := (y_X7_moves_3 5).trans rfl
theorem n_X7_moves_68 : nth t_X7_moves 68 = aAstI 69 := (y_X7_moves_3 6).trans rfl
theorem n_X7_moves_69 : nth t_X7_moves 69 = aInc 2 1 72 := (y_X7_moves_3 7).trans rfl
theorem n_X7_moves_72 : nth t_X7_moves 72 = aGoto 55 := (y_X7_moves_3 10).trans rfl
theorem n_X7_moves_75 : nth t_X7_moves 75 = aK (.int 0) 76 := (y_X7_moves_3 13).trans rfl
theorem n_X7_moves_76 : nth t_X7_moves 76 = aStI 2 77 := (y_X7_moves_3 14).trans rfl
theorem n_X7_moves_77 : nth t_X7_moves 77 = aLdI 2 78 := (y_X7_moves_3 15).trans rfl
theorem n_X7_moves_78 : nth t_X7_moves 78 = aLdA 0 79 := (y_X7_moves_3 16).trans rfl
theorem n_X7_moves_79 : nth t_X7_moves 79 = aGetR 17 [6] 82 := (y_X7_moves_3 17).trans rfl
theorem y_X7_moves_4 (n : Nat) : nth t_X7_moves (n + 82) = nth t_X7_moves_c4 n := (y_X7_moves_3 (n + 20)).trans rfl
theorem n_X7_moves_82 : nth t_X7_moves 82 = aK (.int 0) 83 := (y_X7_moves_4 0).trans rfl
theorem n_X7_moves_83 : nth t_X7_moves 83 = aAldI 84 := (y_X7_moves_4 1).trans rfl
theorem n_X7_moves_84 : nth t_X7_moves 84 = aIcLt 87 123 := (y_X7_moves_4 2).trans rfl
theorem n_X7_moves_87 : nth t_X7_moves 87 = aLdA 0 88 := (y_X7_moves_4 5).trans rfl
theorem n_X7_moves_88 : nth t_X7_moves 88 = aGetR 18 [6] 91 := (y_X7_moves_4 6).trans rfl
theorem n_X7_moves_91 : nth t_X7_moves 91 = aLdA 0 92 := (y_X7_moves_4 9).trans rfl
theorem n_X7_moves_92 : nth t_X7_moves 92 = aGetR 15 [6] 95 := (y_X7_moves_4 10).trans rfl
theorem n_X7_moves_95 : nth t_X7_moves 95 = aLdI 2 96 := (y_X7_moves_4 13).trans rfl
theorem n_X7_moves_96 : nth t_X7_moves 96 = aAldI 97 := (y_X7_moves_4 14).trans rfl
theorem n_X7_moves_97 : nth t_X7_moves 97 = aDup2 98 := (y_X7_moves_4 15).trans rfl
theorem n_X7_moves_98 : nth t_X7_moves 98 = aAldI 99 := (y_X7_moves_4 16).trans rfl
theorem n_X7_moves_99 : nth t_X7_moves 99 = aK (.int 1) 100 := (y_X7_moves_4 17).trans rfl
theorem y_X7_moves_5 (n : Nat) : nth t_X7_moves (n + 100) = nth t_X7_moves_c5 n := (y_X7_moves_4 (n + 18)).trans rfl
theorem n_X7_moves_100 : nth t_X7_moves 100 = aB (fun x y => x + y) 101 := (y_X7_moves_5 0).trans rfl
theorem n_X7_moves_101 : nth t_X7_moves 101 = aAstI 102 := (y_X7_moves_5 1).trans rfl
theorem n_X7_moves_102 : nth t_X7_moves 102 = aLdA 0 103 := (y_X7_moves_5 2).trans rfl
theorem n_X7_moves_103 : nth t_X7_moves 103 = aGetR 18 [6] 106 := (y_X7_moves_5 3).trans rfl
theorem n_X7_moves_106 : nth t_X7_moves 106 = aLdA 0 107 := (y_X7_moves_5 6).trans rfl
theorem n_X7_moves_107 : nth t_X7_moves 107 = aGetR 16 [6] 110 := (y_X7_moves_5 7).trans rfl
theorem n_X7_moves_110 : nth t_X7_moves 110 = aLdI 2 111 := (y_X7_moves_5 10).trans rfl
theorem n_X7_moves_111 : nth t_X7_moves 111 = aAldI 112 := (y_X7_moves_5 11).trans rfl
theorem n_X7_moves_112 : nth t_X7_moves 112 = aDup2 113 := (y_X7_moves_5 12).trans rfl
theorem n_X7_moves_113 : nth t_X7_moves 113 = aAldI 114 := (y_X7_moves_5 13).trans rfl
theorem n_X7_moves_114 : nth t_X7_moves 114 = aK (.int 1) 115 := (y_X7_moves_5 14).trans rfl
theorem n_X7_moves_115 : nth t_X7_moves 115 = aB (fun x y => x + y) 116 := (y_X7_moves_5 15).trans rfl
theorem y_X7_moves_6 (n : Nat) : nth t_X7_moves (n + 116) = nth t_X7_moves_c6 n := (y_X7_moves_5 (n + 16)).trans rfl
theorem n_X7_moves_116 : nth t_X7_moves 116 = aAstI 117 := (y_X7_moves_6 0).trans rfl
theorem n_X7_moves_117 : nth t_X7_moves 117 = aInc 2 1 120 := (y_X7_moves_6 1).trans rfl
theorem n_X7_moves_120 : nth t_X7_moves 120 = aGoto 77 := (y_X7_moves_6 4).trans rfl
theorem n_X7_moves_123 : nth t_X7_moves 123 = aK (.int 0) 124 := (y_X7_moves_6 7).trans rfl
theorem n_X7_moves_124 : nth t_X7_moves 124 = aStI 2 125 := (y_X7_moves_6 8).trans rfl
theorem n_X7_moves_125 : nth t_X7_moves 125 = aK (.int 0) 126 := (y_X7_moves_6 9).trans rfl
theorem n_X7_moves_126 : nth t_X7_moves 126 = aStI 3 127 := (y_X7_moves_6 10).trans rfl
theorem n_X7_moves_127 : nth t_X7_moves 127 = aLdI 3 128 := (y_X7_moves_6 11).trans rfl
theorem n_X7_moves_128 : nth t_X7_moves 128 = aLdA 0 129 := (y_X7_moves_6 12).trans rfl
theorem n_X7_moves_129 : nth t_X7_moves 129 = aGetR 17 [6] 132 := (y_X7_moves_6 13).trans rfl
theorem n_X7_moves_132 : nth t_X7_moves 132 = aK (.int 0) 133 := (y_X7_moves_6 16).trans rfl
theorem n_X7_moves_133 : nth t_X7_moves 133 = aAldI 134 := (y_X7_moves_6 17).trans rfl
theorem y_X7_moves_7 (n : Nat) : nth t_X7_moves (n + 134) = nth t_X7_moves_c7 n := (y_X7_moves_6 (n + 18)).trans rfl
theorem n_X7_moves_134 : nth t_X7_moves 134 = aIcLt 137 338 := (y_X7_moves_7 0).trans rfl
theorem n_X7_moves_137 : nth t_X7_moves 137 = aK (.int 0) 138 := (y_X7_moves_7 3).trans rfl
theorem n_X7_moves_138 : nth t_X7_moves 138 = aStI 4 140 := (y_X7_moves_7 4).trans rfl
theorem n_X7_moves_140 : nth t_X7_moves 140 = aLdI 4 142 := (y_X7_moves_7 6).trans rfl
theorem n_X7_moves_142 : nth t_X7_moves 142 = aK (.int 2) 143 := (y_X7_moves_7 8).trans rfl
theorem n_X7_moves_143 : nth t_X7_moves 143 = aIcLt 146 332 := (y_X7_moves_7 9).trans rfl
theorem n_X7_moves_146 : nth t_X7_moves 146 = aLdI 4 148 := (y_X7_moves_7 12).trans rfl
theorem n_X7_moves_148 : nth t_X7_moves 148 = aIfEq 151 160 := (y_X7_moves_7 14).trans rfl
theorem n_X7_moves_151 : nth t_X7_moves 151 = aLdA 0 152 := (y_X7_moves_7 17).trans rfl
theorem n_X7_moves_152 : nth t_X7_moves 152 = aGetR 15 [6] 155 := (y_X7_moves_7 18).trans rfl
theorem n_X7_moves_155 : nth t_X7_moves 155 = aLdI 3 156 := (y_X7_moves_7 21).trans rfl
theorem n_X7_moves_156 : nth t_X7_moves 156 = aAldI 157 := (y_X7_moves_7 22).trans rfl
theorem y_X7_moves_8 (n : Nat) : nth t_X7_moves (n + 157) = nth t_X7_moves_c8 n := (y_X7_moves_7 (n + 23)).trans rfl
theorem n_X7_moves_157 : nth t_X7_moves 157 = aGoto 166 := (y_X7_moves_8 0).trans rfl
theorem n_X7_moves_160 : nth t_X7_moves 160 = aLdA 0 161 := (y_X7_moves_8 3).trans rfl
theorem n_X7_moves_161 : nth t_X7_moves 161 = aGetR 16 [6] 164 := (y_X7_moves_8 4).trans rfl
theorem n_X7_moves_164 : nth t_X7_moves 164 = aLdI 3 165 := (y_X7_moves_8 7).trans rfl
theorem n_X7_moves_165 : nth t_X7_moves 165 = aAldI 166 := (y_X7_moves_8 8).trans rfl
theorem n_X7_moves_166 : nth t_X7_moves 166 = aStI 5 168 := (y_X7_moves_8 9).trans rfl
theorem n_X7_moves_168 : nth t_X7_moves 168 = aLdI 4 170 := (y_X7_moves_8 11).trans rfl
theorem n_X7_moves_170 : nth t_X7_moves 170 = aIfEq 173 182 := (y_X7_moves_8 13).trans rfl
theorem n_X7_moves_173 : nth t_X7_moves 173 = aLdA 0 174 := (y_X7_moves_8 16).trans rfl
theorem n_X7_moves_174 : nth t_X7_moves 174 = aGetR 16 [6] 177 := (y_X7_moves_8 17).trans rfl
theorem n_X7_moves_177 : nth t_X7_moves 177 = aLdI 3 178 := (y_X7_moves_8 20).trans rfl
theorem n_X7_moves_178 : nth t_X7_moves 178 = aAldI 179 := (y_X7_moves_8 21).trans rfl
theorem y_X7_moves_9 (n : Nat) : nth t_X7_moves (n + 179) = nth t_X7_moves_c9 n := (y_X7_moves_8 (n + 22)).trans rfl
theorem n_X7_moves_179 : nth t_X7_moves 179 = aGoto 188 := (y_X7_moves_9 0).trans rfl
theorem n_X7_moves_182 : nth t_X7_moves 182 = aLdA 0 183 := (y_X7_moves_9 3).trans rfl
theorem n_X7_moves_183 : nth t_X7_moves 183 = aGetR 15 [6] 186 := (y_X7_moves_9 4).trans rfl
theorem n_X7_moves_186 : nth t_X7_moves 186 = aLdI 3 187 := (y_X7_moves_9 7).trans rfl
theorem n_X7_moves_187 : nth t_X7_moves 187 = aAldI 188 := (y_X7_moves_9 8).trans rfl
theorem n_X7_moves_188 : nth t_X7_moves 188 = aStI 6 190 := (y_X7_moves_9 9).trans rfl
theorem n_X7_moves_190 : nth t_X7_moves 190 = aLdI 5 192 := (y_X7_moves_9 11).trans rfl
theorem n_X7_moves_192 : nth t_X7_moves 192 = aCalS 211 1 195 none := (y_X7_moves_9 13).trans rfl
theorem n_X7_moves_195 : nth t_X7_moves 195 = aStI 7 197 := (y_X7_moves_9 16).trans rfl
theorem n_X7_moves_197 : nth t_X7_moves 197 = aLdI 7 199 := (y_X7_moves_9 18).trans rfl
theorem n_X7_moves_199 : nth t_X7_moves 199 = aStI 8 201 := (y_X7_moves_9 20).trans rfl
theorem n_X7_moves_201 : nth t_X7_moves 201 = aLdI 8 203 := (y_X7_moves_9 22).trans rfl
theorem y_X7_moves_10 (n : Nat) : nth t_X7_moves (n + 203) = nth t_X7_moves_c10 n := (y_X7_moves_9 (n + 24)).trans rfl
theorem n_X7_moves_203 : nth t_X7_moves 203 = aK (.int 217) 206 := (y_X7_moves_10 0).trans rfl
theorem n_X7_moves_206 : nth t_X7_moves 206 = aIcLt 209 326 := (y_X7_moves_10 3).trans rfl
theorem n_X7_moves_209 : nth t_X7_moves 209 = aLdI 8 211 := (y_X7_moves_10 6).trans rfl
theorem n_X7_moves_211 : nth t_X7_moves 211 = aCalS 211 1 214 none := (y_X7_moves_10 8).trans rfl
theorem n_X7_moves_214 : nth t_X7_moves 214 = aLdI 7 216 := (y_X7_moves_10 11).trans rfl
theorem n_X7_moves_216 : nth t_X7_moves 216 = aIcEq 219 326 := (y_X7_moves_10 13).trans rfl
theorem n_X7_moves_219 : nth t_X7_moves 219 = aLdI 8 221 := (y_X7_moves_10 16).trans rfl
theorem n_X7_moves_221 : nth t_X7_moves 221 = aLdI 5 223 := (y_X7_moves_10 18).trans rfl
theorem n_X7_moves_223 : nth t_X7_moves 223 = aIcEq 320 226 := (y_X7_moves_10 20).trans rfl
theorem n_X7_moves_226 : nth t_X7_moves 226 = aLdI 8 228 := (y_X7_moves_10 23).trans rfl
theorem n_X7_moves_228 : nth t_X7_moves 228 = aLdI 6 230 := (y_X7_moves_10 25).trans rfl
theorem n_X7_moves_230 : nth t_X7_moves 230 = aIcEq 320 233 := (y_X7_moves_10 27).trans rfl
theorem y_X7_moves_11 (n : Nat) : nth t_X7_moves (n + 233) = nth t_X7_moves_c11 n := (y_X7_moves_10 (n + 30)).trans rfl
theorem n_X7_moves_233 : nth t_X7_moves 233 = aLdA 0 234 := (y_X7_moves_11 0).trans rfl
theorem n_X7_moves_234 : nth t_X7_moves 234 = aGetR 18 [6] 237 := (y_X7_moves_11 1).trans rfl
theorem n_X7_moves_237 : nth t_X7_moves 237 = aLdI 8 239 := (y_X7_moves_11 4).trans rfl
theorem n_X7_moves_239 : nth t_X7_moves 239 = aAldI 240 := (y_X7_moves_11 6).trans rfl
theorem n_X7_moves_240 : nth t_X7_moves 240 = aLdI 8 242 := (y_X7_moves_11 7).trans rfl
theorem n_X7_moves_242 : nth t_X7_moves 242 = aCalS 172 1 245 none := (y_X7_moves_11 9).trans rfl
theorem n_X7_moves_245 : nth t_X7_moves 245 = aIcEq 248 251 := (y_X7_moves_11 12).trans rfl
theorem n_X7_moves_248 : nth t_X7_moves 248 = aGoto 320 := (y_X7_moves_11 15).trans rfl
theorem n_X7_moves_251 : nth t_X7_moves 251 = aLdA 0 252 := (y_X7_moves_11 18).trans rfl
theorem n_X7_moves_252 : nth t_X7_moves 252 = aLdI 3 253 := (y_X7_moves_11 19).trans rfl
theorem n_X7_moves_253 : nth t_X7_moves 253 = aLdI 4 255 := (y_X7_moves_11 20).trans rfl
theorem n_X7_moves_255 : nth t_X7_moves 255 = aLdI 8 257 := (y_X7_moves_11 22).trans rfl
theorem y_X7_moves_12 (n : Nat) : nth t_X7_moves (n + 257) = nth t_X7_moves_c12 n := (y_X7_moves_11 (n + 24)).trans rfl
theorem n_X7_moves_257 : nth t_X7_moves 257 = aCalV 212 3 260 [6] none := (y_X7_moves_12 0).trans rfl
theorem n_X7_moves_260 : nth t_X7_moves 260 = aLdA 0 261 := (y_X7_moves_12 3).trans rfl
theorem n_X7_moves_261 : nth t_X7_moves 261 = aK (.int 40) 263 := (y_X7_moves_12 4).trans rfl
theorem n_X7_moves_263 : nth t_X7_moves 263 = aCalV 177 1 266 [6] none := (y_X7_moves_12 6).trans rfl
theorem n_X7_moves_266 : nth t_X7_moves 266 = aLdA 0 267 := (y_X7_moves_12 9).trans rfl
theorem n_X7_moves_267 : nth t_X7_moves 267 = aLdI 3 268 := (y_X7_moves_12 10).trans rfl
theorem n_X7_moves_268 : nth t_X7_moves 268 = aLdI 4 270 := (y_X7_moves_12 11).trans rfl
theorem n_X7_moves_270 : nth t_X7_moves 270 = aLdI 5 272 := (y_X7_moves_12 13).trans rfl
theorem n_X7_moves_272 : nth t_X7_moves 272 = aCalV 212 3 275 [6] none := (y_X7_moves_12 15).trans rfl
theorem n_X7_moves_275 : nth t_X7_moves 275 = aLdA 0 276 := (y_X7_moves_12 18).trans rfl
theorem n_X7_moves_276 : nth t_X7_moves 276 = aCalV 203 0 279 [6] none := (y_X7_moves_12 19).trans rfl
theorem n_X7_moves_279 : nth t_X7_moves 279 = aIfEq 282 285 := (y_X7_moves_12 22).trans rfl
theorem y_X7_moves_13 (n : Nat) : nth t_X7_moves (n + 282) = nth t_X7_moves_c13 n := (y_X7_moves_12 (n + 25)).trans rfl
theorem n_X7_moves_282 : nth t_X7_moves 282 = aGoto 320 := (y_X7_moves_13 0).trans rfl
theorem n_X7_moves_285 : nth t_X7_moves 285 = aLdI 2 286 := (y_X7_moves_13 3).trans rfl
theorem n_X7_moves_286 : nth t_X7_moves 286 = aK (.int 100) 288 := (y_X7_moves_13 4).trans rfl
theorem n_X7_moves_288 : nth t_X7_moves 288 = aIcLt 291 317 := (y_X7_moves_13 6).trans rfl
theorem n_X7_moves_291 : nth t_X7_moves 291 = aLdA 0 292 := (y_X7_moves_13 9).trans rfl
theorem n_X7_moves_292 : nth t_X7_moves 292 = aGetR 58 [6] 295 := (y_X7_moves_13 10).trans rfl
theorem n_X7_moves_295 : nth t_X7_moves 295 = aLdI 2 296 := (y_X7_moves_13 13).trans rfl
theorem n_X7_moves_296 : nth t_X7_moves 296 = aLdI 3 297 := (y_X7_moves_13 14).trans rfl
theorem n_X7_moves_297 : nth t_X7_moves 297 = aAstI 298 := (y_X7_moves_13 15).trans rfl
theorem n_X7_moves_298 : nth t_X7_moves 298 = aLdA 0 299 := (y_X7_moves_13 16).trans rfl
theorem n_X7_moves_299 : nth t_X7_moves 299 = aGetR 59 [6] 302 := (y_X7_moves_13 17).trans rfl
theorem n_X7_moves_302 : nth t_X7_moves 302 = aLdI 2 303 := (y_X7_moves_13 20).trans rfl
theorem y_X7_moves_14 (n : Nat) : nth t_X7_moves (n + 303) = nth t_X7_moves_c14 n := (y_X7_moves_13 (n + 21)).trans rfl
theorem n_X7_moves_303 : nth t_X7_moves 303 = aLdI 4 305 := (y_X7_moves_14 0).trans rfl
theorem n_X7_moves_305 : nth t_X7_moves 305 = aAstI 306 := (y_X7_moves_14 2).trans rfl
theorem n_X7_moves_306 : nth t_X7_moves 306 = aLdA 0 307 := (y_X7_moves_14 3).trans rfl
theorem n_X7_moves_307 : nth t_X7_moves 307 = aGetR 60 [6] 310 := (y_X7_moves_14 4).trans rfl
theorem n_X7_moves_310 : nth t_X7_moves 310 = aLdI 2 311 := (y_X7_moves_14 7).trans rfl
theorem n_X7_moves_311 : nth t_X7_moves 311 = aLdI 8 313 := (y_X7_moves_14 8).trans rfl
theorem n_X7_moves_313 : nth t_X7_moves 313 = aLdI 7 315 := (y_X7_moves_14 10).trans rfl
theorem n_X7_moves_315 : nth t_X7_moves 315 = aB (fun x y => x - y) 316 := (y_X7_moves_14 12).trans rfl
theorem n_X7_moves_316 : nth t_X7_moves 316 = aAstI 317 := (y_X7_moves_14 13).trans rfl
theorem n_X7_moves_317 : nth t_X7_moves 317 = aInc 2 1 320 := (y_X7_moves_14 14).trans rfl
theorem n_X7_moves_320 : nth t_X7_moves 320 = aInc 8 1 323 := (y_X7_moves_14 17).trans rfl
theorem n_X7_moves_323 : nth t_X7_moves 323 = aGoto 201 := (y_X7_moves_14 20).trans rfl
theorem y_X7_moves_15 (n : Nat) : nth t_X7_moves (n + 326) = nth t_X7_moves_c15 n := (y_X7_moves_14 (n + 23)).trans rfl
theorem n_X7_moves_326 : nth t_X7_moves 326 = aInc 4 1 329 := (y_X7_moves_15 0).trans rfl
theorem n_X7_moves_329 : nth t_X7_moves 329 = aGoto 140 := (y_X7_moves_15 3).trans rfl
theorem n_X7_moves_332 : nth t_X7_moves 332 = aInc 3 1 335 := (y_X7_moves_15 6).trans rfl
theorem n_X7_moves_335 : nth t_X7_moves 335 = aGoto 127 := (y_X7_moves_15 9).trans rfl
theorem n_X7_moves_338 : nth t_X7_moves 338 = aLdA 0 339 := (y_X7_moves_15 12).trans rfl
theorem n_X7_moves_339 : nth t_X7_moves 339 = aLdI 2 340 := (y_X7_moves_15 13).trans rfl
theorem n_X7_moves_340 : nth t_X7_moves 340 = aK (.int 100) 342 := (y_X7_moves_15 14).trans rfl
theorem n_X7_moves_342 : nth t_X7_moves 342 = aIcLt 345 349 := (y_X7_moves_15 16).trans rfl
theorem n_X7_moves_345 : nth t_X7_moves 345 = aLdI 2 346 := (y_X7_moves_15 19).trans rfl
theorem n_X7_moves_346 : nth t_X7_moves 346 = aGoto 351 := (y_X7_moves_15 20).trans rfl
theorem n_X7_moves_349 : nth t_X7_moves 349 = aK (.int 100) 351 := (y_X7_moves_15 23).trans rfl
theorem n_X7_moves_351 : nth t_X7_moves 351 = aPutI 61 [6] 354 := (y_X7_moves_15 25).trans rfl
theorem y_X7_moves_16 (n : Nat) : nth t_X7_moves (n + 354) = nth t_X7_moves_c16 n := (y_X7_moves_15 (n + 28)).trans rfl
theorem n_X7_moves_354 : nth t_X7_moves 354 = aLdI 2 355 := (y_X7_moves_16 0).trans rfl
theorem n_X7_moves_355 : nth t_X7_moves 355 = aRetI := (y_X7_moves_16 1).trans rfl
theorem n_X7_beginOf_0 : nth t_X7_beginOf 0 = aLdI 0 1 := rfl
theorem n_X7_beginOf_1 : nth t_X7_beginOf 1 = aK (.int 20) 3 := rfl
theorem n_X7_beginOf_3 : nth t_X7_beginOf 3 = aIcLt 6 10 := rfl
theorem n_X7_beginOf_6 : nth t_X7_beginOf 6 = aK (.int 0) 7 := rfl
theorem n_X7_beginOf_7 : nth t_X7_beginOf 7 = aGoto 267 := rfl
theorem n_X7_beginOf_10 : nth t_X7_beginOf 10 = aLdI 0 11 := rfl
theorem n_X7_beginOf_11 : nth t_X7_beginOf 11 = aK (.int 40) 13 := rfl
theorem n_X7_beginOf_13 : nth t_X7_beginOf 13 = aIcLt 16 21 := rfl
theorem n_X7_beginOf_16 : nth t_X7_beginOf 16 = aK (.int 20) 18 := rfl
theorem n_X7_beginOf_18 : nth t_X7_beginOf 18 = aGoto 267 := rfl
theorem n_X7_beginOf_21 : nth t_X7_beginOf 21 = aLdI 0 22 := rfl
theorem n_X7_beginOf_22 : nth t_X7_beginOf 22 = aK (.int 60) 24 := rfl
theorem y_X7_beginOf_1 (n : Nat) : nth t_X7_beginOf (n + 24) = nth t_X7_beginOf_c1 n := rfl
theorem n_X7_beginOf_24 : nth t_X7_beginOf 24 = aIcLt 27 32 := (y_X7_beginOf_1 0).trans rfl
theorem n_X7_beginOf_27 : nth t_X7_beginOf 27 = aK (.int 40) 29 := (y_X7_beginOf_1 3).trans rfl
theorem n_X7_beginOf_29 : nth t_X7_beginOf 29 = aGoto 267 := (y_X7_beginOf_1 5).trans rfl
theorem n_X7_beginOf_32 : nth t_X7_beginOf 32 = aLdI 0 33 := (y_X7_beginOf_1 8).trans rfl
theorem n_X7_beginOf_33 : nth t_X7_beginOf 33 = aK (.int 61) 35 := (y_X7_beginOf_1 9).trans rfl
theorem n_X7_beginOf_35 : nth t_X7_beginOf 35 = aIcLt 38 43 := (y_X7_beginOf_1 11).trans rfl
theorem n_X7_beginOf_38 : nth t_X7_beginOf 38 = aK (.int 60) 40 := (y_X7_beginOf_1 14).trans rfl
theorem n_X7_beginOf_40 : nth t_X7_beginOf 40 = aGoto 267 := (y_X7_beginOf_1 16).trans rfl
theorem n_X7_beginOf_43 : nth t_X7_beginOf 43 = aLdI 0 44 := (y_X7_beginOf_1 19).trans rfl
theorem n_X7_beginOf_44 : nth t_X7_beginOf 44 = aK (.int 65) 46 := (y_X7_beginOf_1 20).trans rfl
theorem n_X7_beginOf_46 : nth t_X7_beginOf 46 = aIcLt 49 54 := (y_X7_beginOf_1 22).trans rfl
theorem n_X7_beginOf_49 : nth t_X7_beginOf 49 = aK (.int 61) 51 := (y_X7_beginOf_1 25).trans rfl
theorem y_X7_beginOf_2 (n : Nat) : nth t_X7_beginOf (n + 51) = nth t_X7_beginOf_c2 n := (y_X7_beginOf_1 (n + 27)).trans rfl
theorem n_X7_beginOf_51 : nth t_X7_beginOf 51 = aGoto 267 := (y_X7_beginOf_2 0).trans rfl
theorem n_X7_beginOf_54 : nth t_X7_beginOf 54 = aLdI 0 55 := (y_X7_beginOf_2 3).trans rfl
theorem n_X7_beginOf_55 : nth t_X7_beginOf 55 = aK (.int 68) 57 := (y_X7_beginOf_2 4).trans rfl
theorem n_X7_beginOf_57 : nth t_X7_beginOf 57 = aIcLt 60 65 := (y_X7_beginOf_2 6).trans rfl
theorem n_X7_beginOf_60 : nth t_X7_beginOf 60 = aK (.int 65) 62 := (y_X7_beginOf_2 9).trans rfl
theorem n_X7_beginOf_62 : nth t_X7_beginOf 62 = aGoto 267 := (y_X7_beginOf_2 11).trans rfl
theorem n_X7_beginOf_65 : nth t_X7_beginOf 65 = aLdI 0 66 := (y_X7_beginOf_2 14).trans rfl
theorem n_X7_beginOf_66 : nth t_X7_beginOf 66 = aK (.int 92) 68 := (y_X7_beginOf_2 15).trans rfl
theorem n_X7_beginOf_68 : nth t_X7_beginOf 68 = aIcLt 71 76 := (y_X7_beginOf_2 17).trans rfl
theorem n_X7_beginOf_71 : nth t_X7_beginOf 71 = aK (.int 68) 73 := (y_X7_beginOf_2 20).trans rfl
theorem n_X7_beginOf_73 : nth t_X7_beginOf 73 = aGoto 267 := (y_X7_beginOf_2 22).trans rfl
theorem n_X7_beginOf_76 : nth t_X7_beginOf 76 = aLdI 0 77 := (y_X7_beginOf_2 25).trans rfl
theorem y_X7_beginOf_3 (n : Nat) : nth t_X7_beginOf (n + 77) = nth t_X7_beginOf_c3 n := (y_X7_beginOf_2 (n + 26)).trans rfl
theorem n_X7_beginOf_77 : nth t_X7_beginOf 77 = aK (.int 96) 79 := (y_X7_beginOf_3 0).trans rfl
theorem n_X7_beginOf_79 : nth t_X7_beginOf 79 = aIcLt 82 87 := (y_X7_beginOf_3 2).trans rfl
theorem n_X7_beginOf_82 : nth t_X7_beginOf 82 = aK (.int 92) 84 := (y_X7_beginOf_3 5).trans rfl
theorem n_X7_beginOf_84 : nth t_X7_beginOf 84 = aGoto 267 := (y_X7_beginOf_3 7).trans rfl
theorem n_X7_beginOf_87 : nth t_X7_beginOf 87 = aLdI 0 88 := (y_X7_beginOf_3 10).trans rfl
theorem n_X7_beginOf_88 : nth t_X7_beginOf 88 = aK (.int 120) 90 := (y_X7_beginOf_3 11).trans rfl
theorem n_X7_beginOf_90 : nth t_X7_beginOf 90 = aIcLt 93 98 := (y_X7_beginOf_3 13).trans rfl
theorem n_X7_beginOf_93 : nth t_X7_beginOf 93 = aK (.int 96) 95 := (y_X7_beginOf_3 16).trans rfl
theorem n_X7_beginOf_95 : nth t_X7_beginOf 95 = aGoto 267 := (y_X7_beginOf_3 18).trans rfl
theorem n_X7_beginOf_98 : nth t_X7_beginOf 98 = aLdI 0 99 := (y_X7_beginOf_3 21).trans rfl
theorem n_X7_beginOf_99 : nth t_X7_beginOf 99 = aK (.int 124) 101 := (y_X7_beginOf_3 22).trans rfl
theorem n_X7_beginOf_101 : nth t_X7_beginOf 101 = aIcLt 104 109 := (y_X7_beginOf_3 24).trans rfl
theorem y_X7_beginOf_4 (n : Nat) : nth t_X7_beginOf (n + 104) = nth t_X7_beginOf_c4 n := (y_X7_beginOf_3 (n + 27)).trans rfl
theorem n_X7_beginOf_104 : nth t_X7_beginOf 104 = aK (.int 120) 106 := (y_X7_beginOf_4 0).trans rfl
theorem n_X7_beginOf_106 : nth t_X7_beginOf 106 = aGoto 267 := (y_X7_beginOf_4 2).trans rfl
theorem n_X7_beginOf_109 : nth t_X7_beginOf 109 = aLdI 0 110 := (y_X7_beginOf_4 5).trans rfl
theorem n_X7_beginOf_110 : nth t_X7_beginOf 110 = aK (.int 128) 113 := (y_X7_beginOf_4 6).trans rfl
theorem n_X7_beginOf_113 : nth t_X7_beginOf 113 = aIcLt 116 121 := (y_X7_beginOf_4 9).trans rfl
theorem n_X7_beginOf_116 : nth t_X7_beginOf 116 = aK (.int 124) 118 := (y_X7_beginOf_4 12).trans rfl
theorem n_X7_beginOf_118 : nth t_X7_beginOf 118 = aGoto 267 := (y_X7_beginOf_4 14).trans rfl
theorem n_X7_beginOf_121 : nth t_X7_beginOf 121 = aLdI 0 122 := (y_X7_beginOf_4 17).trans rfl
theorem n_X7_beginOf_122 : nth t_X7_beginOf 122 = aK (.int 132) 125 := (y_X7_beginOf_4 18).trans rfl
theorem n_X7_beginOf_125 : nth t_X7_beginOf 125 = aIcLt 128 134 := (y_X7_beginOf_4 21).trans rfl
theorem n_X7_beginOf_128 : nth t_X7_beginOf 128 = aK (.int 128) 131 := (y_X7_beginOf_4 24).trans rfl
theorem n_X7_beginOf_131 : nth t_X7_beginOf 131 = aGoto 267 := (y_X7_beginOf_4 27).trans rfl
theorem y_X7_beginOf_5 (n : Nat) : nth t_X7_beginOf (n + 134) = nth t_X7_beginOf_c5 n := (y_X7_beginOf_4 (n + 30)).trans rfl
theorem n_X7_beginOf_134 : nth t_X7_beginOf 134 = aLdI 0 135 := (y_X7_beginOf_5 0).trans rfl
theorem n_X7_beginOf_135 : nth t_X7_beginOf 135 = aK (.int 144) 138 := (y_X7_beginOf_5 1).trans rfl
theorem n_X7_beginOf_138 : nth t_X7_beginOf 138 = aIcLt 141 147 := (y_X7_beginOf_5 4).trans rfl
theorem n_X7_beginOf_141 : nth t_X7_beginOf 141 = aK (.int 132) 144 := (y_X7_beginOf_5 7).trans rfl
theorem n_X7_beginOf_144 : nth t_X7_beginOf 144 = aGoto 267 := (y_X7_beginOf_5 10).trans rfl
theorem n_X7_beginOf_147 : nth t_X7_beginOf 147 = aLdI 0 148 := (y_X7_beginOf_5 13).trans rfl
theorem n_X7_beginOf_148 : nth t_X7_beginOf 148 = aK (.int 148) 151 := (y_X7_beginOf_5 14).trans rfl
theorem n_X7_beginOf_151 : nth t_X7_beginOf 151 = aIcLt 154 160 := (y_X7_beginOf_5 17).trans rfl
theorem n_X7_beginOf_154 : nth t_X7_beginOf 154 = aK (.int 144) 157 := (y_X7_beginOf_5 20).trans rfl
theorem n_X7_beginOf_157 : nth t_X7_beginOf 157 = aGoto 267 := (y_X7_beginOf_5 23).trans rfl
theorem n_X7_beginOf_160 : nth t_X7_beginOf 160 = aLdI 0 161 := (y_X7_beginOf_5 26).trans rfl
theorem n_X7_beginOf_161 : nth t_X7_beginOf 161 = aK (.int 152) 164 := (y_X7_beginOf_5 27).trans rfl
theorem y_X7_beginOf_6 (n : Nat) : nth t_X7_beginOf (n + 164) = nth t_X7_beginOf_c6 n := (y_X7_beginOf_5 (n + 30)).trans rfl
theorem n_X7_beginOf_164 : nth t_X7_beginOf 164 = aIcLt 167 173 := (y_X7_beginOf_6 0).trans rfl
theorem n_X7_beginOf_167 : nth t_X7_beginOf 167 = aK (.int 148) 170 := (y_X7_beginOf_6 3).trans rfl
theorem n_X7_beginOf_170 : nth t_X7_beginOf 170 = aGoto 267 := (y_X7_beginOf_6 6).trans rfl
theorem n_X7_beginOf_173 : nth t_X7_beginOf 173 = aLdI 0 174 := (y_X7_beginOf_6 9).trans rfl
theorem n_X7_beginOf_174 : nth t_X7_beginOf 174 = aK (.int 156) 177 := (y_X7_beginOf_6 10).trans rfl
theorem n_X7_beginOf_177 : nth t_X7_beginOf 177 = aIcLt 180 186 := (y_X7_beginOf_6 13).trans rfl
theorem n_X7_beginOf_180 : nth t_X7_beginOf 180 = aK (.int 152) 183 := (y_X7_beginOf_6 16).trans rfl
theorem n_X7_beginOf_183 : nth t_X7_beginOf 183 = aGoto 267 := (y_X7_beginOf_6 19).trans rfl
theorem n_X7_beginOf_186 : nth t_X7_beginOf 186 = aLdI 0 187 := (y_X7_beginOf_6 22).trans rfl
theorem n_X7_beginOf_187 : nth t_X7_beginOf 187 = aK (.int 159) 190 := (y_X7_beginOf_6 23).trans rfl
theorem n_X7_beginOf_190 : nth t_X7_beginOf 190 = aIcLt 193 199 := (y_X7_beginOf_6 26).trans rfl
theorem n_X7_beginOf_193 : nth t_X7_beginOf 193 = aK (.int 156) 196 := (y_X7_beginOf_6 29).trans rfl
theorem y_X7_beginOf_7 (n : Nat) : nth t_X7_beginOf (n + 196) = nth t_X7_beginOf_c7 n := (y_X7_beginOf_6 (n + 32)).trans rfl
theorem n_X7_beginOf_196 : nth t_X7_beginOf 196 = aGoto 267 := (y_X7_beginOf_7 0).trans rfl
theorem n_X7_beginOf_199 : nth t_X7_beginOf 199 = aLdI 0 200 := (y_X7_beginOf_7 3).trans rfl
theorem n_X7_beginOf_200 : nth t_X7_beginOf 200 = aK (.int 179) 203 := (y_X7_beginOf_7 4).trans rfl
theorem n_X7_beginOf_203 : nth t_X7_beginOf 203 = aIcLt 206 212 := (y_X7_beginOf_7 7).trans rfl
theorem n_X7_beginOf_206 : nth t_X7_beginOf 206 = aK (.int 159) 209 := (y_X7_beginOf_7 10).trans rfl
theorem n_X7_beginOf_209 : nth t_X7_beginOf 209 = aGoto 267 := (y_X7_beginOf_7 13).trans rfl
theorem n_X7_beginOf_212 : nth t_X7_beginOf 212 = aLdI 0 213 := (y_X7_beginOf_7 16).trans rfl
theorem n_X7_beginOf_213 : nth t_X7_beginOf 213 = aK (.int 180) 216 := (y_X7_beginOf_7 17).trans rfl
theorem n_X7_beginOf_216 : nth t_X7_beginOf 216 = aIcLt 219 225 := (y_X7_beginOf_7 20).trans rfl
theorem n_X7_beginOf_219 : nth t_X7_beginOf 219 = aK (.int 179) 222 := (y_X7_beginOf_7 23).trans rfl
theorem n_X7_beginOf_222 : nth t_X7_beginOf 222 = aGoto 267 := (y_X7_beginOf_7 26).trans rfl
theorem n_X7_beginOf_225 : nth t_X7_beginOf 225 = aLdI 0 226 := (y_X7_beginOf_7 29).trans rfl
theorem y_X7_beginOf_8 (n : Nat) : nth t_X7_beginOf (n + 226) = nth t_X7_beginOf_c8 n := (y_X7_beginOf_7 (n + 30)).trans rfl
theorem n_X7_beginOf_226 : nth t_X7_beginOf 226 = aK (.int 181) 229 := (y_X7_beginOf_8 0).trans rfl
theorem n_X7_beginOf_229 : nth t_X7_beginOf 229 = aIcLt 232 238 := (y_X7_beginOf_8 3).trans rfl
theorem n_X7_beginOf_232 : nth t_X7_beginOf 232 = aK (.int 180) 235 := (y_X7_beginOf_8 6).trans rfl
theorem n_X7_beginOf_235 : nth t_X7_beginOf 235 = aGoto 267 := (y_X7_beginOf_8 9).trans rfl
theorem n_X7_beginOf_238 : nth t_X7_beginOf 238 = aLdI 0 239 := (y_X7_beginOf_8 12).trans rfl
theorem n_X7_beginOf_239 : nth t_X7_beginOf 239 = aK (.int 193) 242 := (y_X7_beginOf_8 13).trans rfl
theorem n_X7_beginOf_242 : nth t_X7_beginOf 242 = aIcLt 245 251 := (y_X7_beginOf_8 16).trans rfl
theorem n_X7_beginOf_245 : nth t_X7_beginOf 245 = aK (.int 181) 248 := (y_X7_beginOf_8 19).trans rfl
theorem n_X7_beginOf_248 : nth t_X7_beginOf 248 = aGoto 267 := (y_X7_beginOf_8 22).trans rfl
theorem n_X7_beginOf_251 : nth t_X7_beginOf 251 = aLdI 0 252 := (y_X7_beginOf_8 25).trans rfl
theorem n_X7_beginOf_252 : nth t_X7_beginOf 252 = aK (.int 205) 255 := (y_X7_beginOf_8 26).trans rfl
theorem n_X7_beginOf_255 : nth t_X7_beginOf 255 = aIcLt 258 264 := (y_X7_beginOf_8 29).trans rfl
theorem y_X7_beginOf_9 (n : Nat) : nth t_X7_beginOf (n + 258) = nth t_X7_beginOf_c9 n := (y_X7_beginOf_8 (n + 32)).trans rfl
theorem n_X7_beginOf_258 : nth t_X7_beginOf 258 = aK (.int 193) 261 := (y_X7_beginOf_9 0).trans rfl
theorem n_X7_beginOf_261 : nth t_X7_beginOf 261 = aGoto 267 := (y_X7_beginOf_9 3).trans rfl
theorem n_X7_beginOf_264 : nth t_X7_beginOf 264 = aK (.int 205) 267 := (y_X7_beginOf_9 6).trans rfl
theorem n_X7_beginOf_267 : nth t_X7_beginOf 267 = aRetI := (y_X7_beginOf_9 9).trans rfl
theorem n_X7_put_0 : nth t_X7_put 0 = aLdI 2 1 := rfl
theorem n_X7_put_1 : nth t_X7_put 1 = aIfEq 4 14 := rfl
theorem n_X7_put_4 : nth t_X7_put 4 = aLdA 0 5 := rfl
theorem n_X7_put_5 : nth t_X7_put 5 = aGetR 15 [6] 8 := rfl
theorem n_X7_put_8 : nth t_X7_put 8 = aLdI 1 9 := rfl
theorem n_X7_put_9 : nth t_X7_put 9 = aLdI 3 10 := rfl
theorem n_X7_put_10 : nth t_X7_put 10 = aAstI 11 := rfl
theorem n_X7_put_11 : nth t_X7_put 11 = aGoto 21 := rfl
theorem n_X7_put_14 : nth t_X7_put 14 = aLdA 0 15 := rfl
theorem n_X7_put_15 : nth t_X7_put 15 = aGetR 16 [6] 18 := rfl
theorem n_X7_put_18 : nth t_X7_put 18 = aLdI 1 19 := rfl
theorem n_X7_put_19 : nth t_X7_put 19 = aLdI 3 20 := rfl
theorem y_X7_put_1 (n : Nat) : nth t_X7_put (n + 20) = nth t_X7_put_c1 n := rfl
theorem n_X7_put_20 : nth t_X7_put 20 = aAstI 21 := (y_X7_put_1 0).trans rfl
theorem n_X7_put_21 : nth t_X7_put 21 = aRetV := (y_X7_put_1 1).trans rfl
theorem n_X7_move_0 : nth t_X7_move 0 = aLdA 0 1 := rfl
theorem n_X7_move_1 : nth t_X7_move 1 = aK (.int 0) 2 := rfl
theorem n_X7_move_2 : nth t_X7_move 2 = aPutI 0 [6] 5 := rfl
theorem n_X7_move_5 : nth t_X7_move 5 = aLdI 1 6 := rfl
theorem n_X7_move_6 : nth t_X7_move 6 = aK (.int 0) 7 := rfl
theorem n_X7_move_7 : nth t_X7_move 7 = aLdA 0 8 := rfl
theorem n_X7_move_8 : nth t_X7_move 8 = aGetI 61 [6] 11 := rfl
theorem n_X7_move_11 : nth t_X7_move 11 = aK (.int 1) 12 := rfl
theorem n_X7_move_12 : nth t_X7_move 12 = aB (fun x y => x - y) 13 := rfl
theorem n_X7_move_13 : nth t_X7_move 13 = aCalS 154 3 16 none := rfl
theorem n_X7_move_16 : nth t_X7_move 16 = aIfEq 19 21 := rfl
theorem n_X7_move_19 : nth t_X7_move 19 = aK (.int (-1)) 20 := rfl
theorem y_X7_move_1 (n : Nat) : nth t_X7_move (n + 20) = nth t_X7_move_c1 n := rfl
theorem n_X7_move_20 : nth t_X7_move 20 = aRetI := (y_X7_move_1 0).trans rfl
theorem n_X7_move_21 : nth t_X7_move 21 = aLdI 2 22 := (y_X7_move_1 1).trans rfl
theorem n_X7_move_22 : nth t_X7_move 22 = aIfEq 25 34 := (y_X7_move_1 2).trans rfl
theorem n_X7_move_25 : nth t_X7_move 25 = aLdA 0 26 := (y_X7_move_1 5).trans rfl
theorem n_X7_move_26 : nth t_X7_move 26 = aGetR 58 [6] 29 := (y_X7_move_1 6).trans rfl
theorem n_X7_move_29 : nth t_X7_move 29 = aLdI 1 30 := (y_X7_move_1 9).trans rfl
theorem n_X7_move_30 : nth t_X7_move 30 = aAldI 31 := (y_X7_move_1 10).trans rfl
theorem n_X7_move_31 : nth t_X7_move 31 = aGoto 63 := (y_X7_move_1 11).trans rfl
theorem n_X7_move_34 : nth t_X7_move 34 = aLdI 2 35 := (y_X7_move_1 14).trans rfl
theorem n_X7_move_35 : nth t_X7_move 35 = aK (.int 1) 36 := (y_X7_move_1 15).trans rfl
theorem n_X7_move_36 : nth t_X7_move 36 = aIcEq 39 48 := (y_X7_move_1 16).trans rfl
theorem n_X7_move_39 : nth t_X7_move 39 = aLdA 0 40 := (y_X7_move_1 19).trans rfl
theorem y_X7_move_2 (n : Nat) : nth t_X7_move (n + 40) = nth t_X7_move_c2 n := (y_X7_move_1 (n + 20)).trans rfl
theorem n_X7_move_40 : nth t_X7_move 40 = aGetR 59 [6] 43 := (y_X7_move_2 0).trans rfl
theorem n_X7_move_43 : nth t_X7_move 43 = aLdI 1 44 := (y_X7_move_2 3).trans rfl
theorem n_X7_move_44 : nth t_X7_move 44 = aAldI 45 := (y_X7_move_2 4).trans rfl
theorem n_X7_move_45 : nth t_X7_move 45 = aGoto 63 := (y_X7_move_2 5).trans rfl
theorem n_X7_move_48 : nth t_X7_move 48 = aLdI 2 49 := (y_X7_move_2 8).trans rfl
theorem n_X7_move_49 : nth t_X7_move 49 = aK (.int 2) 50 := (y_X7_move_2 9).trans rfl
theorem n_X7_move_50 : nth t_X7_move 50 = aIcEq 53 62 := (y_X7_move_2 10).trans rfl
theorem n_X7_move_53 : nth t_X7_move 53 = aLdA 0 54 := (y_X7_move_2 13).trans rfl
theorem n_X7_move_54 : nth t_X7_move 54 = aGetR 60 [6] 57 := (y_X7_move_2 14).trans rfl
theorem n_X7_move_57 : nth t_X7_move 57 = aLdI 1 58 := (y_X7_move_2 17).trans rfl
theorem n_X7_move_58 : nth t_X7_move 58 = aAldI 59 := (y_X7_move_2 18).trans rfl
theorem n_X7_move_59 : nth t_X7_move 59 = aGoto 63 := (y_X7_move_2 19).trans rfl
theorem y_X7_move_3 (n : Nat) : nth t_X7_move (n + 62) = nth t_X7_move_c3 n := (y_X7_move_2 (n + 22)).trans rfl
theorem n_X7_move_62 : nth t_X7_move 62 = aK (.int (-1)) 63 := (y_X7_move_3 0).trans rfl
theorem n_X7_move_63 : nth t_X7_move 63 = aRetI := (y_X7_move_3 1).trans rfl
theorem n_X7_job_0 : nth t_X7_job 0 = aLdA 0 1 := rfl
theorem n_X7_job_1 : nth t_X7_job 1 = aK (.int 0) 2 := rfl
theorem n_X7_job_2 : nth t_X7_job 2 = aPutI 0 [6] 5 := rfl
theorem n_X7_job_5 : nth t_X7_job 5 = aLdA 0 6 := rfl
theorem n_X7_job_6 : nth t_X7_job 6 = aCalV 152 0 9 [6] none := rfl
theorem n_X7_job_9 : nth t_X7_job 9 = aLdA 0 10 := rfl
theorem n_X7_job_10 : nth t_X7_job 10 = aK (.int 0) 11 := rfl
theorem n_X7_job_11 : nth t_X7_job 11 = aPutI 10 [6] 14 := rfl
theorem n_X7_job_14 : nth t_X7_job 14 = aLdA 0 15 := rfl
theorem n_X7_job_15 : nth t_X7_job 15 = aK (.int 300) 18 := rfl
theorem n_X7_job_18 : nth t_X7_job 18 = aPutI 12 [6] 21 := rfl
theorem n_X7_job_21 : nth t_X7_job 21 = aLdA 0 22 := rfl
theorem y_X7_job_1 (n : Nat) : nth t_X7_job (n + 22) = nth t_X7_job_c1 n := rfl
theorem n_X7_job_22 : nth t_X7_job 22 = aGetR 62 [6] 25 := (y_X7_job_1 0).trans rfl
theorem n_X7_job_25 : nth t_X7_job 25 = aK (.int 1) 26 := (y_X7_job_1 3).trans rfl
theorem n_X7_job_26 : nth t_X7_job 26 = aK (.int 0) 27 := (y_X7_job_1 4).trans rfl
theorem n_X7_job_27 : nth t_X7_job 27 = aAstI 28 := (y_X7_job_1 5).trans rfl
theorem n_X7_job_28 : nth t_X7_job 28 = aLdA 0 29 := (y_X7_job_1 6).trans rfl
theorem n_X7_job_29 : nth t_X7_job 29 = aGetR 66 [6] 32 := (y_X7_job_1 7).trans rfl
theorem n_X7_job_32 : nth t_X7_job 32 = aK (.int 1) 33 := (y_X7_job_1 10).trans rfl
theorem n_X7_job_33 : nth t_X7_job 33 = aK (.int 0) 34 := (y_X7_job_1 11).trans rfl
theorem n_X7_job_34 : nth t_X7_job 34 = aAstI 35 := (y_X7_job_1 12).trans rfl
theorem n_X7_job_35 : nth t_X7_job 35 = aK (.int 0) 36 := (y_X7_job_1 13).trans rfl
theorem n_X7_job_36 : nth t_X7_job 36 = aStI 1 37 := (y_X7_job_1 14).trans rfl
theorem n_X7_job_37 : nth t_X7_job 37 = aLdI 1 38 := (y_X7_job_1 15).trans rfl
theorem y_X7_job_2 (n : Nat) : nth t_X7_job (n + 38) = nth t_X7_job_c2 n := (y_X7_job_1 (n + 16)).trans rfl
theorem n_X7_job_38 : nth t_X7_job 38 = aK (.int 3) 39 := (y_X7_job_2 0).trans rfl
theorem n_X7_job_39 : nth t_X7_job 39 = aIcLt 42 57 := (y_X7_job_2 1).trans rfl
theorem n_X7_job_42 : nth t_X7_job 42 = aLdA 0 43 := (y_X7_job_2 4).trans rfl
theorem n_X7_job_43 : nth t_X7_job 43 = aGetR 65 [6] 46 := (y_X7_job_2 5).trans rfl
theorem n_X7_job_46 : nth t_X7_job 46 = aK (.int 3) 47 := (y_X7_job_2 8).trans rfl
theorem n_X7_job_47 : nth t_X7_job 47 = aLdI 1 48 := (y_X7_job_2 9).trans rfl
theorem n_X7_job_48 : nth t_X7_job 48 = aB (fun x y => x + y) 49 := (y_X7_job_2 10).trans rfl
theorem n_X7_job_49 : nth t_X7_job 49 = aK (.int 0) 50 := (y_X7_job_2 11).trans rfl
theorem n_X7_job_50 : nth t_X7_job 50 = aAstI 51 := (y_X7_job_2 12).trans rfl
theorem n_X7_job_51 : nth t_X7_job 51 = aInc 1 1 54 := (y_X7_job_2 13).trans rfl
theorem n_X7_job_54 : nth t_X7_job 54 = aGoto 37 := (y_X7_job_2 16).trans rfl
theorem n_X7_job_57 : nth t_X7_job 57 = aLdA 0 58 := (y_X7_job_2 19).trans rfl
theorem y_X7_job_3 (n : Nat) : nth t_X7_job (n + 58) = nth t_X7_job_c3 n := (y_X7_job_2 (n + 20)).trans rfl
theorem n_X7_job_58 : nth t_X7_job 58 = aCalV 162 0 61 [6] none := (y_X7_job_3 0).trans rfl
theorem n_X7_job_61 : nth t_X7_job 61 = aLdA 0 62 := (y_X7_job_3 3).trans rfl
theorem n_X7_job_62 : nth t_X7_job 62 = aCalV 215 0 65 [6] none := (y_X7_job_3 4).trans rfl
theorem n_X7_job_65 : nth t_X7_job 65 = aIfEq 68 75 := (y_X7_job_3 7).trans rfl
theorem n_X7_job_68 : nth t_X7_job 68 = aK (.int (-1)) 69 := (y_X7_job_3 10).trans rfl
theorem n_X7_job_69 : nth t_X7_job 69 = aLdA 0 70 := (y_X7_job_3 11).trans rfl
theorem n_X7_job_70 : nth t_X7_job 70 = aGetI 11 [6] 73 := (y_X7_job_3 12).trans rfl
theorem n_X7_job_73 : nth t_X7_job 73 = aB (fun x y => x - y) 74 := (y_X7_job_3 15).trans rfl
theorem n_X7_job_74 : nth t_X7_job 74 = aRetI := (y_X7_job_3 16).trans rfl
theorem n_X7_job_75 : nth t_X7_job 75 = aLdA 0 76 := (y_X7_job_3 17).trans rfl
theorem n_X7_job_76 : nth t_X7_job 76 = aGetR 62 [6] 79 := (y_X7_job_3 18).trans rfl
theorem n_X7_job_79 : nth t_X7_job 79 = aK (.int 0) 80 := (y_X7_job_3 21).trans rfl
theorem y_X7_job_4 (n : Nat) : nth t_X7_job (n + 80) = nth t_X7_job_c4 n := (y_X7_job_3 (n + 22)).trans rfl
theorem n_X7_job_80 : nth t_X7_job 80 = aLdA 0 81 := (y_X7_job_4 0).trans rfl
theorem n_X7_job_81 : nth t_X7_job 81 = aGetR 62 [6] 84 := (y_X7_job_4 1).trans rfl
theorem n_X7_job_84 : nth t_X7_job 84 = aK (.int 1) 85 := (y_X7_job_4 4).trans rfl
theorem n_X7_job_85 : nth t_X7_job 85 = aAldI 86 := (y_X7_job_4 5).trans rfl
theorem n_X7_job_86 : nth t_X7_job 86 = aAstI 87 := (y_X7_job_4 6).trans rfl
theorem n_X7_job_87 : nth t_X7_job 87 = aLdA 0 88 := (y_X7_job_4 7).trans rfl
theorem n_X7_job_88 : nth t_X7_job 88 = aGetR 66 [6] 91 := (y_X7_job_4 8).trans rfl
theorem n_X7_job_91 : nth t_X7_job 91 = aK (.int 0) 92 := (y_X7_job_4 11).trans rfl
theorem n_X7_job_92 : nth t_X7_job 92 = aLdA 0 93 := (y_X7_job_4 12).trans rfl
theorem n_X7_job_93 : nth t_X7_job 93 = aGetR 66 [6] 96 := (y_X7_job_4 13).trans rfl
theorem n_X7_job_96 : nth t_X7_job 96 = aK (.int 1) 97 := (y_X7_job_4 16).trans rfl
theorem n_X7_job_97 : nth t_X7_job 97 = aAldI 98 := (y_X7_job_4 17).trans rfl
theorem y_X7_job_5 (n : Nat) : nth t_X7_job (n + 98) = nth t_X7_job_c5 n := (y_X7_job_4 (n + 18)).trans rfl
theorem n_X7_job_98 : nth t_X7_job 98 = aAstI 99 := (y_X7_job_5 0).trans rfl
theorem n_X7_job_99 : nth t_X7_job 99 = aK (.int 0) 100 := (y_X7_job_5 1).trans rfl
theorem n_X7_job_100 : nth t_X7_job 100 = aStI 1 101 := (y_X7_job_5 2).trans rfl
theorem n_X7_job_101 : nth t_X7_job 101 = aLdI 1 102 := (y_X7_job_5 3).trans rfl
theorem n_X7_job_102 : nth t_X7_job 102 = aK (.int 3) 103 := (y_X7_job_5 4).trans rfl
theorem n_X7_job_103 : nth t_X7_job 103 = aIcLt 106 126 := (y_X7_job_5 5).trans rfl
theorem n_X7_job_106 : nth t_X7_job 106 = aLdA 0 107 := (y_X7_job_5 8).trans rfl
theorem n_X7_job_107 : nth t_X7_job 107 = aGetR 65 [6] 110 := (y_X7_job_5 9).trans rfl
theorem n_X7_job_110 : nth t_X7_job 110 = aLdI 1 111 := (y_X7_job_5 12).trans rfl
theorem n_X7_job_111 : nth t_X7_job 111 = aLdA 0 112 := (y_X7_job_5 13).trans rfl
theorem n_X7_job_112 : nth t_X7_job 112 = aGetR 65 [6] 115 := (y_X7_job_5 14).trans rfl
theorem n_X7_job_115 : nth t_X7_job 115 = aK (.int 3) 116 := (y_X7_job_5 17).trans rfl
theorem y_X7_job_6 (n : Nat) : nth t_X7_job (n + 116) = nth t_X7_job_c6 n := (y_X7_job_5 (n + 18)).trans rfl
theorem n_X7_job_116 : nth t_X7_job 116 = aLdI 1 117 := (y_X7_job_6 0).trans rfl
theorem n_X7_job_117 : nth t_X7_job 117 = aB (fun x y => x + y) 118 := (y_X7_job_6 1).trans rfl
theorem n_X7_job_118 : nth t_X7_job 118 = aAldI 119 := (y_X7_job_6 2).trans rfl
theorem n_X7_job_119 : nth t_X7_job 119 = aAstI 120 := (y_X7_job_6 3).trans rfl
theorem n_X7_job_120 : nth t_X7_job 120 = aInc 1 1 123 := (y_X7_job_6 4).trans rfl
theorem n_X7_job_123 : nth t_X7_job 123 = aGoto 101 := (y_X7_job_6 7).trans rfl
theorem n_X7_job_126 : nth t_X7_job 126 = aK (.int 0) 127 := (y_X7_job_6 10).trans rfl
theorem n_X7_job_127 : nth t_X7_job 127 = aStI 1 128 := (y_X7_job_6 11).trans rfl
theorem n_X7_job_128 : nth t_X7_job 128 = aLdI 1 129 := (y_X7_job_6 12).trans rfl
theorem n_X7_job_129 : nth t_X7_job 129 = aK (.int 6) 131 := (y_X7_job_6 13).trans rfl
theorem n_X7_job_131 : nth t_X7_job 131 = aIcLt 134 170 := (y_X7_job_6 15).trans rfl
theorem n_X7_job_134 : nth t_X7_job 134 = aLdA 0 135 := (y_X7_job_6 18).trans rfl
theorem y_X7_job_7 (n : Nat) : nth t_X7_job (n + 135) = nth t_X7_job_c7 n := (y_X7_job_6 (n + 19)).trans rfl
theorem n_X7_job_135 : nth t_X7_job 135 = aGetR 63 [6] 138 := (y_X7_job_7 0).trans rfl
theorem n_X7_job_138 : nth t_X7_job 138 = aLdI 1 139 := (y_X7_job_7 3).trans rfl
theorem n_X7_job_139 : nth t_X7_job 139 = aLdA 0 140 := (y_X7_job_7 4).trans rfl
theorem n_X7_job_140 : nth t_X7_job 140 = aGetR 63 [6] 143 := (y_X7_job_7 5).trans rfl
theorem n_X7_job_143 : nth t_X7_job 143 = aK (.int 6) 145 := (y_X7_job_7 8).trans rfl
theorem n_X7_job_145 : nth t_X7_job 145 = aLdI 1 146 := (y_X7_job_7 10).trans rfl
theorem n_X7_job_146 : nth t_X7_job 146 = aB (fun x y => x + y) 147 := (y_X7_job_7 11).trans rfl
theorem n_X7_job_147 : nth t_X7_job 147 = aAldI 148 := (y_X7_job_7 12).trans rfl
theorem n_X7_job_148 : nth t_X7_job 148 = aAstI 149 := (y_X7_job_7 13).trans rfl
theorem n_X7_job_149 : nth t_X7_job 149 = aLdA 0 150 := (y_X7_job_7 14).trans rfl
theorem n_X7_job_150 : nth t_X7_job 150 = aGetR 64 [6] 153 := (y_X7_job_7 15).trans rfl
theorem n_X7_job_153 : nth t_X7_job 153 = aLdI 1 154 := (y_X7_job_7 18).trans rfl
theorem y_X7_job_8 (n : Nat) : nth t_X7_job (n + 154) = nth t_X7_job_c8 n := (y_X7_job_7 (n + 19)).trans rfl
theorem n_X7_job_154 : nth t_X7_job 154 = aLdA 0 155 := (y_X7_job_8 0).trans rfl
theorem n_X7_job_155 : nth t_X7_job 155 = aGetR 64 [6] 158 := (y_X7_job_8 1).trans rfl
theorem n_X7_job_158 : nth t_X7_job 158 = aK (.int 6) 160 := (y_X7_job_8 4).trans rfl
theorem n_X7_job_160 : nth t_X7_job 160 = aLdI 1 161 := (y_X7_job_8 6).trans rfl
theorem n_X7_job_161 : nth t_X7_job 161 = aB (fun x y => x + y) 162 := (y_X7_job_8 7).trans rfl
theorem n_X7_job_162 : nth t_X7_job 162 = aAldI 163 := (y_X7_job_8 8).trans rfl
theorem n_X7_job_163 : nth t_X7_job 163 = aAstI 164 := (y_X7_job_8 9).trans rfl
theorem n_X7_job_164 : nth t_X7_job 164 = aInc 1 1 167 := (y_X7_job_8 10).trans rfl
theorem n_X7_job_167 : nth t_X7_job 167 = aGoto 128 := (y_X7_job_8 13).trans rfl
theorem n_X7_job_170 : nth t_X7_job 170 = aK (.int 0) 171 := (y_X7_job_8 16).trans rfl
theorem n_X7_job_171 : nth t_X7_job 171 = aStI 1 172 := (y_X7_job_8 17).trans rfl
theorem n_X7_job_172 : nth t_X7_job 172 = aLdI 1 173 := (y_X7_job_8 18).trans rfl
theorem y_X7_job_9 (n : Nat) : nth t_X7_job (n + 173) = nth t_X7_job_c9 n := (y_X7_job_8 (n + 19)).trans rfl
theorem n_X7_job_173 : nth t_X7_job 173 = aK (.int 8) 175 := (y_X7_job_9 0).trans rfl
theorem n_X7_job_175 : nth t_X7_job 175 = aIcLt 178 244 := (y_X7_job_9 2).trans rfl
theorem n_X7_job_178 : nth t_X7_job 178 = aLdA 0 179 := (y_X7_job_9 5).trans rfl
theorem n_X7_job_179 : nth t_X7_job 179 = aGetR 67 [6] 182 := (y_X7_job_9 6).trans rfl
theorem n_X7_job_182 : nth t_X7_job 182 = aLdI 1 183 := (y_X7_job_9 9).trans rfl
theorem n_X7_job_183 : nth t_X7_job 183 = aLdA 0 184 := (y_X7_job_9 10).trans rfl
theorem n_X7_job_184 : nth t_X7_job 184 = aGetR 67 [6] 187 := (y_X7_job_9 11).trans rfl
theorem n_X7_job_187 : nth t_X7_job 187 = aK (.int 8) 189 := (y_X7_job_9 14).trans rfl
theorem n_X7_job_189 : nth t_X7_job 189 = aLdI 1 190 := (y_X7_job_9 16).trans rfl
theorem n_X7_job_190 : nth t_X7_job 190 = aB (fun x y => x + y) 191 := (y_X7_job_9 17).trans rfl
theorem n_X7_job_191 : nth t_X7_job 191 = aAldI 192 := (y_X7_job_9 18).trans rfl
theorem n_X7_job_192 : nth t_X7_job 192 = aAstI 193 := (y_X7_job_9 19).trans rfl
theorem y_X7_job_10 (n : Nat) : nth t_X7_job (n + 193) = nth t_X7_job_c10 n := (y_X7_job_9 (n + 20)).trans rfl
theorem n_X7_job_193 : nth t_X7_job 193 = aLdA 0 194 := (y_X7_job_10 0).trans rfl
theorem n_X7_job_194 : nth t_X7_job 194 = aGetR 68 [6] 197 := (y_X7_job_10 1).trans rfl
theorem n_X7_job_197 : nth t_X7_job 197 = aLdI 1 198 := (y_X7_job_10 4).trans rfl
theorem n_X7_job_198 : nth t_X7_job 198 = aLdA 0 199 := (y_X7_job_10 5).trans rfl
theorem n_X7_job_199 : nth t_X7_job 199 = aGetR 68 [6] 202 := (y_X7_job_10 6).trans rfl
theorem n_X7_job_202 : nth t_X7_job 202 = aK (.int 8) 204 := (y_X7_job_10 9).trans rfl
theorem n_X7_job_204 : nth t_X7_job 204 = aLdI 1 205 := (y_X7_job_10 11).trans rfl
theorem n_X7_job_205 : nth t_X7_job 205 = aB (fun x y => x + y) 206 := (y_X7_job_10 12).trans rfl
theorem n_X7_job_206 : nth t_X7_job 206 = aAldI 207 := (y_X7_job_10 13).trans rfl
theorem n_X7_job_207 : nth t_X7_job 207 = aAstI 208 := (y_X7_job_10 14).trans rfl
theorem n_X7_job_208 : nth t_X7_job 208 = aLdA 0 209 := (y_X7_job_10 15).trans rfl
theorem n_X7_job_209 : nth t_X7_job 209 = aGetR 69 [6] 212 := (y_X7_job_10 16).trans rfl
theorem y_X7_job_11 (n : Nat) : nth t_X7_job (n + 212) = nth t_X7_job_c11 n := (y_X7_job_10 (n + 19)).trans rfl
theorem n_X7_job_212 : nth t_X7_job 212 = aLdI 1 213 := (y_X7_job_11 0).trans rfl
theorem n_X7_job_213 : nth t_X7_job 213 = aLdA 0 214 := (y_X7_job_11 1).trans rfl
theorem n_X7_job_214 : nth t_X7_job 214 = aGetR 69 [6] 217 := (y_X7_job_11 2).trans rfl
theorem n_X7_job_217 : nth t_X7_job 217 = aK (.int 8) 219 := (y_X7_job_11 5).trans rfl
theorem n_X7_job_219 : nth t_X7_job 219 = aLdI 1 220 := (y_X7_job_11 7).trans rfl
theorem n_X7_job_220 : nth t_X7_job 220 = aB (fun x y => x + y) 221 := (y_X7_job_11 8).trans rfl
theorem n_X7_job_221 : nth t_X7_job 221 = aAldI 222 := (y_X7_job_11 9).trans rfl
theorem n_X7_job_222 : nth t_X7_job 222 = aAstI 223 := (y_X7_job_11 10).trans rfl
theorem n_X7_job_223 : nth t_X7_job 223 = aLdA 0 224 := (y_X7_job_11 11).trans rfl
theorem n_X7_job_224 : nth t_X7_job 224 = aGetR 70 [6] 227 := (y_X7_job_11 12).trans rfl
theorem n_X7_job_227 : nth t_X7_job 227 = aLdI 1 228 := (y_X7_job_11 15).trans rfl
theorem n_X7_job_228 : nth t_X7_job 228 = aLdA 0 229 := (y_X7_job_11 16).trans rfl
theorem y_X7_job_12 (n : Nat) : nth t_X7_job (n + 229) = nth t_X7_job_c12 n := (y_X7_job_11 (n + 17)).trans rfl
theorem n_X7_job_229 : nth t_X7_job 229 = aGetR 70 [6] 232 := (y_X7_job_12 0).trans rfl
theorem n_X7_job_232 : nth t_X7_job 232 = aK (.int 8) 234 := (y_X7_job_12 3).trans rfl
theorem n_X7_job_234 : nth t_X7_job 234 = aLdI 1 235 := (y_X7_job_12 5).trans rfl
theorem n_X7_job_235 : nth t_X7_job 235 = aB (fun x y => x + y) 236 := (y_X7_job_12 6).trans rfl
theorem n_X7_job_236 : nth t_X7_job 236 = aAldI 237 := (y_X7_job_12 7).trans rfl
theorem n_X7_job_237 : nth t_X7_job 237 = aAstI 238 := (y_X7_job_12 8).trans rfl
theorem n_X7_job_238 : nth t_X7_job 238 = aInc 1 1 241 := (y_X7_job_12 9).trans rfl
theorem n_X7_job_241 : nth t_X7_job 241 = aGoto 172 := (y_X7_job_12 12).trans rfl
theorem n_X7_job_244 : nth t_X7_job 244 = aLdA 0 245 := (y_X7_job_12 15).trans rfl
theorem n_X7_job_245 : nth t_X7_job 245 = aGetR 66 [6] 248 := (y_X7_job_12 16).trans rfl
theorem n_X7_job_248 : nth t_X7_job 248 = aK (.int 0) 249 := (y_X7_job_12 19).trans rfl
theorem n_X7_job_249 : nth t_X7_job 249 = aAldI 250 := (y_X7_job_12 20).trans rfl
theorem y_X7_job_13 (n : Nat) : nth t_X7_job (n + 250) = nth t_X7_job_c13 n := (y_X7_job_12 (n + 21)).trans rfl
theorem n_X7_job_250 : nth t_X7_job 250 = aRetI := (y_X7_job_13 0).trans rfl
theorem n_X7_readJob_0 : nth t_X7_readJob 0 = aLdA 0 1 := rfl
theorem n_X7_readJob_1 : nth t_X7_readJob 1 = aGetI 7 [6] 4 := rfl
theorem n_X7_readJob_4 : nth t_X7_readJob 4 = aIfEq 164 7 := rfl
theorem n_X7_readJob_7 : nth t_X7_readJob 7 = aLdA 0 8 := rfl
theorem n_X7_readJob_8 : nth t_X7_readJob 8 = aK (.long 7566701) 11 := rfl
theorem n_X7_readJob_11 : nth t_X7_readJob 11 = aCalV 216 1 14 [6] none := rfl
theorem n_X7_readJob_14 : nth t_X7_readJob 14 = aIfEq 17 27 := rfl
theorem n_X7_readJob_17 : nth t_X7_readJob 17 = aLdA 0 18 := rfl
theorem n_X7_readJob_18 : nth t_X7_readJob 18 = aK (.long 427071729268) 21 := rfl
theorem n_X7_readJob_21 : nth t_X7_readJob 21 = aCalV 216 1 24 [6] none := rfl
theorem n_X7_readJob_24 : nth t_X7_readJob 24 = aIfEq 31 27 := rfl
theorem n_X7_readJob_27 : nth t_X7_readJob 27 = aK (.int 1) 28 := rfl
theorem y_X7_readJob_1 (n : Nat) : nth t_X7_readJob (n + 28) = nth t_X7_readJob_c1 n := rfl
theorem n_X7_readJob_28 : nth t_X7_readJob 28 = aGoto 32 := (y_X7_readJob_1 0).trans rfl
theorem n_X7_readJob_31 : nth t_X7_readJob 31 = aK (.int 0) 32 := (y_X7_readJob_1 3).trans rfl
theorem n_X7_readJob_32 : nth t_X7_readJob 32 = aStI 1 33 := (y_X7_readJob_1 4).trans rfl
theorem n_X7_readJob_33 : nth t_X7_readJob 33 = aLdI 1 34 := (y_X7_readJob_1 5).trans rfl
theorem n_X7_readJob_34 : nth t_X7_readJob 34 = aIfEq 37 67 := (y_X7_readJob_1 6).trans rfl
theorem n_X7_readJob_37 : nth t_X7_readJob 37 = aLdA 0 38 := (y_X7_readJob_1 9).trans rfl
theorem n_X7_readJob_38 : nth t_X7_readJob 38 = aK (.long 439854918756) 41 := (y_X7_readJob_1 10).trans rfl
theorem n_X7_readJob_41 : nth t_X7_readJob 41 = aCalV 216 1 44 [6] none := (y_X7_readJob_1 13).trans rfl
theorem n_X7_readJob_44 : nth t_X7_readJob 44 = aIfEq 47 67 := (y_X7_readJob_1 16).trans rfl
theorem n_X7_readJob_47 : nth t_X7_readJob 47 = aLdA 0 48 := (y_X7_readJob_1 19).trans rfl
theorem n_X7_readJob_48 : nth t_X7_readJob 48 = aK (.long 422826041707) 51 := (y_X7_readJob_1 20).trans rfl
theorem n_X7_readJob_51 : nth t_X7_readJob 51 = aCalV 216 1 54 [6] none := (y_X7_readJob_1 23).trans rfl
theorem y_X7_readJob_2 (n : Nat) : nth t_X7_readJob (n + 54) = nth t_X7_readJob_c2 n := (y_X7_readJob_1 (n + 26)).trans rfl
theorem n_X7_readJob_54 : nth t_X7_readJob 54 = aIfEq 57 67 := (y_X7_readJob_2 0).trans rfl
theorem n_X7_readJob_57 : nth t_X7_readJob 57 = aLdA 0 58 := (y_X7_readJob_2 3).trans rfl
theorem n_X7_readJob_58 : nth t_X7_readJob 58 = aK (.int 1) 59 := (y_X7_readJob_2 4).trans rfl
theorem n_X7_readJob_59 : nth t_X7_readJob 59 = aLdA 0 60 := (y_X7_readJob_2 5).trans rfl
theorem n_X7_readJob_60 : nth t_X7_readJob 60 = aGetI 8 [6] 63 := (y_X7_readJob_2 6).trans rfl
theorem n_X7_readJob_63 : nth t_X7_readJob 63 = aCalV 168 2 66 [6] none := (y_X7_readJob_2 9).trans rfl
theorem n_X7_readJob_66 : nth t_X7_readJob 66 = aRetZ := (y_X7_readJob_2 12).trans rfl
theorem n_X7_readJob_67 : nth t_X7_readJob 67 = aLdI 1 68 := (y_X7_readJob_2 13).trans rfl
theorem n_X7_readJob_68 : nth t_X7_readJob 68 = aIfEq 82 71 := (y_X7_readJob_2 14).trans rfl
theorem n_X7_readJob_71 : nth t_X7_readJob 71 = aLdA 0 72 := (y_X7_readJob_2 17).trans rfl
theorem n_X7_readJob_72 : nth t_X7_readJob 72 = aGetR 66 [6] 75 := (y_X7_readJob_2 18).trans rfl
theorem n_X7_readJob_75 : nth t_X7_readJob 75 = aK (.int 1) 76 := (y_X7_readJob_2 21).trans rfl
theorem y_X7_readJob_3 (n : Nat) : nth t_X7_readJob (n + 76) = nth t_X7_readJob_c3 n := (y_X7_readJob_2 (n + 22)).trans rfl
theorem n_X7_readJob_76 : nth t_X7_readJob 76 = aAldI 77 := (y_X7_readJob_3 0).trans rfl
theorem n_X7_readJob_77 : nth t_X7_readJob 77 = aK (.int 8) 79 := (y_X7_readJob_3 1).trans rfl
theorem n_X7_readJob_79 : nth t_X7_readJob 79 = aIcEq 103 82 := (y_X7_readJob_3 3).trans rfl
theorem n_X7_readJob_82 : nth t_X7_readJob 82 = aLdA 0 83 := (y_X7_readJob_3 6).trans rfl
theorem n_X7_readJob_83 : nth t_X7_readJob 83 = aK (.long 439854918756) 86 := (y_X7_readJob_3 7).trans rfl
theorem n_X7_readJob_86 : nth t_X7_readJob 86 = aCalV 216 1 89 [6] none := (y_X7_readJob_3 10).trans rfl
theorem n_X7_readJob_89 : nth t_X7_readJob 89 = aIfEq 113 92 := (y_X7_readJob_3 13).trans rfl
theorem n_X7_readJob_92 : nth t_X7_readJob 92 = aLdA 0 93 := (y_X7_readJob_3 16).trans rfl
theorem n_X7_readJob_93 : nth t_X7_readJob 93 = aGetR 62 [6] 96 := (y_X7_readJob_3 17).trans rfl
theorem n_X7_readJob_96 : nth t_X7_readJob 96 = aK (.int 1) 97 := (y_X7_readJob_3 20).trans rfl
theorem n_X7_readJob_97 : nth t_X7_readJob 97 = aAldI 98 := (y_X7_readJob_3 21).trans rfl
theorem n_X7_readJob_98 : nth t_X7_readJob 98 = aK (.int 6) 100 := (y_X7_readJob_3 22).trans rfl
theorem y_X7_readJob_4 (n : Nat) : nth t_X7_readJob (n + 100) = nth t_X7_readJob_c4 n := (y_X7_readJob_3 (n + 24)).trans rfl
theorem n_X7_readJob_100 : nth t_X7_readJob 100 = aIcEq 103 113 := (y_X7_readJob_4 0).trans rfl
theorem n_X7_readJob_103 : nth t_X7_readJob 103 = aLdA 0 104 := (y_X7_readJob_4 3).trans rfl
theorem n_X7_readJob_104 : nth t_X7_readJob 104 = aK (.int 4) 105 := (y_X7_readJob_4 4).trans rfl
theorem n_X7_readJob_105 : nth t_X7_readJob 105 = aLdA 0 106 := (y_X7_readJob_4 5).trans rfl
theorem n_X7_readJob_106 : nth t_X7_readJob 106 = aGetI 8 [6] 109 := (y_X7_readJob_4 6).trans rfl
theorem n_X7_readJob_109 : nth t_X7_readJob 109 = aCalV 168 2 112 [6] none := (y_X7_readJob_4 9).trans rfl
theorem n_X7_readJob_112 : nth t_X7_readJob 112 = aRetZ := (y_X7_readJob_4 12).trans rfl
theorem n_X7_readJob_113 : nth t_X7_readJob 113 = aLdI 1 114 := (y_X7_readJob_4 13).trans rfl
theorem n_X7_readJob_114 : nth t_X7_readJob 114 = aIfEq 124 117 := (y_X7_readJob_4 14).trans rfl
theorem n_X7_readJob_117 : nth t_X7_readJob 117 = aLdA 0 118 := (y_X7_readJob_4 17).trans rfl
theorem n_X7_readJob_118 : nth t_X7_readJob 118 = aCalV 217 0 121 [6] none := (y_X7_readJob_4 18).trans rfl
theorem n_X7_readJob_121 : nth t_X7_readJob 121 = aGoto 145 := (y_X7_readJob_4 21).trans rfl
theorem y_X7_readJob_5 (n : Nat) : nth t_X7_readJob (n + 124) = nth t_X7_readJob_c5 n := (y_X7_readJob_4 (n + 24)).trans rfl
theorem n_X7_readJob_124 : nth t_X7_readJob 124 = aLdA 0 125 := (y_X7_readJob_5 0).trans rfl
theorem n_X7_readJob_125 : nth t_X7_readJob 125 = aK (.long 439854918756) 128 := (y_X7_readJob_5 1).trans rfl
theorem n_X7_readJob_128 : nth t_X7_readJob 128 = aCalV 216 1 131 [6] none := (y_X7_readJob_5 4).trans rfl
theorem n_X7_readJob_131 : nth t_X7_readJob 131 = aIfEq 141 134 := (y_X7_readJob_5 7).trans rfl
theorem n_X7_readJob_134 : nth t_X7_readJob 134 = aLdA 0 135 := (y_X7_readJob_5 10).trans rfl
theorem n_X7_readJob_135 : nth t_X7_readJob 135 = aCalV 220 0 138 [6] none := (y_X7_readJob_5 11).trans rfl
theorem n_X7_readJob_138 : nth t_X7_readJob 138 = aGoto 145 := (y_X7_readJob_5 14).trans rfl
theorem n_X7_readJob_141 : nth t_X7_readJob 141 = aLdA 0 142 := (y_X7_readJob_5 17).trans rfl
theorem n_X7_readJob_142 : nth t_X7_readJob 142 = aCalV 221 0 145 [6] none := (y_X7_readJob_5 18).trans rfl
theorem n_X7_readJob_145 : nth t_X7_readJob 145 = aStI 2 146 := (y_X7_readJob_5 21).trans rfl
theorem n_X7_readJob_146 : nth t_X7_readJob 146 = aLdI 2 147 := (y_X7_readJob_5 22).trans rfl
theorem n_X7_readJob_147 : nth t_X7_readJob 147 = aIfEq 159 150 := (y_X7_readJob_5 23).trans rfl
theorem y_X7_readJob_6 (n : Nat) : nth t_X7_readJob (n + 150) = nth t_X7_readJob_c6 n := (y_X7_readJob_5 (n + 26)).trans rfl
theorem n_X7_readJob_150 : nth t_X7_readJob 150 = aLdA 0 151 := (y_X7_readJob_6 0).trans rfl
theorem n_X7_readJob_151 : nth t_X7_readJob 151 = aK (.int 59) 153 := (y_X7_readJob_6 1).trans rfl
theorem n_X7_readJob_153 : nth t_X7_readJob 153 = aCalV 171 1 156 [6] none := (y_X7_readJob_6 3).trans rfl
theorem n_X7_readJob_156 : nth t_X7_readJob 156 = aIfEq 159 161 := (y_X7_readJob_6 6).trans rfl
theorem n_X7_readJob_159 : nth t_X7_readJob 159 = aK (.int 0) 160 := (y_X7_readJob_6 9).trans rfl
theorem n_X7_readJob_160 : nth t_X7_readJob 160 = aRetZ := (y_X7_readJob_6 10).trans rfl
theorem n_X7_readJob_161 : nth t_X7_readJob 161 = aGoto 0 := (y_X7_readJob_6 11).trans rfl
theorem n_X7_readJob_164 : nth t_X7_readJob 164 = aK (.int 1) 165 := (y_X7_readJob_6 14).trans rfl
theorem n_X7_readJob_165 : nth t_X7_readJob 165 = aRetZ := (y_X7_readJob_6 15).trans rfl
theorem n_X7_isWord_0 : nth t_X7_isWord 0 = aLdA 0 1 := rfl
theorem n_X7_isWord_1 : nth t_X7_isWord 1 = aGetI 7 [6] 4 := rfl
theorem n_X7_isWord_4 : nth t_X7_isWord 4 = aK (.int 1) 5 := rfl
theorem n_X7_isWord_5 : nth t_X7_isWord 5 = aIcEq 8 21 := rfl
theorem n_X7_isWord_8 : nth t_X7_isWord 8 = aLdA 0 9 := rfl
theorem n_X7_isWord_9 : nth t_X7_isWord 9 = aGetL 13 [6] 12 := rfl
theorem n_X7_isWord_12 : nth t_X7_isWord 12 = aLdL 1 13 := rfl
theorem n_X7_isWord_13 : nth t_X7_isWord 13 = aLcmp 14 := rfl
theorem n_X7_isWord_14 : nth t_X7_isWord 14 = aIfEq 17 21 := rfl
theorem n_X7_isWord_17 : nth t_X7_isWord 17 = aK (.int 1) 18 := rfl
theorem n_X7_isWord_18 : nth t_X7_isWord 18 = aGoto 22 := rfl
theorem n_X7_isWord_21 : nth t_X7_isWord 21 = aK (.int 0) 22 := rfl
theorem y_X7_isWord_1 (n : Nat) : nth t_X7_isWord (n + 22) = nth t_X7_isWord_c1 n := rfl
theorem n_X7_isWord_22 : nth t_X7_isWord 22 = aRetZ := (y_X7_isWord_1 0).trans rfl
theorem n_X7_want_0 : nth t_X7_want 0 = aLdA 0 1 := rfl
theorem n_X7_want_1 : nth t_X7_want 1 = aK (.long 7566701) 4 := rfl
theorem n_X7_want_4 : nth t_X7_want 4 = aCalV 216 1 7 [6] none := rfl
theorem n_X7_want_7 : nth t_X7_want 7 = aStI 1 8 := rfl
theorem n_X7_want_8 : nth t_X7_want 8 = aK (.int 8) 10 := rfl
theorem n_X7_want_10 : nth t_X7_want 10 = aLdA 0 11 := rfl
theorem n_X7_want_11 : nth t_X7_want 11 = aGetR 66 [6] 14 := rfl
theorem n_X7_want_14 : nth t_X7_want 14 = aK (.int 1) 15 := rfl
theorem n_X7_want_15 : nth t_X7_want 15 = aAldI 16 := rfl
theorem n_X7_want_16 : nth t_X7_want 16 = aB (fun x y => x + y) 17 := rfl
theorem n_X7_want_17 : nth t_X7_want 17 = aStI 2 18 := rfl
theorem n_X7_want_18 : nth t_X7_want 18 = aLdA 0 19 := rfl
theorem y_X7_want_1 (n : Nat) : nth t_X7_want (n + 19) = nth t_X7_want_c1 n := rfl
theorem n_X7_want_19 : nth t_X7_want 19 = aGetR 67 [6] 22 := (y_X7_want_1 0).trans rfl
theorem n_X7_want_22 : nth t_X7_want 22 = aLdI 2 23 := (y_X7_want_1 3).trans rfl
theorem n_X7_want_23 : nth t_X7_want 23 = aK (.int (-1)) 24 := (y_X7_want_1 4).trans rfl
theorem n_X7_want_24 : nth t_X7_want 24 = aAstI 25 := (y_X7_want_1 5).trans rfl
theorem n_X7_want_25 : nth t_X7_want 25 = aLdA 0 26 := (y_X7_want_1 6).trans rfl
theorem n_X7_want_26 : nth t_X7_want 26 = aGetR 70 [6] 29 := (y_X7_want_1 7).trans rfl
theorem n_X7_want_29 : nth t_X7_want 29 = aLdI 2 30 := (y_X7_want_1 10).trans rfl
theorem n_X7_want_30 : nth t_X7_want 30 = aK (.int 0) 31 := (y_X7_want_1 11).trans rfl
theorem n_X7_want_31 : nth t_X7_want 31 = aAstI 32 := (y_X7_want_1 12).trans rfl
theorem n_X7_want_32 : nth t_X7_want 32 = aLdA 0 33 := (y_X7_want_1 13).trans rfl
theorem n_X7_want_33 : nth t_X7_want 33 = aCalV 162 0 36 [6] none := (y_X7_want_1 14).trans rfl
theorem n_X7_want_36 : nth t_X7_want 36 = aLdI 1 37 := (y_X7_want_1 17).trans rfl
theorem y_X7_want_2 (n : Nat) : nth t_X7_want (n + 37) = nth t_X7_want_c2 n := (y_X7_want_1 (n + 18)).trans rfl
theorem n_X7_want_37 : nth t_X7_want 37 = aIfEq 94 40 := (y_X7_want_2 0).trans rfl
theorem n_X7_want_40 : nth t_X7_want 40 = aLdA 0 41 := (y_X7_want_2 3).trans rfl
theorem n_X7_want_41 : nth t_X7_want 41 = aCalV 218 0 44 [6] none := (y_X7_want_2 4).trans rfl
theorem n_X7_want_44 : nth t_X7_want 44 = aIfEq 47 57 := (y_X7_want_2 7).trans rfl
theorem n_X7_want_47 : nth t_X7_want 47 = aLdA 0 48 := (y_X7_want_2 10).trans rfl
theorem n_X7_want_48 : nth t_X7_want 48 = aK (.int 1) 49 := (y_X7_want_2 11).trans rfl
theorem n_X7_want_49 : nth t_X7_want 49 = aLdA 0 50 := (y_X7_want_2 12).trans rfl
theorem n_X7_want_50 : nth t_X7_want 50 = aGetI 8 [6] 53 := (y_X7_want_2 13).trans rfl
theorem n_X7_want_53 : nth t_X7_want 53 = aCalV 168 2 56 [6] none := (y_X7_want_2 16).trans rfl
theorem n_X7_want_56 : nth t_X7_want 56 = aRetZ := (y_X7_want_2 19).trans rfl
theorem n_X7_want_57 : nth t_X7_want 57 = aLdA 0 58 := (y_X7_want_2 20).trans rfl
theorem n_X7_want_58 : nth t_X7_want 58 = aGetR 67 [6] 61 := (y_X7_want_2 21).trans rfl
theorem y_X7_want_3 (n : Nat) : nth t_X7_want (n + 61) = nth t_X7_want_c3 n := (y_X7_want_2 (n + 24)).trans rfl
theorem n_X7_want_61 : nth t_X7_want 61 = aLdI 2 62 := (y_X7_want_3 0).trans rfl
theorem n_X7_want_62 : nth t_X7_want 62 = aLdA 0 63 := (y_X7_want_3 1).trans rfl
theorem n_X7_want_63 : nth t_X7_want 63 = aLdA 0 64 := (y_X7_want_3 2).trans rfl
theorem n_X7_want_64 : nth t_X7_want 64 = aGetL 13 [6] 67 := (y_X7_want_3 3).trans rfl
theorem n_X7_want_67 : nth t_X7_want 67 = aCalV 219 1 70 [6] none := (y_X7_want_3 6).trans rfl
theorem n_X7_want_70 : nth t_X7_want 70 = aAstI 71 := (y_X7_want_3 9).trans rfl
theorem n_X7_want_71 : nth t_X7_want 71 = aLdA 0 72 := (y_X7_want_3 10).trans rfl
theorem n_X7_want_72 : nth t_X7_want 72 = aGetR 67 [6] 75 := (y_X7_want_3 11).trans rfl
theorem n_X7_want_75 : nth t_X7_want 75 = aLdI 2 76 := (y_X7_want_3 14).trans rfl
theorem n_X7_want_76 : nth t_X7_want 76 = aAldI 77 := (y_X7_want_3 15).trans rfl
theorem n_X7_want_77 : nth t_X7_want 77 = aIfLt 80 90 := (y_X7_want_3 16).trans rfl
theorem n_X7_want_80 : nth t_X7_want 80 = aLdA 0 81 := (y_X7_want_3 19).trans rfl
theorem y_X7_want_4 (n : Nat) : nth t_X7_want (n + 81) = nth t_X7_want_c4 n := (y_X7_want_3 (n + 20)).trans rfl
theorem n_X7_want_81 : nth t_X7_want 81 = aK (.int 3) 82 := (y_X7_want_4 0).trans rfl
theorem n_X7_want_82 : nth t_X7_want 82 = aLdA 0 83 := (y_X7_want_4 1).trans rfl
theorem n_X7_want_83 : nth t_X7_want 83 = aGetI 8 [6] 86 := (y_X7_want_4 2).trans rfl
theorem n_X7_want_86 : nth t_X7_want 86 = aCalV 168 2 89 [6] none := (y_X7_want_4 5).trans rfl
theorem n_X7_want_89 : nth t_X7_want 89 = aRetZ := (y_X7_want_4 8).trans rfl
theorem n_X7_want_90 : nth t_X7_want 90 = aLdA 0 91 := (y_X7_want_4 9).trans rfl
theorem n_X7_want_91 : nth t_X7_want 91 = aCalV 162 0 94 [6] none := (y_X7_want_4 10).trans rfl
theorem n_X7_want_94 : nth t_X7_want 94 = aLdA 0 95 := (y_X7_want_4 13).trans rfl
theorem n_X7_want_95 : nth t_X7_want 95 = aK (.int 1) 96 := (y_X7_want_4 14).trans rfl
theorem n_X7_want_96 : nth t_X7_want 96 = aK (.int 6) 98 := (y_X7_want_4 15).trans rfl
theorem n_X7_want_98 : nth t_X7_want 98 = aCalV 170 2 101 [6] none := (y_X7_want_4 17).trans rfl
theorem n_X7_want_101 : nth t_X7_want 101 = aIfEq 104 106 := (y_X7_want_4 20).trans rfl
theorem y_X7_want_5 (n : Nat) : nth t_X7_want (n + 104) = nth t_X7_want_c5 n := (y_X7_want_4 (n + 23)).trans rfl
theorem n_X7_want_104 : nth t_X7_want 104 = aK (.int 0) 105 := (y_X7_want_5 0).trans rfl
theorem n_X7_want_105 : nth t_X7_want 105 = aRetZ := (y_X7_want_5 1).trans rfl
theorem n_X7_want_106 : nth t_X7_want 106 = aLdA 0 107 := (y_X7_want_5 2).trans rfl
theorem n_X7_want_107 : nth t_X7_want 107 = aGetR 68 [6] 110 := (y_X7_want_5 3).trans rfl
theorem n_X7_want_110 : nth t_X7_want 110 = aLdI 2 111 := (y_X7_want_5 6).trans rfl
theorem n_X7_want_111 : nth t_X7_want 111 = aLdA 0 112 := (y_X7_want_5 7).trans rfl
theorem n_X7_want_112 : nth t_X7_want 112 = aGetI 14 [6] 115 := (y_X7_want_5 8).trans rfl
theorem n_X7_want_115 : nth t_X7_want 115 = aAstI 116 := (y_X7_want_5 11).trans rfl
theorem n_X7_want_116 : nth t_X7_want 116 = aLdA 0 117 := (y_X7_want_5 12).trans rfl
theorem n_X7_want_117 : nth t_X7_want 117 = aK (.int 1) 118 := (y_X7_want_5 13).trans rfl
theorem n_X7_want_118 : nth t_X7_want 118 = aK (.int 3) 119 := (y_X7_want_5 14).trans rfl
theorem n_X7_want_119 : nth t_X7_want 119 = aCalV 170 2 122 [6] none := (y_X7_want_5 15).trans rfl
theorem y_X7_want_6 (n : Nat) : nth t_X7_want (n + 122) = nth t_X7_want_c6 n := (y_X7_want_5 (n + 18)).trans rfl
theorem n_X7_want_122 : nth t_X7_want 122 = aIfEq 125 127 := (y_X7_want_6 0).trans rfl
theorem n_X7_want_125 : nth t_X7_want 125 = aK (.int 0) 126 := (y_X7_want_6 3).trans rfl
theorem n_X7_want_126 : nth t_X7_want 126 = aRetZ := (y_X7_want_6 4).trans rfl
theorem n_X7_want_127 : nth t_X7_want 127 = aLdA 0 128 := (y_X7_want_6 5).trans rfl
theorem n_X7_want_128 : nth t_X7_want 128 = aGetR 69 [6] 131 := (y_X7_want_6 6).trans rfl
theorem n_X7_want_131 : nth t_X7_want 131 = aLdI 2 132 := (y_X7_want_6 9).trans rfl
theorem n_X7_want_132 : nth t_X7_want 132 = aLdA 0 133 := (y_X7_want_6 10).trans rfl
theorem n_X7_want_133 : nth t_X7_want 133 = aGetI 14 [6] 136 := (y_X7_want_6 11).trans rfl
theorem n_X7_want_136 : nth t_X7_want 136 = aAstI 137 := (y_X7_want_6 14).trans rfl
theorem n_X7_want_137 : nth t_X7_want 137 = aLdI 1 138 := (y_X7_want_6 15).trans rfl
theorem n_X7_want_138 : nth t_X7_want 138 = aIfEq 177 141 := (y_X7_want_6 16).trans rfl
theorem n_X7_want_141 : nth t_X7_want 141 = aLdA 0 142 := (y_X7_want_6 19).trans rfl
theorem y_X7_want_7 (n : Nat) : nth t_X7_want (n + 142) = nth t_X7_want_c7 n := (y_X7_want_6 (n + 20)).trans rfl
theorem n_X7_want_142 : nth t_X7_want 142 = aK (.long 1870030194) 145 := (y_X7_want_7 0).trans rfl
theorem n_X7_want_145 : nth t_X7_want 145 = aCalV 216 1 148 [6] none := (y_X7_want_7 3).trans rfl
theorem n_X7_want_148 : nth t_X7_want 148 = aIfEq 177 151 := (y_X7_want_7 6).trans rfl
theorem n_X7_want_151 : nth t_X7_want 151 = aLdA 0 152 := (y_X7_want_7 9).trans rfl
theorem n_X7_want_152 : nth t_X7_want 152 = aCalV 162 0 155 [6] none := (y_X7_want_7 10).trans rfl
theorem n_X7_want_155 : nth t_X7_want 155 = aLdA 0 156 := (y_X7_want_7 13).trans rfl
theorem n_X7_want_156 : nth t_X7_want 156 = aK (.int 1) 157 := (y_X7_want_7 14).trans rfl
theorem n_X7_want_157 : nth t_X7_want 157 = aK (.int 20) 159 := (y_X7_want_7 15).trans rfl
theorem n_X7_want_159 : nth t_X7_want 159 = aCalV 170 2 162 [6] none := (y_X7_want_7 17).trans rfl
theorem n_X7_want_162 : nth t_X7_want 162 = aIfEq 165 167 := (y_X7_want_7 20).trans rfl
theorem n_X7_want_165 : nth t_X7_want 165 = aK (.int 0) 166 := (y_X7_want_7 23).trans rfl
theorem n_X7_want_166 : nth t_X7_want 166 = aRetZ := (y_X7_want_7 24).trans rfl
theorem y_X7_want_8 (n : Nat) : nth t_X7_want (n + 167) = nth t_X7_want_c8 n := (y_X7_want_7 (n + 25)).trans rfl
theorem n_X7_want_167 : nth t_X7_want 167 = aLdA 0 168 := (y_X7_want_8 0).trans rfl
theorem n_X7_want_168 : nth t_X7_want 168 = aGetR 70 [6] 171 := (y_X7_want_8 1).trans rfl
theorem n_X7_want_171 : nth t_X7_want 171 = aLdI 2 172 := (y_X7_want_8 4).trans rfl
theorem n_X7_want_172 : nth t_X7_want 172 = aLdA 0 173 := (y_X7_want_8 5).trans rfl
theorem n_X7_want_173 : nth t_X7_want 173 = aGetI 14 [6] 176 := (y_X7_want_8 6).trans rfl
theorem n_X7_want_176 : nth t_X7_want 176 = aAstI 177 := (y_X7_want_8 9).trans rfl
theorem n_X7_want_177 : nth t_X7_want 177 = aLdA 0 178 := (y_X7_want_8 10).trans rfl
theorem n_X7_want_178 : nth t_X7_want 178 = aGetR 66 [6] 181 := (y_X7_want_8 11).trans rfl
theorem n_X7_want_181 : nth t_X7_want 181 = aK (.int 1) 182 := (y_X7_want_8 14).trans rfl
theorem n_X7_want_182 : nth t_X7_want 182 = aDup2 183 := (y_X7_want_8 15).trans rfl
theorem n_X7_want_183 : nth t_X7_want 183 = aAldI 184 := (y_X7_want_8 16).trans rfl
theorem n_X7_want_184 : nth t_X7_want 184 = aK (.int 1) 185 := (y_X7_want_8 17).trans rfl
theorem y_X7_want_9 (n : Nat) : nth t_X7_want (n + 185) = nth t_X7_want_c9 n := (y_X7_want_8 (n + 18)).trans rfl
theorem n_X7_want_185 : nth t_X7_want 185 = aB (fun x y => x + y) 186 := (y_X7_want_9 0).trans rfl
theorem n_X7_want_186 : nth t_X7_want 186 = aAstI 187 := (y_X7_want_9 1).trans rfl
theorem n_X7_want_187 : nth t_X7_want 187 = aK (.int 1) 188 := (y_X7_want_9 2).trans rfl
theorem n_X7_want_188 : nth t_X7_want 188 = aRetZ := (y_X7_want_9 3).trans rfl
theorem n_X7_isName_0 : nth t_X7_isName 0 = aLdA 0 1 := rfl
theorem n_X7_isName_1 : nth t_X7_isName 1 = aGetI 7 [6] 4 := rfl
theorem n_X7_isName_4 : nth t_X7_isName 4 = aK (.int 1) 5 := rfl
theorem n_X7_isName_5 : nth t_X7_isName 5 = aIcEq 8 67 := rfl
theorem n_X7_isName_8 : nth t_X7_isName 8 = aLdA 0 9 := rfl
theorem n_X7_isName_9 : nth t_X7_isName 9 = aGetL 13 [6] 12 := rfl
theorem n_X7_isName_12 : nth t_X7_isName 12 = aK (.long 439854918756) 15 := rfl
theorem n_X7_isName_15 : nth t_X7_isName 15 = aLcmp 16 := rfl
theorem n_X7_isName_16 : nth t_X7_isName 16 = aIfEq 67 19 := rfl
theorem n_X7_isName_19 : nth t_X7_isName 19 = aLdA 0 20 := rfl
theorem n_X7_isName_20 : nth t_X7_isName 20 = aGetL 13 [6] 23 := rfl
theorem n_X7_isName_23 : nth t_X7_isName 23 = aK (.long 422826041707) 26 := rfl
theorem y_X7_isName_1 (n : Nat) : nth t_X7_isName (n + 26) = nth t_X7_isName_c1 n := rfl
theorem n_X7_isName_26 : nth t_X7_isName 26 = aLcmp 27 := (y_X7_isName_1 0).trans rfl
theorem n_X7_isName_27 : nth t_X7_isName 27 = aIfEq 67 30 := (y_X7_isName_1 1).trans rfl
theorem n_X7_isName_30 : nth t_X7_isName 30 = aLdA 0 31 := (y_X7_isName_1 4).trans rfl
theorem n_X7_isName_31 : nth t_X7_isName 31 = aGetL 13 [6] 34 := (y_X7_isName_1 5).trans rfl
theorem n_X7_isName_34 : nth t_X7_isName 34 = aK (.long 7566701) 37 := (y_X7_isName_1 8).trans rfl
theorem n_X7_isName_37 : nth t_X7_isName 37 = aLcmp 38 := (y_X7_isName_1 11).trans rfl
theorem n_X7_isName_38 : nth t_X7_isName 38 = aIfEq 67 41 := (y_X7_isName_1 12).trans rfl
theorem n_X7_isName_41 : nth t_X7_isName 41 = aLdA 0 42 := (y_X7_isName_1 15).trans rfl
theorem n_X7_isName_42 : nth t_X7_isName 42 = aGetL 13 [6] 45 := (y_X7_isName_1 16).trans rfl
theorem n_X7_isName_45 : nth t_X7_isName 45 = aK (.long 427071729268) 48 := (y_X7_isName_1 19).trans rfl
theorem n_X7_isName_48 : nth t_X7_isName 48 = aLcmp 49 := (y_X7_isName_1 22).trans rfl
theorem n_X7_isName_49 : nth t_X7_isName 49 = aIfEq 67 52 := (y_X7_isName_1 23).trans rfl
theorem y_X7_isName_2 (n : Nat) : nth t_X7_isName (n + 52) = nth t_X7_isName_c2 n := (y_X7_isName_1 (n + 26)).trans rfl
theorem n_X7_isName_52 : nth t_X7_isName 52 = aLdA 0 53 := (y_X7_isName_2 0).trans rfl
theorem n_X7_isName_53 : nth t_X7_isName 53 = aGetL 13 [6] 56 := (y_X7_isName_2 1).trans rfl
theorem n_X7_isName_56 : nth t_X7_isName 56 = aK (.long 1870030194) 59 := (y_X7_isName_2 4).trans rfl
theorem n_X7_isName_59 : nth t_X7_isName 59 = aLcmp 60 := (y_X7_isName_2 7).trans rfl
theorem n_X7_isName_60 : nth t_X7_isName 60 = aIfEq 67 63 := (y_X7_isName_2 8).trans rfl
theorem n_X7_isName_63 : nth t_X7_isName 63 = aK (.int 1) 64 := (y_X7_isName_2 11).trans rfl
theorem n_X7_isName_64 : nth t_X7_isName 64 = aGoto 68 := (y_X7_isName_2 12).trans rfl
theorem n_X7_isName_67 : nth t_X7_isName 67 = aK (.int 0) 68 := (y_X7_isName_2 15).trans rfl
theorem n_X7_isName_68 : nth t_X7_isName 68 = aRetZ := (y_X7_isName_2 16).trans rfl
theorem n_X7_named_0 : nth t_X7_named 0 = aK (.int 0) 1 := rfl
theorem n_X7_named_1 : nth t_X7_named 1 = aStI 3 2 := rfl
theorem n_X7_named_2 : nth t_X7_named 2 = aLdI 3 3 := rfl
theorem n_X7_named_3 : nth t_X7_named 3 = aLdA 0 4 := rfl
theorem n_X7_named_4 : nth t_X7_named 4 = aGetR 62 [6] 7 := rfl
theorem n_X7_named_7 : nth t_X7_named 7 = aK (.int 1) 8 := rfl
theorem n_X7_named_8 : nth t_X7_named 8 = aAldI 9 := rfl
theorem n_X7_named_9 : nth t_X7_named 9 = aIcLt 12 34 := rfl
theorem n_X7_named_12 : nth t_X7_named 12 = aLdA 0 13 := rfl
theorem n_X7_named_13 : nth t_X7_named 13 = aGetR 71 [6] 16 := rfl
theorem n_X7_named_16 : nth t_X7_named 16 = aK (.int 6) 18 := rfl
theorem n_X7_named_18 : nth t_X7_named 18 = aLdI 3 19 := rfl
theorem y_X7_named_1 (n : Nat) : nth t_X7_named (n + 19) = nth t_X7_named_c1 n := rfl
theorem n_X7_named_19 : nth t_X7_named 19 = aB (fun x y => x + y) 20 := (y_X7_named_1 0).trans rfl
theorem n_X7_named_20 : nth t_X7_named 20 = aAldL 21 := (y_X7_named_1 1).trans rfl
theorem n_X7_named_21 : nth t_X7_named 21 = aLdL 1 22 := (y_X7_named_1 2).trans rfl
theorem n_X7_named_22 : nth t_X7_named 22 = aLcmp 23 := (y_X7_named_1 3).trans rfl
theorem n_X7_named_23 : nth t_X7_named 23 = aIfEq 26 28 := (y_X7_named_1 4).trans rfl
theorem n_X7_named_26 : nth t_X7_named 26 = aLdI 3 27 := (y_X7_named_1 7).trans rfl
theorem n_X7_named_27 : nth t_X7_named 27 = aRetI := (y_X7_named_1 8).trans rfl
theorem n_X7_named_28 : nth t_X7_named 28 = aInc 3 1 31 := (y_X7_named_1 9).trans rfl
theorem n_X7_named_31 : nth t_X7_named 31 = aGoto 2 := (y_X7_named_1 12).trans rfl
theorem n_X7_named_34 : nth t_X7_named 34 = aK (.int (-1)) 35 := (y_X7_named_1 15).trans rfl
theorem n_X7_named_35 : nth t_X7_named 35 = aRetI := (y_X7_named_1 16).trans rfl
theorem n_X7_field_0 : nth t_X7_field 0 = aLdA 0 1 := rfl
theorem n_X7_field_1 : nth t_X7_field 1 = aCalV 162 0 4 [6] none := rfl
theorem n_X7_field_4 : nth t_X7_field 4 = aLdA 0 5 := rfl
theorem n_X7_field_5 : nth t_X7_field 5 = aCalV 218 0 8 [6] none := rfl
theorem n_X7_field_8 : nth t_X7_field 8 = aIfEq 11 21 := rfl
theorem n_X7_field_11 : nth t_X7_field 11 = aLdA 0 12 := rfl
theorem n_X7_field_12 : nth t_X7_field 12 = aK (.int 1) 13 := rfl
theorem n_X7_field_13 : nth t_X7_field 13 = aLdA 0 14 := rfl
theorem n_X7_field_14 : nth t_X7_field 14 = aGetI 8 [6] 17 := rfl
theorem n_X7_field_17 : nth t_X7_field 17 = aCalV 168 2 20 [6] none := rfl
theorem n_X7_field_20 : nth t_X7_field 20 = aRetZ := rfl
theorem n_X7_field_21 : nth t_X7_field 21 = aLdA 0 22 := rfl
theorem y_X7_field_1 (n : Nat) : nth t_X7_field (n + 22) = nth t_X7_field_c1 n := rfl
theorem n_X7_field_22 : nth t_X7_field 22 = aLdA 0 23 := (y_X7_field_1 0).trans rfl
theorem n_X7_field_23 : nth t_X7_field 23 = aGetL 13 [6] 26 := (y_X7_field_1 1).trans rfl
theorem n_X7_field_26 : nth t_X7_field 26 = aCalV 219 1 29 [6] none := (y_X7_field_1 4).trans rfl
theorem n_X7_field_29 : nth t_X7_field 29 = aIfLt 42 32 := (y_X7_field_1 7).trans rfl
theorem n_X7_field_32 : nth t_X7_field 32 = aLdA 0 33 := (y_X7_field_1 10).trans rfl
theorem n_X7_field_33 : nth t_X7_field 33 = aK (.int 3) 34 := (y_X7_field_1 11).trans rfl
theorem n_X7_field_34 : nth t_X7_field 34 = aLdA 0 35 := (y_X7_field_1 12).trans rfl
theorem n_X7_field_35 : nth t_X7_field 35 = aGetI 8 [6] 38 := (y_X7_field_1 13).trans rfl
theorem n_X7_field_38 : nth t_X7_field 38 = aCalV 168 2 41 [6] none := (y_X7_field_1 16).trans rfl
theorem n_X7_field_41 : nth t_X7_field 41 = aRetZ := (y_X7_field_1 19).trans rfl
theorem n_X7_field_42 : nth t_X7_field 42 = aK (.int 6) 44 := (y_X7_field_1 20).trans rfl
theorem n_X7_field_44 : nth t_X7_field 44 = aLdA 0 45 := (y_X7_field_1 22).trans rfl
theorem y_X7_field_2 (n : Nat) : nth t_X7_field (n + 45) = nth t_X7_field_c2 n := (y_X7_field_1 (n + 23)).trans rfl
theorem n_X7_field_45 : nth t_X7_field 45 = aGetR 62 [6] 48 := (y_X7_field_2 0).trans rfl
theorem n_X7_field_48 : nth t_X7_field 48 = aK (.int 1) 49 := (y_X7_field_2 3).trans rfl
theorem n_X7_field_49 : nth t_X7_field 49 = aAldI 50 := (y_X7_field_2 4).trans rfl
theorem n_X7_field_50 : nth t_X7_field 50 = aB (fun x y => x + y) 51 := (y_X7_field_2 5).trans rfl
theorem n_X7_field_51 : nth t_X7_field 51 = aStI 1 52 := (y_X7_field_2 6).trans rfl
theorem n_X7_field_52 : nth t_X7_field 52 = aLdA 0 53 := (y_X7_field_2 7).trans rfl
theorem n_X7_field_53 : nth t_X7_field 53 = aGetL 13 [6] 56 := (y_X7_field_2 8).trans rfl
theorem n_X7_field_56 : nth t_X7_field 56 = aStL 2 57 := (y_X7_field_2 11).trans rfl
theorem n_X7_field_57 : nth t_X7_field 57 = aLdA 0 58 := (y_X7_field_2 12).trans rfl
theorem n_X7_field_58 : nth t_X7_field 58 = aCalV 162 0 61 [6] none := (y_X7_field_2 13).trans rfl
theorem n_X7_field_61 : nth t_X7_field 61 = aLdA 0 62 := (y_X7_field_2 16).trans rfl
theorem n_X7_field_62 : nth t_X7_field 62 = aK (.int 1) 63 := (y_X7_field_2 17).trans rfl
theorem y_X7_field_3 (n : Nat) : nth t_X7_field (n + 63) = nth t_X7_field_c3 n := (y_X7_field_2 (n + 18)).trans rfl
theorem n_X7_field_63 : nth t_X7_field 63 = aK (.int 20) 65 := (y_X7_field_3 0).trans rfl
theorem n_X7_field_65 : nth t_X7_field 65 = aCalV 170 2 68 [6] none := (y_X7_field_3 2).trans rfl
theorem n_X7_field_68 : nth t_X7_field 68 = aIfEq 71 73 := (y_X7_field_3 5).trans rfl
theorem n_X7_field_71 : nth t_X7_field 71 = aK (.int 0) 72 := (y_X7_field_3 8).trans rfl
theorem n_X7_field_72 : nth t_X7_field 72 = aRetZ := (y_X7_field_3 9).trans rfl
theorem n_X7_field_73 : nth t_X7_field 73 = aLdA 0 74 := (y_X7_field_3 10).trans rfl
theorem n_X7_field_74 : nth t_X7_field 74 = aGetR 63 [6] 77 := (y_X7_field_3 11).trans rfl
theorem n_X7_field_77 : nth t_X7_field 77 = aLdI 1 78 := (y_X7_field_3 14).trans rfl
theorem n_X7_field_78 : nth t_X7_field 78 = aLdA 0 79 := (y_X7_field_3 15).trans rfl
theorem n_X7_field_79 : nth t_X7_field 79 = aGetI 14 [6] 82 := (y_X7_field_3 16).trans rfl
theorem n_X7_field_82 : nth t_X7_field 82 = aAstI 83 := (y_X7_field_3 19).trans rfl
theorem n_X7_field_83 : nth t_X7_field 83 = aLdA 0 84 := (y_X7_field_3 20).trans rfl
theorem y_X7_field_4 (n : Nat) : nth t_X7_field (n + 84) = nth t_X7_field_c4 n := (y_X7_field_3 (n + 21)).trans rfl
theorem n_X7_field_84 : nth t_X7_field 84 = aLdA 0 85 := (y_X7_field_4 0).trans rfl
theorem n_X7_field_85 : nth t_X7_field 85 = aGetI 14 [6] 88 := (y_X7_field_4 1).trans rfl
theorem n_X7_field_88 : nth t_X7_field 88 = aLdA 0 89 := (y_X7_field_4 4).trans rfl
theorem n_X7_field_89 : nth t_X7_field 89 = aGetI 14 [6] 92 := (y_X7_field_4 5).trans rfl
theorem n_X7_field_92 : nth t_X7_field 92 = aK (.int 5) 93 := (y_X7_field_4 8).trans rfl
theorem n_X7_field_93 : nth t_X7_field 93 = aB (fun x y => x + y) 94 := (y_X7_field_4 9).trans rfl
theorem n_X7_field_94 : nth t_X7_field 94 = aK (.int 20) 96 := (y_X7_field_4 10).trans rfl
theorem n_X7_field_96 : nth t_X7_field 96 = aIcLt 99 108 := (y_X7_field_4 12).trans rfl
theorem n_X7_field_99 : nth t_X7_field 99 = aLdA 0 100 := (y_X7_field_4 15).trans rfl
theorem n_X7_field_100 : nth t_X7_field 100 = aGetI 14 [6] 103 := (y_X7_field_4 16).trans rfl
theorem n_X7_field_103 : nth t_X7_field 103 = aK (.int 5) 104 := (y_X7_field_4 19).trans rfl
theorem n_X7_field_104 : nth t_X7_field 104 = aB (fun x y => x + y) 105 := (y_X7_field_4 20).trans rfl
theorem y_X7_field_5 (n : Nat) : nth t_X7_field (n + 105) = nth t_X7_field_c5 n := (y_X7_field_4 (n + 21)).trans rfl
theorem n_X7_field_105 : nth t_X7_field 105 = aGoto 110 := (y_X7_field_5 0).trans rfl
theorem n_X7_field_108 : nth t_X7_field 108 = aK (.int 20) 110 := (y_X7_field_5 3).trans rfl
theorem n_X7_field_110 : nth t_X7_field 110 = aCalV 170 2 113 [6] none := (y_X7_field_5 5).trans rfl
theorem n_X7_field_113 : nth t_X7_field 113 = aIfEq 116 118 := (y_X7_field_5 8).trans rfl
theorem n_X7_field_116 : nth t_X7_field 116 = aK (.int 0) 117 := (y_X7_field_5 11).trans rfl
theorem n_X7_field_117 : nth t_X7_field 117 = aRetZ := (y_X7_field_5 12).trans rfl
theorem n_X7_field_118 : nth t_X7_field 118 = aLdA 0 119 := (y_X7_field_5 13).trans rfl
theorem n_X7_field_119 : nth t_X7_field 119 = aGetR 64 [6] 122 := (y_X7_field_5 14).trans rfl
theorem n_X7_field_122 : nth t_X7_field 122 = aLdI 1 123 := (y_X7_field_5 17).trans rfl
theorem n_X7_field_123 : nth t_X7_field 123 = aLdA 0 124 := (y_X7_field_5 18).trans rfl
theorem n_X7_field_124 : nth t_X7_field 124 = aGetI 14 [6] 127 := (y_X7_field_5 19).trans rfl
theorem n_X7_field_127 : nth t_X7_field 127 = aAstI 128 := (y_X7_field_5 22).trans rfl
theorem y_X7_field_6 (n : Nat) : nth t_X7_field (n + 128) = nth t_X7_field_c6 n := (y_X7_field_5 (n + 23)).trans rfl
theorem n_X7_field_128 : nth t_X7_field 128 = aLdA 0 129 := (y_X7_field_6 0).trans rfl
theorem n_X7_field_129 : nth t_X7_field 129 = aGetR 71 [6] 132 := (y_X7_field_6 1).trans rfl
theorem n_X7_field_132 : nth t_X7_field 132 = aLdI 1 133 := (y_X7_field_6 4).trans rfl
theorem n_X7_field_133 : nth t_X7_field 133 = aLdL 2 134 := (y_X7_field_6 5).trans rfl
theorem n_X7_field_134 : nth t_X7_field 134 = aAstL 135 := (y_X7_field_6 6).trans rfl
theorem n_X7_field_135 : nth t_X7_field 135 = aLdA 0 136 := (y_X7_field_6 7).trans rfl
theorem n_X7_field_136 : nth t_X7_field 136 = aGetR 62 [6] 139 := (y_X7_field_6 8).trans rfl
theorem n_X7_field_139 : nth t_X7_field 139 = aK (.int 1) 140 := (y_X7_field_6 11).trans rfl
theorem n_X7_field_140 : nth t_X7_field 140 = aDup2 141 := (y_X7_field_6 12).trans rfl
theorem n_X7_field_141 : nth t_X7_field 141 = aAldI 142 := (y_X7_field_6 13).trans rfl
theorem n_X7_field_142 : nth t_X7_field 142 = aK (.int 1) 143 := (y_X7_field_6 14).trans rfl
theorem n_X7_field_143 : nth t_X7_field 143 = aB (fun x y => x + y) 144 := (y_X7_field_6 15).trans rfl
theorem y_X7_field_7 (n : Nat) : nth t_X7_field (n + 144) = nth t_X7_field_c7 n := (y_X7_field_6 (n + 16)).trans rfl
theorem n_X7_field_144 : nth t_X7_field 144 = aAstI 145 := (y_X7_field_7 0).trans rfl
theorem n_X7_field_145 : nth t_X7_field 145 = aK (.int 1) 146 := (y_X7_field_7 1).trans rfl
theorem n_X7_field_146 : nth t_X7_field 146 = aRetZ := (y_X7_field_7 2).trans rfl
theorem n_X7_breaks_0 : nth t_X7_breaks 0 = aLdA 0 1 := rfl
theorem n_X7_breaks_1 : nth t_X7_breaks 1 = aCalV 162 0 4 [6] none := rfl
theorem n_X7_breaks_4 : nth t_X7_breaks 4 = aLdA 0 5 := rfl
theorem n_X7_breaks_5 : nth t_X7_breaks 5 = aK (.int 1) 6 := rfl
theorem n_X7_breaks_6 : nth t_X7_breaks 6 = aK (.int 20) 8 := rfl
theorem n_X7_breaks_8 : nth t_X7_breaks 8 = aCalV 170 2 11 [6] none := rfl
theorem n_X7_breaks_11 : nth t_X7_breaks 11 = aIfEq 14 16 := rfl
theorem n_X7_breaks_14 : nth t_X7_breaks 14 = aK (.int 0) 15 := rfl
theorem n_X7_breaks_15 : nth t_X7_breaks 15 = aRetZ := rfl
theorem n_X7_breaks_16 : nth t_X7_breaks 16 = aLdA 0 17 := rfl
theorem n_X7_breaks_17 : nth t_X7_breaks 17 = aGetI 14 [6] 20 := rfl
theorem n_X7_breaks_20 : nth t_X7_breaks 20 = aStI 1 21 := rfl
theorem y_X7_breaks_1 (n : Nat) : nth t_X7_breaks (n + 21) = nth t_X7_breaks_c1 n := rfl
theorem n_X7_breaks_21 : nth t_X7_breaks 21 = aLdA 0 22 := (y_X7_breaks_1 0).trans rfl
theorem n_X7_breaks_22 : nth t_X7_breaks 22 = aGetI 8 [6] 25 := (y_X7_breaks_1 1).trans rfl
theorem n_X7_breaks_25 : nth t_X7_breaks 25 = aStI 2 26 := (y_X7_breaks_1 4).trans rfl
theorem n_X7_breaks_26 : nth t_X7_breaks 26 = aLdA 0 27 := (y_X7_breaks_1 5).trans rfl
theorem n_X7_breaks_27 : nth t_X7_breaks 27 = aK (.int 1) 28 := (y_X7_breaks_1 6).trans rfl
theorem n_X7_breaks_28 : nth t_X7_breaks 28 = aK (.int 3) 29 := (y_X7_breaks_1 7).trans rfl
theorem n_X7_breaks_29 : nth t_X7_breaks 29 = aCalV 170 2 32 [6] none := (y_X7_breaks_1 8).trans rfl
theorem n_X7_breaks_32 : nth t_X7_breaks 32 = aIfEq 35 37 := (y_X7_breaks_1 11).trans rfl
theorem n_X7_breaks_35 : nth t_X7_breaks 35 = aK (.int 0) 36 := (y_X7_breaks_1 14).trans rfl
theorem n_X7_breaks_36 : nth t_X7_breaks 36 = aRetZ := (y_X7_breaks_1 15).trans rfl
theorem n_X7_breaks_37 : nth t_X7_breaks 37 = aLdA 0 38 := (y_X7_breaks_1 16).trans rfl
theorem n_X7_breaks_38 : nth t_X7_breaks 38 = aGetR 65 [6] 41 := (y_X7_breaks_1 17).trans rfl
theorem y_X7_breaks_2 (n : Nat) : nth t_X7_breaks (n + 41) = nth t_X7_breaks_c2 n := (y_X7_breaks_1 (n + 20)).trans rfl
theorem n_X7_breaks_41 : nth t_X7_breaks 41 = aK (.int 2) 42 := (y_X7_breaks_2 0).trans rfl
theorem n_X7_breaks_42 : nth t_X7_breaks 42 = aLdA 0 43 := (y_X7_breaks_2 1).trans rfl
theorem n_X7_breaks_43 : nth t_X7_breaks 43 = aGetI 14 [6] 46 := (y_X7_breaks_2 2).trans rfl
theorem n_X7_breaks_46 : nth t_X7_breaks 46 = aB (fun x y => x + y) 47 := (y_X7_breaks_2 5).trans rfl
theorem n_X7_breaks_47 : nth t_X7_breaks 47 = aAldI 48 := (y_X7_breaks_2 6).trans rfl
theorem n_X7_breaks_48 : nth t_X7_breaks 48 = aIfLe 58 51 := (y_X7_breaks_2 7).trans rfl
theorem n_X7_breaks_51 : nth t_X7_breaks 51 = aLdA 0 52 := (y_X7_breaks_2 10).trans rfl
theorem n_X7_breaks_52 : nth t_X7_breaks 52 = aK (.int 3) 53 := (y_X7_breaks_2 11).trans rfl
theorem n_X7_breaks_53 : nth t_X7_breaks 53 = aLdI 2 54 := (y_X7_breaks_2 12).trans rfl
theorem n_X7_breaks_54 : nth t_X7_breaks 54 = aCalV 168 2 57 [6] none := (y_X7_breaks_2 13).trans rfl
theorem n_X7_breaks_57 : nth t_X7_breaks 57 = aRetZ := (y_X7_breaks_2 16).trans rfl
theorem n_X7_breaks_58 : nth t_X7_breaks 58 = aLdA 0 59 := (y_X7_breaks_2 17).trans rfl
theorem y_X7_breaks_3 (n : Nat) : nth t_X7_breaks (n + 59) = nth t_X7_breaks_c3 n := (y_X7_breaks_2 (n + 18)).trans rfl
theorem n_X7_breaks_59 : nth t_X7_breaks 59 = aGetR 65 [6] 62 := (y_X7_breaks_3 0).trans rfl
theorem n_X7_breaks_62 : nth t_X7_breaks 62 = aK (.int 2) 63 := (y_X7_breaks_3 3).trans rfl
theorem n_X7_breaks_63 : nth t_X7_breaks 63 = aLdA 0 64 := (y_X7_breaks_3 4).trans rfl
theorem n_X7_breaks_64 : nth t_X7_breaks 64 = aGetI 14 [6] 67 := (y_X7_breaks_3 5).trans rfl
theorem n_X7_breaks_67 : nth t_X7_breaks 67 = aB (fun x y => x + y) 68 := (y_X7_breaks_3 8).trans rfl
theorem n_X7_breaks_68 : nth t_X7_breaks 68 = aLdI 1 69 := (y_X7_breaks_3 9).trans rfl
theorem n_X7_breaks_69 : nth t_X7_breaks 69 = aAstI 70 := (y_X7_breaks_3 10).trans rfl
theorem n_X7_breaks_70 : nth t_X7_breaks 70 = aK (.int 1) 71 := (y_X7_breaks_3 11).trans rfl
theorem n_X7_breaks_71 : nth t_X7_breaks 71 = aRetZ := (y_X7_breaks_3 12).trans rfl
theorem n_X7_runs_0 : nth t_X7_runs 0 = aLdA 0 1 := rfl
theorem n_X7_runs_1 : nth t_X7_runs 1 = aK (.int 0) 2 := rfl
theorem n_X7_runs_2 : nth t_X7_runs 2 = aPutI 0 [6] 5 := rfl
theorem n_X7_runs_5 : nth t_X7_runs 5 = aLdA 0 6 := rfl
theorem n_X7_runs_6 : nth t_X7_runs 6 = aCalV 223 0 9 [6] none := rfl
theorem n_X7_runs_9 : nth t_X7_runs 9 = aRetI := rfl
theorem n_X7_plan_0 : nth t_X7_plan 0 = aK (.int 1) 1 := rfl
theorem n_X7_plan_1 : nth t_X7_plan 1 = aLdA 0 2 := rfl
theorem n_X7_plan_2 : nth t_X7_plan 2 = aGetR 66 [6] 5 := rfl
theorem n_X7_plan_5 : nth t_X7_plan 5 = aK (.int 0) 6 := rfl
theorem n_X7_plan_6 : nth t_X7_plan 6 = aAldI 7 := rfl
theorem n_X7_plan_7 : nth t_X7_plan 7 = aB (fun x y => x <<< (y &&& 31)) 8 := rfl
theorem n_X7_plan_8 : nth t_X7_plan 8 = aK (.int 1) 9 := rfl
theorem n_X7_plan_9 : nth t_X7_plan 9 = aB (fun x y => x - y) 10 := rfl
theorem n_X7_plan_10 : nth t_X7_plan 10 = aStI 1 11 := rfl
theorem n_X7_plan_11 : nth t_X7_plan 11 = aLdA 0 12 := rfl
theorem n_X7_plan_12 : nth t_X7_plan 12 = aGetR 76 [6] 15 := rfl
theorem n_X7_plan_15 : nth t_X7_plan 15 = aK (.int 0) 16 := rfl
theorem y_X7_plan_1 (n : Nat) : nth t_X7_plan (n + 16) = nth t_X7_plan_c1 n := rfl
theorem n_X7_plan_16 : nth t_X7_plan 16 = aK (.int 0) 17 := (y_X7_plan_1 0).trans rfl
theorem n_X7_plan_17 : nth t_X7_plan 17 = aAstI 18 := (y_X7_plan_1 1).trans rfl
theorem n_X7_plan_18 : nth t_X7_plan 18 = aK (.int 1) 19 := (y_X7_plan_1 2).trans rfl
theorem n_X7_plan_19 : nth t_X7_plan 19 = aStI 2 20 := (y_X7_plan_1 3).trans rfl
theorem n_X7_plan_20 : nth t_X7_plan 20 = aLdI 2 21 := (y_X7_plan_1 4).trans rfl
theorem n_X7_plan_21 : nth t_X7_plan 21 = aLdI 1 22 := (y_X7_plan_1 5).trans rfl
theorem n_X7_plan_22 : nth t_X7_plan 22 = aIcLe 25 148 := (y_X7_plan_1 6).trans rfl
theorem n_X7_plan_25 : nth t_X7_plan 25 = aLdA 0 26 := (y_X7_plan_1 9).trans rfl
theorem n_X7_plan_26 : nth t_X7_plan 26 = aGetR 78 [6] 29 := (y_X7_plan_1 10).trans rfl
theorem n_X7_plan_29 : nth t_X7_plan 29 = aLdI 2 30 := (y_X7_plan_1 13).trans rfl
theorem n_X7_plan_30 : nth t_X7_plan 30 = aLdA 0 31 := (y_X7_plan_1 14).trans rfl
theorem n_X7_plan_31 : nth t_X7_plan 31 = aLdI 2 32 := (y_X7_plan_1 15).trans rfl
theorem y_X7_plan_2 (n : Nat) : nth t_X7_plan (n + 32) = nth t_X7_plan_c2 n := (y_X7_plan_1 (n + 16)).trans rfl
theorem n_X7_plan_32 : nth t_X7_plan 32 = aCalV 224 1 35 [6] none := (y_X7_plan_2 0).trans rfl
theorem n_X7_plan_35 : nth t_X7_plan 35 = aAstB 36 := (y_X7_plan_2 3).trans rfl
theorem n_X7_plan_36 : nth t_X7_plan 36 = aLdA 0 37 := (y_X7_plan_2 4).trans rfl
theorem n_X7_plan_37 : nth t_X7_plan 37 = aGetR 76 [6] 40 := (y_X7_plan_2 5).trans rfl
theorem n_X7_plan_40 : nth t_X7_plan 40 = aLdI 2 41 := (y_X7_plan_2 8).trans rfl
theorem n_X7_plan_41 : nth t_X7_plan 41 = aK (.int 100) 43 := (y_X7_plan_2 9).trans rfl
theorem n_X7_plan_43 : nth t_X7_plan 43 = aAstI 44 := (y_X7_plan_2 11).trans rfl
theorem n_X7_plan_44 : nth t_X7_plan 44 = aLdI 2 45 := (y_X7_plan_2 12).trans rfl
theorem n_X7_plan_45 : nth t_X7_plan 45 = aLdI 2 46 := (y_X7_plan_2 13).trans rfl
theorem n_X7_plan_46 : nth t_X7_plan 46 = aU (fun x => -x) 47 := (y_X7_plan_2 14).trans rfl
theorem n_X7_plan_47 : nth t_X7_plan 47 = aB (fun x y => x &&& y) 48 := (y_X7_plan_2 15).trans rfl
theorem n_X7_plan_48 : nth t_X7_plan 48 = aStI 3 49 := (y_X7_plan_2 16).trans rfl
theorem y_X7_plan_3 (n : Nat) : nth t_X7_plan (n + 49) = nth t_X7_plan_c3 n := (y_X7_plan_2 (n + 17)).trans rfl
theorem n_X7_plan_49 : nth t_X7_plan 49 = aLdI 3 50 := (y_X7_plan_3 0).trans rfl
theorem n_X7_plan_50 : nth t_X7_plan 50 = aStI 4 52 := (y_X7_plan_3 1).trans rfl
theorem n_X7_plan_52 : nth t_X7_plan 52 = aLdI 4 54 := (y_X7_plan_3 3).trans rfl
theorem n_X7_plan_54 : nth t_X7_plan 54 = aLdI 2 55 := (y_X7_plan_3 5).trans rfl
theorem n_X7_plan_55 : nth t_X7_plan 55 = aIcLe 58 142 := (y_X7_plan_3 6).trans rfl
theorem n_X7_plan_58 : nth t_X7_plan 58 = aLdI 4 60 := (y_X7_plan_3 9).trans rfl
theorem n_X7_plan_60 : nth t_X7_plan 60 = aLdI 2 61 := (y_X7_plan_3 11).trans rfl
theorem n_X7_plan_61 : nth t_X7_plan 61 = aK (.int (-1)) 62 := (y_X7_plan_3 12).trans rfl
theorem n_X7_plan_62 : nth t_X7_plan 62 = aB (fun x y => x ^^^ y) 63 := (y_X7_plan_3 13).trans rfl
theorem n_X7_plan_63 : nth t_X7_plan 63 = aB (fun x y => x &&& y) 64 := (y_X7_plan_3 14).trans rfl
theorem n_X7_plan_64 : nth t_X7_plan 64 = aIfEq 67 136 := (y_X7_plan_3 15).trans rfl
theorem n_X7_plan_67 : nth t_X7_plan 67 = aLdI 4 69 := (y_X7_plan_3 18).trans rfl
theorem y_X7_plan_4 (n : Nat) : nth t_X7_plan (n + 69) = nth t_X7_plan_c4 n := (y_X7_plan_3 (n + 20)).trans rfl
theorem n_X7_plan_69 : nth t_X7_plan 69 = aLdI 3 70 := (y_X7_plan_4 0).trans rfl
theorem n_X7_plan_70 : nth t_X7_plan 70 = aB (fun x y => x &&& y) 71 := (y_X7_plan_4 1).trans rfl
theorem n_X7_plan_71 : nth t_X7_plan 71 = aIfEq 136 74 := (y_X7_plan_4 2).trans rfl
theorem n_X7_plan_74 : nth t_X7_plan 74 = aLdA 0 75 := (y_X7_plan_4 5).trans rfl
theorem n_X7_plan_75 : nth t_X7_plan 75 = aGetR 78 [6] 78 := (y_X7_plan_4 6).trans rfl
theorem n_X7_plan_78 : nth t_X7_plan 78 = aLdI 4 80 := (y_X7_plan_4 9).trans rfl
theorem n_X7_plan_80 : nth t_X7_plan 80 = aAldB 81 := (y_X7_plan_4 11).trans rfl
theorem n_X7_plan_81 : nth t_X7_plan 81 = aIfEq 136 84 := (y_X7_plan_4 12).trans rfl
theorem n_X7_plan_84 : nth t_X7_plan 84 = aLdA 0 85 := (y_X7_plan_4 15).trans rfl
theorem n_X7_plan_85 : nth t_X7_plan 85 = aGetR 76 [6] 88 := (y_X7_plan_4 16).trans rfl
theorem n_X7_plan_88 : nth t_X7_plan 88 = aLdI 2 89 := (y_X7_plan_4 19).trans rfl
theorem n_X7_plan_89 : nth t_X7_plan 89 = aLdI 4 91 := (y_X7_plan_4 20).trans rfl
theorem y_X7_plan_5 (n : Nat) : nth t_X7_plan (n + 91) = nth t_X7_plan_c5 n := (y_X7_plan_4 (n + 22)).trans rfl
theorem n_X7_plan_91 : nth t_X7_plan 91 = aK (.int (-1)) 92 := (y_X7_plan_5 0).trans rfl
theorem n_X7_plan_92 : nth t_X7_plan 92 = aB (fun x y => x ^^^ y) 93 := (y_X7_plan_5 1).trans rfl
theorem n_X7_plan_93 : nth t_X7_plan 93 = aB (fun x y => x &&& y) 94 := (y_X7_plan_5 2).trans rfl
theorem n_X7_plan_94 : nth t_X7_plan 94 = aAldI 95 := (y_X7_plan_5 3).trans rfl
theorem n_X7_plan_95 : nth t_X7_plan 95 = aK (.int 1) 96 := (y_X7_plan_5 4).trans rfl
theorem n_X7_plan_96 : nth t_X7_plan 96 = aB (fun x y => x + y) 97 := (y_X7_plan_5 5).trans rfl
theorem n_X7_plan_97 : nth t_X7_plan 97 = aLdA 0 98 := (y_X7_plan_5 6).trans rfl
theorem n_X7_plan_98 : nth t_X7_plan 98 = aGetR 76 [6] 101 := (y_X7_plan_5 7).trans rfl
theorem n_X7_plan_101 : nth t_X7_plan 101 = aLdI 2 102 := (y_X7_plan_5 10).trans rfl
theorem n_X7_plan_102 : nth t_X7_plan 102 = aAldI 103 := (y_X7_plan_5 11).trans rfl
theorem n_X7_plan_103 : nth t_X7_plan 103 = aIcLt 109 106 := (y_X7_plan_5 12).trans rfl
theorem n_X7_plan_106 : nth t_X7_plan 106 = aGoto 136 := (y_X7_plan_5 15).trans rfl
theorem y_X7_plan_6 (n : Nat) : nth t_X7_plan (n + 109) = nth t_X7_plan_c6 n := (y_X7_plan_5 (n + 18)).trans rfl
theorem n_X7_plan_109 : nth t_X7_plan 109 = aLdA 0 110 := (y_X7_plan_6 0).trans rfl
theorem n_X7_plan_110 : nth t_X7_plan 110 = aGetR 76 [6] 113 := (y_X7_plan_6 1).trans rfl
theorem n_X7_plan_113 : nth t_X7_plan 113 = aLdI 2 114 := (y_X7_plan_6 4).trans rfl
theorem n_X7_plan_114 : nth t_X7_plan 114 = aLdA 0 115 := (y_X7_plan_6 5).trans rfl
theorem n_X7_plan_115 : nth t_X7_plan 115 = aGetR 76 [6] 118 := (y_X7_plan_6 6).trans rfl
theorem n_X7_plan_118 : nth t_X7_plan 118 = aLdI 2 119 := (y_X7_plan_6 9).trans rfl
theorem n_X7_plan_119 : nth t_X7_plan 119 = aLdI 4 121 := (y_X7_plan_6 10).trans rfl
theorem n_X7_plan_121 : nth t_X7_plan 121 = aK (.int (-1)) 122 := (y_X7_plan_6 12).trans rfl
theorem n_X7_plan_122 : nth t_X7_plan 122 = aB (fun x y => x ^^^ y) 123 := (y_X7_plan_6 13).trans rfl
theorem n_X7_plan_123 : nth t_X7_plan 123 = aB (fun x y => x &&& y) 124 := (y_X7_plan_6 14).trans rfl
theorem n_X7_plan_124 : nth t_X7_plan 124 = aAldI 125 := (y_X7_plan_6 15).trans rfl
theorem n_X7_plan_125 : nth t_X7_plan 125 = aK (.int 1) 126 := (y_X7_plan_6 16).trans rfl
theorem y_X7_plan_7 (n : Nat) : nth t_X7_plan (n + 126) = nth t_X7_plan_c7 n := (y_X7_plan_6 (n + 17)).trans rfl
theorem n_X7_plan_126 : nth t_X7_plan 126 = aB (fun x y => x + y) 127 := (y_X7_plan_7 0).trans rfl
theorem n_X7_plan_127 : nth t_X7_plan 127 = aAstI 128 := (y_X7_plan_7 1).trans rfl
theorem n_X7_plan_128 : nth t_X7_plan 128 = aLdA 0 129 := (y_X7_plan_7 2).trans rfl
theorem n_X7_plan_129 : nth t_X7_plan 129 = aGetR 77 [6] 132 := (y_X7_plan_7 3).trans rfl
theorem n_X7_plan_132 : nth t_X7_plan 132 = aLdI 2 133 := (y_X7_plan_7 6).trans rfl
theorem n_X7_plan_133 : nth t_X7_plan 133 = aLdI 4 135 := (y_X7_plan_7 7).trans rfl
theorem n_X7_plan_135 : nth t_X7_plan 135 = aAstI 136 := (y_X7_plan_7 9).trans rfl
theorem n_X7_plan_136 : nth t_X7_plan 136 = aInc 4 1 139 := (y_X7_plan_7 10).trans rfl
theorem n_X7_plan_139 : nth t_X7_plan 139 = aGoto 52 := (y_X7_plan_7 13).trans rfl
theorem n_X7_plan_142 : nth t_X7_plan 142 = aInc 2 1 145 := (y_X7_plan_7 16).trans rfl
theorem n_X7_plan_145 : nth t_X7_plan 145 = aGoto 20 := (y_X7_plan_7 19).trans rfl
theorem n_X7_plan_148 : nth t_X7_plan 148 = aLdA 0 149 := (y_X7_plan_7 22).trans rfl
theorem y_X7_plan_8 (n : Nat) : nth t_X7_plan (n + 149) = nth t_X7_plan_c8 n := (y_X7_plan_7 (n + 23)).trans rfl
theorem n_X7_plan_149 : nth t_X7_plan 149 = aGetR 76 [6] 152 := (y_X7_plan_8 0).trans rfl
theorem n_X7_plan_152 : nth t_X7_plan 152 = aLdI 1 153 := (y_X7_plan_8 3).trans rfl
theorem n_X7_plan_153 : nth t_X7_plan 153 = aAldI 154 := (y_X7_plan_8 4).trans rfl
theorem n_X7_plan_154 : nth t_X7_plan 154 = aK (.int 100) 156 := (y_X7_plan_8 5).trans rfl
theorem n_X7_plan_156 : nth t_X7_plan 156 = aIcLt 163 159 := (y_X7_plan_8 7).trans rfl
theorem n_X7_plan_159 : nth t_X7_plan 159 = aK (.int (-1)) 160 := (y_X7_plan_8 10).trans rfl
theorem n_X7_plan_160 : nth t_X7_plan 160 = aGoto 169 := (y_X7_plan_8 11).trans rfl
theorem n_X7_plan_163 : nth t_X7_plan 163 = aLdA 0 164 := (y_X7_plan_8 14).trans rfl
theorem n_X7_plan_164 : nth t_X7_plan 164 = aGetR 76 [6] 167 := (y_X7_plan_8 15).trans rfl
theorem n_X7_plan_167 : nth t_X7_plan 167 = aLdI 1 168 := (y_X7_plan_8 18).trans rfl
theorem n_X7_plan_168 : nth t_X7_plan 168 = aAldI 169 := (y_X7_plan_8 19).trans rfl
theorem n_X7_plan_169 : nth t_X7_plan 169 = aRetI := (y_X7_plan_8 20).trans rfl
theorem n_X7_make0_0 : nth t_X7_make0 0 = aLdA 0 1 := rfl
theorem n_X7_make0_1 : nth t_X7_make0 1 = aK (.int 0) 2 := rfl
theorem n_X7_make0_2 : nth t_X7_make0 2 = aPutI 79 [6] 5 := rfl
theorem n_X7_make0_5 : nth t_X7_make0 5 = aLdA 0 6 := rfl
theorem n_X7_make0_6 : nth t_X7_make0 6 = aK (.int 0) 7 := rfl
theorem n_X7_make0_7 : nth t_X7_make0 7 = aPutI 80 [6] 10 := rfl
theorem n_X7_make0_10 : nth t_X7_make0 10 = aLdA 0 11 := rfl
theorem n_X7_make0_11 : nth t_X7_make0 11 = aK (.int 0) 12 := rfl
theorem n_X7_make0_12 : nth t_X7_make0 12 = aPutZ 81 [6] 15 := rfl
theorem n_X7_make0_15 : nth t_X7_make0 15 = aK (.int 0) 16 := rfl
theorem n_X7_make0_16 : nth t_X7_make0 16 = aStI 2 17 := rfl
theorem n_X7_make0_17 : nth t_X7_make0 17 = aK (.int 0) 18 := rfl
theorem y_X7_make0_1 (n : Nat) : nth t_X7_make0 (n + 18) = nth t_X7_make0_c1 n := rfl
theorem n_X7_make0_18 : nth t_X7_make0 18 = aStI 3 19 := (y_X7_make0_1 0).trans rfl
theorem n_X7_make0_19 : nth t_X7_make0 19 = aLdI 3 20 := (y_X7_make0_1 1).trans rfl
theorem n_X7_make0_20 : nth t_X7_make0 20 = aLdA 0 21 := (y_X7_make0_1 2).trans rfl
theorem n_X7_make0_21 : nth t_X7_make0 21 = aGetR 66 [6] 24 := (y_X7_make0_1 3).trans rfl
theorem n_X7_make0_24 : nth t_X7_make0 24 = aK (.int 0) 25 := (y_X7_make0_1 6).trans rfl
theorem n_X7_make0_25 : nth t_X7_make0 25 = aAldI 26 := (y_X7_make0_1 7).trans rfl
theorem n_X7_make0_26 : nth t_X7_make0 26 = aIcLt 29 57 := (y_X7_make0_1 8).trans rfl
theorem n_X7_make0_29 : nth t_X7_make0 29 = aLdI 2 30 := (y_X7_make0_1 11).trans rfl
theorem n_X7_make0_30 : nth t_X7_make0 30 = aLdI 1 31 := (y_X7_make0_1 12).trans rfl
theorem n_X7_make0_31 : nth t_X7_make0 31 = aLdI 3 32 := (y_X7_make0_1 13).trans rfl
theorem n_X7_make0_32 : nth t_X7_make0 32 = aB (fun x y => x >>> (y &&& 31)) 33 := (y_X7_make0_1 14).trans rfl
theorem n_X7_make0_33 : nth t_X7_make0 33 = aK (.int 1) 34 := (y_X7_make0_1 15).trans rfl
theorem y_X7_make0_2 (n : Nat) : nth t_X7_make0 (n + 34) = nth t_X7_make0_c2 n := (y_X7_make0_1 (n + 16)).trans rfl
theorem n_X7_make0_34 : nth t_X7_make0 34 = aB (fun x y => x &&& y) 35 := (y_X7_make0_2 0).trans rfl
theorem n_X7_make0_35 : nth t_X7_make0 35 = aK (.int 1) 36 := (y_X7_make0_2 1).trans rfl
theorem n_X7_make0_36 : nth t_X7_make0 36 = aIcEq 39 48 := (y_X7_make0_2 2).trans rfl
theorem n_X7_make0_39 : nth t_X7_make0 39 = aLdA 0 40 := (y_X7_make0_2 5).trans rfl
theorem n_X7_make0_40 : nth t_X7_make0 40 = aGetR 68 [6] 43 := (y_X7_make0_2 6).trans rfl
theorem n_X7_make0_43 : nth t_X7_make0 43 = aLdI 3 44 := (y_X7_make0_2 9).trans rfl
theorem n_X7_make0_44 : nth t_X7_make0 44 = aAldI 45 := (y_X7_make0_2 10).trans rfl
theorem n_X7_make0_45 : nth t_X7_make0 45 = aGoto 49 := (y_X7_make0_2 11).trans rfl
theorem n_X7_make0_48 : nth t_X7_make0 48 = aK (.int 0) 49 := (y_X7_make0_2 14).trans rfl
theorem n_X7_make0_49 : nth t_X7_make0 49 = aB (fun x y => x + y) 50 := (y_X7_make0_2 15).trans rfl
theorem n_X7_make0_50 : nth t_X7_make0 50 = aStI 2 51 := (y_X7_make0_2 16).trans rfl
theorem n_X7_make0_51 : nth t_X7_make0 51 = aInc 3 1 54 := (y_X7_make0_2 17).trans rfl
theorem y_X7_make0_3 (n : Nat) : nth t_X7_make0 (n + 54) = nth t_X7_make0_c3 n := (y_X7_make0_2 (n + 20)).trans rfl
theorem n_X7_make0_54 : nth t_X7_make0 54 = aGoto 19 := (y_X7_make0_3 0).trans rfl
theorem n_X7_make0_57 : nth t_X7_make0 57 = aLdI 1 58 := (y_X7_make0_3 3).trans rfl
theorem n_X7_make0_58 : nth t_X7_make0 58 = aI2L 59 := (y_X7_make0_3 4).trans rfl
theorem n_X7_make0_59 : nth t_X7_make0 59 = aCalS 196 1 62 none := (y_X7_make0_3 5).trans rfl
theorem n_X7_make0_62 : nth t_X7_make0 62 = aK (.int 4) 63 := (y_X7_make0_3 8).trans rfl
theorem n_X7_make0_63 : nth t_X7_make0 63 = aIcLe 66 72 := (y_X7_make0_3 9).trans rfl
theorem n_X7_make0_66 : nth t_X7_make0 66 = aLdI 2 67 := (y_X7_make0_3 12).trans rfl
theorem n_X7_make0_67 : nth t_X7_make0 67 = aK (.int 12) 69 := (y_X7_make0_3 13).trans rfl
theorem n_X7_make0_69 : nth t_X7_make0 69 = aIcLe 74 72 := (y_X7_make0_3 15).trans rfl
theorem n_X7_make0_72 : nth t_X7_make0 72 = aK (.int 0) 73 := (y_X7_make0_3 18).trans rfl
theorem n_X7_make0_73 : nth t_X7_make0 73 = aRetZ := (y_X7_make0_3 19).trans rfl
theorem n_X7_make0_74 : nth t_X7_make0 74 = aK (.int 0) 75 := (y_X7_make0_3 20).trans rfl
theorem y_X7_make0_4 (n : Nat) : nth t_X7_make0 (n + 75) = nth t_X7_make0_c4 n := (y_X7_make0_3 (n + 21)).trans rfl
theorem n_X7_make0_75 : nth t_X7_make0 75 = aStI 3 76 := (y_X7_make0_4 0).trans rfl
theorem n_X7_make0_76 : nth t_X7_make0 76 = aK (.int 0) 77 := (y_X7_make0_4 1).trans rfl
theorem n_X7_make0_77 : nth t_X7_make0 77 = aStI 4 79 := (y_X7_make0_4 2).trans rfl
theorem n_X7_make0_79 : nth t_X7_make0 79 = aLdI 4 81 := (y_X7_make0_4 4).trans rfl
theorem n_X7_make0_81 : nth t_X7_make0 81 = aK (.int 3) 82 := (y_X7_make0_4 6).trans rfl
theorem n_X7_make0_82 : nth t_X7_make0 82 = aIcLt 85 162 := (y_X7_make0_4 7).trans rfl
theorem n_X7_make0_85 : nth t_X7_make0 85 = aLdA 0 86 := (y_X7_make0_4 10).trans rfl
theorem n_X7_make0_86 : nth t_X7_make0 86 = aGetR 65 [6] 89 := (y_X7_make0_4 11).trans rfl
theorem n_X7_make0_89 : nth t_X7_make0 89 = aLdI 4 91 := (y_X7_make0_4 14).trans rfl
theorem n_X7_make0_91 : nth t_X7_make0 91 = aAldI 92 := (y_X7_make0_4 16).trans rfl
theorem n_X7_make0_92 : nth t_X7_make0 92 = aIfEq 95 98 := (y_X7_make0_4 17).trans rfl
theorem n_X7_make0_95 : nth t_X7_make0 95 = aGoto 156 := (y_X7_make0_4 20).trans rfl
theorem y_X7_make0_5 (n : Nat) : nth t_X7_make0 (n + 98) = nth t_X7_make0_c5 n := (y_X7_make0_4 (n + 23)).trans rfl
theorem n_X7_make0_98 : nth t_X7_make0 98 = aLdA 0 99 := (y_X7_make0_5 0).trans rfl
theorem n_X7_make0_99 : nth t_X7_make0 99 = aK (.int 0) 100 := (y_X7_make0_5 1).trans rfl
theorem n_X7_make0_100 : nth t_X7_make0 100 = aLdA 0 101 := (y_X7_make0_5 2).trans rfl
theorem n_X7_make0_101 : nth t_X7_make0 101 = aGetR 65 [6] 104 := (y_X7_make0_5 3).trans rfl
theorem n_X7_make0_104 : nth t_X7_make0 104 = aLdI 4 106 := (y_X7_make0_5 6).trans rfl
theorem n_X7_make0_106 : nth t_X7_make0 106 = aAldI 107 := (y_X7_make0_5 8).trans rfl
theorem n_X7_make0_107 : nth t_X7_make0 107 = aB (fun x y => x + y) 108 := (y_X7_make0_5 9).trans rfl
theorem n_X7_make0_108 : nth t_X7_make0 108 = aK (.int 1) 109 := (y_X7_make0_5 10).trans rfl
theorem n_X7_make0_109 : nth t_X7_make0 109 = aB (fun x y => x - y) 110 := (y_X7_make0_5 11).trans rfl
theorem n_X7_make0_110 : nth t_X7_make0 110 = aK (.int 148) 113 := (y_X7_make0_5 12).trans rfl
theorem n_X7_make0_113 : nth t_X7_make0 113 = aLdI 3 114 := (y_X7_make0_5 15).trans rfl
theorem n_X7_make0_114 : nth t_X7_make0 114 = aB (fun x y => x + y) 115 := (y_X7_make0_5 16).trans rfl
theorem y_X7_make0_6 (n : Nat) : nth t_X7_make0 (n + 115) = nth t_X7_make0_c6 n := (y_X7_make0_5 (n + 17)).trans rfl
theorem n_X7_make0_115 : nth t_X7_make0 115 = aCalV 225 2 118 [6] none := (y_X7_make0_6 0).trans rfl
theorem n_X7_make0_118 : nth t_X7_make0 118 = aLdA 0 119 := (y_X7_make0_6 3).trans rfl
theorem n_X7_make0_119 : nth t_X7_make0 119 = aK (.int 20) 121 := (y_X7_make0_6 4).trans rfl
theorem n_X7_make0_121 : nth t_X7_make0 121 = aLdA 0 122 := (y_X7_make0_6 6).trans rfl
theorem n_X7_make0_122 : nth t_X7_make0 122 = aGetR 65 [6] 125 := (y_X7_make0_6 7).trans rfl
theorem n_X7_make0_125 : nth t_X7_make0 125 = aLdI 4 127 := (y_X7_make0_6 10).trans rfl
theorem n_X7_make0_127 : nth t_X7_make0 127 = aAldI 128 := (y_X7_make0_6 12).trans rfl
theorem n_X7_make0_128 : nth t_X7_make0 128 = aB (fun x y => x + y) 129 := (y_X7_make0_6 13).trans rfl
theorem n_X7_make0_129 : nth t_X7_make0 129 = aK (.int 1) 130 := (y_X7_make0_6 14).trans rfl
theorem n_X7_make0_130 : nth t_X7_make0 130 = aB (fun x y => x - y) 131 := (y_X7_make0_6 15).trans rfl
theorem n_X7_make0_131 : nth t_X7_make0 131 = aK (.int 152) 134 := (y_X7_make0_6 16).trans rfl
theorem n_X7_make0_134 : nth t_X7_make0 134 = aLdI 3 135 := (y_X7_make0_6 19).trans rfl
theorem y_X7_make0_7 (n : Nat) : nth t_X7_make0 (n + 135) = nth t_X7_make0_c7 n := (y_X7_make0_6 (n + 20)).trans rfl
theorem n_X7_make0_135 : nth t_X7_make0 135 = aB (fun x y => x + y) 136 := (y_X7_make0_7 0).trans rfl
theorem n_X7_make0_136 : nth t_X7_make0 136 = aCalV 225 2 139 [6] none := (y_X7_make0_7 1).trans rfl
theorem n_X7_make0_139 : nth t_X7_make0 139 = aLdA 0 140 := (y_X7_make0_7 4).trans rfl
theorem n_X7_make0_140 : nth t_X7_make0 140 = aK (.int 61) 142 := (y_X7_make0_7 5).trans rfl
theorem n_X7_make0_142 : nth t_X7_make0 142 = aLdI 3 143 := (y_X7_make0_7 7).trans rfl
theorem n_X7_make0_143 : nth t_X7_make0 143 = aB (fun x y => x + y) 144 := (y_X7_make0_7 8).trans rfl
theorem n_X7_make0_144 : nth t_X7_make0 144 = aK (.int 156) 147 := (y_X7_make0_7 9).trans rfl
theorem n_X7_make0_147 : nth t_X7_make0 147 = aLdI 4 149 := (y_X7_make0_7 12).trans rfl
theorem n_X7_make0_149 : nth t_X7_make0 149 = aB (fun x y => x + y) 150 := (y_X7_make0_7 14).trans rfl
theorem n_X7_make0_150 : nth t_X7_make0 150 = aCalV 225 2 153 [6] none := (y_X7_make0_7 15).trans rfl
theorem n_X7_make0_153 : nth t_X7_make0 153 = aInc 3 1 156 := (y_X7_make0_7 18).trans rfl
theorem n_X7_make0_156 : nth t_X7_make0 156 = aInc 4 1 159 := (y_X7_make0_7 21).trans rfl
theorem y_X7_make0_8 (n : Nat) : nth t_X7_make0 (n + 159) = nth t_X7_make0_c8 n := (y_X7_make0_7 (n + 24)).trans rfl
theorem n_X7_make0_159 : nth t_X7_make0 159 = aGoto 79 := (y_X7_make0_8 0).trans rfl
theorem n_X7_make0_162 : nth t_X7_make0 162 = aK (.int 0) 163 := (y_X7_make0_8 3).trans rfl
theorem n_X7_make0_163 : nth t_X7_make0 163 = aStI 4 165 := (y_X7_make0_8 4).trans rfl
theorem n_X7_make0_165 : nth t_X7_make0 165 = aK (.int 0) 166 := (y_X7_make0_8 6).trans rfl
theorem n_X7_make0_166 : nth t_X7_make0 166 = aStI 5 168 := (y_X7_make0_8 7).trans rfl
theorem n_X7_make0_168 : nth t_X7_make0 168 = aLdI 5 170 := (y_X7_make0_8 9).trans rfl
theorem n_X7_make0_170 : nth t_X7_make0 170 = aLdA 0 171 := (y_X7_make0_8 11).trans rfl
theorem n_X7_make0_171 : nth t_X7_make0 171 = aGetR 66 [6] 174 := (y_X7_make0_8 12).trans rfl
theorem n_X7_make0_174 : nth t_X7_make0 174 = aK (.int 0) 175 := (y_X7_make0_8 15).trans rfl
theorem n_X7_make0_175 : nth t_X7_make0 175 = aAldI 176 := (y_X7_make0_8 16).trans rfl
theorem n_X7_make0_176 : nth t_X7_make0 176 = aIcLt 179 208 := (y_X7_make0_8 17).trans rfl
theorem n_X7_make0_179 : nth t_X7_make0 179 = aLdI 1 180 := (y_X7_make0_8 20).trans rfl
theorem y_X7_make0_9 (n : Nat) : nth t_X7_make0 (n + 180) = nth t_X7_make0_c9 n := (y_X7_make0_8 (n + 21)).trans rfl
theorem n_X7_make0_180 : nth t_X7_make0 180 = aLdI 5 182 := (y_X7_make0_9 0).trans rfl
theorem n_X7_make0_182 : nth t_X7_make0 182 = aB (fun x y => x >>> (y &&& 31)) 183 := (y_X7_make0_9 2).trans rfl
theorem n_X7_make0_183 : nth t_X7_make0 183 = aK (.int 1) 184 := (y_X7_make0_9 3).trans rfl
theorem n_X7_make0_184 : nth t_X7_make0 184 = aB (fun x y => x &&& y) 185 := (y_X7_make0_9 4).trans rfl
theorem n_X7_make0_185 : nth t_X7_make0 185 = aIfEq 188 191 := (y_X7_make0_9 5).trans rfl
theorem n_X7_make0_188 : nth t_X7_make0 188 = aGoto 202 := (y_X7_make0_9 8).trans rfl
theorem n_X7_make0_191 : nth t_X7_make0 191 = aLdA 0 192 := (y_X7_make0_9 11).trans rfl
theorem n_X7_make0_192 : nth t_X7_make0 192 = aLdI 5 194 := (y_X7_make0_9 12).trans rfl
theorem n_X7_make0_194 : nth t_X7_make0 194 = aLdI 4 196 := (y_X7_make0_9 14).trans rfl
theorem n_X7_make0_196 : nth t_X7_make0 196 = aCalV 226 2 199 [6] none := (y_X7_make0_9 16).trans rfl
theorem n_X7_make0_199 : nth t_X7_make0 199 = aInc 4 1 202 := (y_X7_make0_9 19).trans rfl
theorem n_X7_make0_202 : nth t_X7_make0 202 = aInc 5 1 205 := (y_X7_make0_9 22).trans rfl
theorem y_X7_make0_10 (n : Nat) : nth t_X7_make0 (n + 205) = nth t_X7_make0_c10 n := (y_X7_make0_9 (n + 25)).trans rfl
theorem n_X7_make0_205 : nth t_X7_make0 205 = aGoto 168 := (y_X7_make0_10 0).trans rfl
theorem n_X7_make0_208 : nth t_X7_make0 208 = aK (.int 0) 209 := (y_X7_make0_10 3).trans rfl
theorem n_X7_make0_209 : nth t_X7_make0 209 = aStI 4 211 := (y_X7_make0_10 4).trans rfl
theorem n_X7_make0_211 : nth t_X7_make0 211 = aK (.int 0) 212 := (y_X7_make0_10 6).trans rfl
theorem n_X7_make0_212 : nth t_X7_make0 212 = aStI 5 214 := (y_X7_make0_10 7).trans rfl
theorem n_X7_make0_214 : nth t_X7_make0 214 = aK (.int 0) 215 := (y_X7_make0_10 9).trans rfl
theorem n_X7_make0_215 : nth t_X7_make0 215 = aStI 6 217 := (y_X7_make0_10 10).trans rfl
theorem n_X7_make0_217 : nth t_X7_make0 217 = aLdI 6 219 := (y_X7_make0_10 12).trans rfl
theorem n_X7_make0_219 : nth t_X7_make0 219 = aLdA 0 220 := (y_X7_make0_10 14).trans rfl
theorem n_X7_make0_220 : nth t_X7_make0 220 = aGetR 66 [6] 223 := (y_X7_make0_10 15).trans rfl
theorem n_X7_make0_223 : nth t_X7_make0 223 = aK (.int 0) 224 := (y_X7_make0_10 18).trans rfl
theorem n_X7_make0_224 : nth t_X7_make0 224 = aAldI 225 := (y_X7_make0_10 19).trans rfl
theorem y_X7_make0_11 (n : Nat) : nth t_X7_make0 (n + 225) = nth t_X7_make0_c11 n := (y_X7_make0_10 (n + 20)).trans rfl
theorem n_X7_make0_225 : nth t_X7_make0 225 = aIcLt 228 349 := (y_X7_make0_11 0).trans rfl
theorem n_X7_make0_228 : nth t_X7_make0 228 = aLdI 1 229 := (y_X7_make0_11 3).trans rfl
theorem n_X7_make0_229 : nth t_X7_make0 229 = aLdI 6 231 := (y_X7_make0_11 4).trans rfl
theorem n_X7_make0_231 : nth t_X7_make0 231 = aB (fun x y => x >>> (y &&& 31)) 232 := (y_X7_make0_11 6).trans rfl
theorem n_X7_make0_232 : nth t_X7_make0 232 = aK (.int 1) 233 := (y_X7_make0_11 7).trans rfl
theorem n_X7_make0_233 : nth t_X7_make0 233 = aB (fun x y => x &&& y) 234 := (y_X7_make0_11 8).trans rfl
theorem n_X7_make0_234 : nth t_X7_make0 234 = aIfEq 237 240 := (y_X7_make0_11 9).trans rfl
theorem n_X7_make0_237 : nth t_X7_make0 237 = aGoto 343 := (y_X7_make0_11 12).trans rfl
theorem n_X7_make0_240 : nth t_X7_make0 240 = aLdA 0 241 := (y_X7_make0_11 15).trans rfl
theorem n_X7_make0_241 : nth t_X7_make0 241 = aGetR 68 [6] 244 := (y_X7_make0_11 16).trans rfl
theorem n_X7_make0_244 : nth t_X7_make0 244 = aLdI 6 246 := (y_X7_make0_11 19).trans rfl
theorem n_X7_make0_246 : nth t_X7_make0 246 = aAldI 247 := (y_X7_make0_11 21).trans rfl
theorem y_X7_make0_12 (n : Nat) : nth t_X7_make0 (n + 247) = nth t_X7_make0_c12 n := (y_X7_make0_11 (n + 22)).trans rfl
theorem n_X7_make0_247 : nth t_X7_make0 247 = aK (.int 1) 248 := (y_X7_make0_12 0).trans rfl
theorem n_X7_make0_248 : nth t_X7_make0 248 = aB (fun x y => x - y) 249 := (y_X7_make0_12 1).trans rfl
theorem n_X7_make0_249 : nth t_X7_make0 249 = aStI 7 251 := (y_X7_make0_12 2).trans rfl
theorem n_X7_make0_251 : nth t_X7_make0 251 = aLdI 7 253 := (y_X7_make0_12 4).trans rfl
theorem n_X7_make0_253 : nth t_X7_make0 253 = aIfLt 318 256 := (y_X7_make0_12 6).trans rfl
theorem n_X7_make0_256 : nth t_X7_make0 256 = aLdA 0 257 := (y_X7_make0_12 9).trans rfl
theorem n_X7_make0_257 : nth t_X7_make0 257 = aK (.int 20) 259 := (y_X7_make0_12 10).trans rfl
theorem n_X7_make0_259 : nth t_X7_make0 259 = aLdA 0 260 := (y_X7_make0_12 12).trans rfl
theorem n_X7_make0_260 : nth t_X7_make0 260 = aGetR 69 [6] 263 := (y_X7_make0_12 13).trans rfl
theorem n_X7_make0_263 : nth t_X7_make0 263 = aLdI 6 265 := (y_X7_make0_12 16).trans rfl
theorem n_X7_make0_265 : nth t_X7_make0 265 = aAldI 266 := (y_X7_make0_12 18).trans rfl
theorem n_X7_make0_266 : nth t_X7_make0 266 = aB (fun x y => x + y) 267 := (y_X7_make0_12 19).trans rfl
theorem y_X7_make0_13 (n : Nat) : nth t_X7_make0 (n + 267) = nth t_X7_make0_c13 n := (y_X7_make0_12 (n + 20)).trans rfl
theorem n_X7_make0_267 : nth t_X7_make0 267 = aCalV 227 1 270 [6] none := (y_X7_make0_13 0).trans rfl
theorem n_X7_make0_270 : nth t_X7_make0 270 = aStI 8 272 := (y_X7_make0_13 3).trans rfl
theorem n_X7_make0_272 : nth t_X7_make0 272 = aLdA 0 273 := (y_X7_make0_13 5).trans rfl
theorem n_X7_make0_273 : nth t_X7_make0 273 = aK (.int 68) 275 := (y_X7_make0_13 6).trans rfl
theorem n_X7_make0_275 : nth t_X7_make0 275 = aK (.int 6) 277 := (y_X7_make0_13 8).trans rfl
theorem n_X7_make0_277 : nth t_X7_make0 277 = aLdI 4 279 := (y_X7_make0_13 10).trans rfl
theorem n_X7_make0_279 : nth t_X7_make0 279 = aB (fun x y => x * y) 280 := (y_X7_make0_13 12).trans rfl
theorem n_X7_make0_280 : nth t_X7_make0 280 = aB (fun x y => x + y) 281 := (y_X7_make0_13 13).trans rfl
theorem n_X7_make0_281 : nth t_X7_make0 281 = aLdI 7 283 := (y_X7_make0_13 14).trans rfl
theorem n_X7_make0_283 : nth t_X7_make0 283 = aB (fun x y => x + y) 284 := (y_X7_make0_13 16).trans rfl
theorem n_X7_make0_284 : nth t_X7_make0 284 = aK (.int 181) 287 := (y_X7_make0_13 17).trans rfl
theorem n_X7_make0_287 : nth t_X7_make0 287 = aLdI 8 289 := (y_X7_make0_13 20).trans rfl
theorem y_X7_make0_14 (n : Nat) : nth t_X7_make0 (n + 289) = nth t_X7_make0_c14 n := (y_X7_make0_13 (n + 22)).trans rfl
theorem n_X7_make0_289 : nth t_X7_make0 289 = aB (fun x y => x + y) 290 := (y_X7_make0_14 0).trans rfl
theorem n_X7_make0_290 : nth t_X7_make0 290 = aCalV 225 2 293 [6] none := (y_X7_make0_14 1).trans rfl
theorem n_X7_make0_293 : nth t_X7_make0 293 = aLdA 0 294 := (y_X7_make0_14 4).trans rfl
theorem n_X7_make0_294 : nth t_X7_make0 294 = aK (.int 205) 297 := (y_X7_make0_14 5).trans rfl
theorem n_X7_make0_297 : nth t_X7_make0 297 = aLdI 8 299 := (y_X7_make0_14 8).trans rfl
theorem n_X7_make0_299 : nth t_X7_make0 299 = aB (fun x y => x + y) 300 := (y_X7_make0_14 10).trans rfl
theorem n_X7_make0_300 : nth t_X7_make0 300 = aK (.int 132) 303 := (y_X7_make0_14 11).trans rfl
theorem n_X7_make0_303 : nth t_X7_make0 303 = aLdI 5 305 := (y_X7_make0_14 14).trans rfl
theorem n_X7_make0_305 : nth t_X7_make0 305 = aB (fun x y => x + y) 306 := (y_X7_make0_14 16).trans rfl
theorem n_X7_make0_306 : nth t_X7_make0 306 = aCalV 225 2 309 [6] none := (y_X7_make0_14 17).trans rfl
theorem n_X7_make0_309 : nth t_X7_make0 309 = aInc 5 1 312 := (y_X7_make0_14 20).trans rfl
theorem n_X7_make0_312 : nth t_X7_make0 312 = aInc 7 (-1) 315 := (y_X7_make0_14 23).trans rfl
theorem y_X7_make0_15 (n : Nat) : nth t_X7_make0 (n + 315) = nth t_X7_make0_c15 n := (y_X7_make0_14 (n + 26)).trans rfl
theorem n_X7_make0_315 : nth t_X7_make0 315 = aGoto 251 := (y_X7_make0_15 0).trans rfl
theorem n_X7_make0_318 : nth t_X7_make0 318 = aLdA 0 319 := (y_X7_make0_15 3).trans rfl
theorem n_X7_make0_319 : nth t_X7_make0 319 = aK (.int 65) 321 := (y_X7_make0_15 4).trans rfl
theorem n_X7_make0_321 : nth t_X7_make0 321 = aLdA 0 322 := (y_X7_make0_15 6).trans rfl
theorem n_X7_make0_322 : nth t_X7_make0 322 = aGetR 69 [6] 325 := (y_X7_make0_15 7).trans rfl
theorem n_X7_make0_325 : nth t_X7_make0 325 = aLdI 6 327 := (y_X7_make0_15 10).trans rfl
theorem n_X7_make0_327 : nth t_X7_make0 327 = aAldI 328 := (y_X7_make0_15 12).trans rfl
theorem n_X7_make0_328 : nth t_X7_make0 328 = aB (fun x y => x + y) 329 := (y_X7_make0_15 13).trans rfl
theorem n_X7_make0_329 : nth t_X7_make0 329 = aK (.int 1) 330 := (y_X7_make0_15 14).trans rfl
theorem n_X7_make0_330 : nth t_X7_make0 330 = aB (fun x y => x - y) 331 := (y_X7_make0_15 15).trans rfl
theorem n_X7_make0_331 : nth t_X7_make0 331 = aK (.int 128) 334 := (y_X7_make0_15 16).trans rfl
theorem n_X7_make0_334 : nth t_X7_make0 334 = aLdI 4 336 := (y_X7_make0_15 19).trans rfl
theorem y_X7_make0_16 (n : Nat) : nth t_X7_make0 (n + 336) = nth t_X7_make0_c16 n := (y_X7_make0_15 (n + 21)).trans rfl
theorem n_X7_make0_336 : nth t_X7_make0 336 = aB (fun x y => x + y) 337 := (y_X7_make0_16 0).trans rfl
theorem n_X7_make0_337 : nth t_X7_make0 337 = aCalV 225 2 340 [6] none := (y_X7_make0_16 1).trans rfl
theorem n_X7_make0_340 : nth t_X7_make0 340 = aInc 4 1 343 := (y_X7_make0_16 4).trans rfl
theorem n_X7_make0_343 : nth t_X7_make0 343 = aInc 6 1 346 := (y_X7_make0_16 7).trans rfl
theorem n_X7_make0_346 : nth t_X7_make0 346 = aGoto 217 := (y_X7_make0_16 10).trans rfl
theorem n_X7_make0_349 : nth t_X7_make0 349 = aLdA 0 350 := (y_X7_make0_16 13).trans rfl
theorem n_X7_make0_350 : nth t_X7_make0 350 = aGetI 81 [6] 353 := (y_X7_make0_16 14).trans rfl
theorem n_X7_make0_353 : nth t_X7_make0 353 = aIfEq 356 369 := (y_X7_make0_16 17).trans rfl
theorem n_X7_make0_356 : nth t_X7_make0 356 = aLdA 0 357 := (y_X7_make0_16 20).trans rfl
theorem n_X7_make0_357 : nth t_X7_make0 357 = aGetI 79 [6] 360 := (y_X7_make0_16 21).trans rfl
theorem n_X7_make0_360 : nth t_X7_make0 360 = aK (.int 60) 362 := (y_X7_make0_16 24).trans rfl
theorem n_X7_make0_362 : nth t_X7_make0 362 = aIcLe 365 369 := (y_X7_make0_16 26).trans rfl
theorem y_X7_make0_17 (n : Nat) : nth t_X7_make0 (n + 365) = nth t_X7_make0_c17 n := (y_X7_make0_16 (n + 29)).trans rfl
theorem n_X7_make0_365 : nth t_X7_make0 365 = aK (.int 1) 366 := (y_X7_make0_17 0).trans rfl
theorem n_X7_make0_366 : nth t_X7_make0 366 = aGoto 370 := (y_X7_make0_17 1).trans rfl
theorem n_X7_make0_369 : nth t_X7_make0 369 = aK (.int 0) 370 := (y_X7_make0_17 4).trans rfl
theorem n_X7_make0_370 : nth t_X7_make0 370 = aRetZ := (y_X7_make0_17 5).trans rfl
theorem n_X7_lay_0 : nth t_X7_lay 0 = aLdA 0 1 := rfl
theorem n_X7_lay_1 : nth t_X7_lay 1 = aGetR 72 [6] 4 := rfl
theorem n_X7_lay_4 : nth t_X7_lay 4 = aLdA 0 5 := rfl
theorem n_X7_lay_5 : nth t_X7_lay 5 = aGetI 79 [6] 8 := rfl
theorem n_X7_lay_8 : nth t_X7_lay 8 = aLdI 1 9 := rfl
theorem n_X7_lay_9 : nth t_X7_lay 9 = aAstI 10 := rfl
theorem n_X7_lay_10 : nth t_X7_lay 10 = aLdA 0 11 := rfl
theorem n_X7_lay_11 : nth t_X7_lay 11 = aGetR 73 [6] 14 := rfl
theorem n_X7_lay_14 : nth t_X7_lay 14 = aLdA 0 15 := rfl
theorem n_X7_lay_15 : nth t_X7_lay 15 = aGetI 79 [6] 18 := rfl
theorem n_X7_lay_18 : nth t_X7_lay 18 = aLdI 2 19 := rfl
theorem n_X7_lay_19 : nth t_X7_lay 19 = aAstI 20 := rfl
theorem y_X7_lay_1 (n : Nat) : nth t_X7_lay (n + 20) = nth t_X7_lay_c1 n := rfl
theorem n_X7_lay_20 : nth t_X7_lay 20 = aLdA 0 21 := (y_X7_lay_1 0).trans rfl
theorem n_X7_lay_21 : nth t_X7_lay 21 = aDup 22 := (y_X7_lay_1 1).trans rfl
theorem n_X7_lay_22 : nth t_X7_lay 22 = aGetI 79 [6] 25 := (y_X7_lay_1 2).trans rfl
theorem n_X7_lay_25 : nth t_X7_lay 25 = aK (.int 1) 26 := (y_X7_lay_1 5).trans rfl
theorem n_X7_lay_26 : nth t_X7_lay 26 = aB (fun x y => x + y) 27 := (y_X7_lay_1 6).trans rfl
theorem n_X7_lay_27 : nth t_X7_lay 27 = aPutI 79 [6] 30 := (y_X7_lay_1 7).trans rfl
theorem n_X7_lay_30 : nth t_X7_lay 30 = aRetV := (y_X7_lay_1 10).trans rfl
theorem n_X7_addends_0 : nth t_X7_addends 0 = aLdA 0 1 := rfl
theorem n_X7_addends_1 : nth t_X7_addends 1 = aGetR 67 [6] 4 := rfl
theorem n_X7_addends_4 : nth t_X7_addends 4 = aLdI 1 5 := rfl
theorem n_X7_addends_5 : nth t_X7_addends 5 = aAldI 6 := rfl
theorem n_X7_addends_6 : nth t_X7_addends 6 = aStI 3 7 := rfl
theorem n_X7_addends_7 : nth t_X7_addends 7 = aLdI 3 8 := rfl
theorem n_X7_addends_8 : nth t_X7_addends 8 = aIfLt 11 24 := rfl
theorem n_X7_addends_11 : nth t_X7_addends 11 = aLdA 0 12 := rfl
theorem n_X7_addends_12 : nth t_X7_addends 12 = aK (.int 60) 14 := rfl
theorem n_X7_addends_14 : nth t_X7_addends 14 = aK (.int 96) 16 := rfl
theorem n_X7_addends_16 : nth t_X7_addends 16 = aK (.int 6) 18 := rfl
theorem n_X7_addends_18 : nth t_X7_addends 18 = aLdI 2 19 := rfl
theorem y_X7_addends_1 (n : Nat) : nth t_X7_addends (n + 19) = nth t_X7_addends_c1 n := rfl
theorem n_X7_addends_19 : nth t_X7_addends 19 = aB (fun x y => x * y) 20 := (y_X7_addends_1 0).trans rfl
theorem n_X7_addends_20 : nth t_X7_addends 20 = aB (fun x y => x + y) 21 := (y_X7_addends_1 1).trans rfl
theorem n_X7_addends_21 : nth t_X7_addends 21 = aCalV 225 2 24 [6] none := (y_X7_addends_1 2).trans rfl
theorem n_X7_addends_24 : nth t_X7_addends 24 = aK (.int 0) 25 := (y_X7_addends_1 5).trans rfl
theorem n_X7_addends_25 : nth t_X7_addends 25 = aStI 4 27 := (y_X7_addends_1 6).trans rfl
theorem n_X7_addends_27 : nth t_X7_addends 27 = aLdI 3 28 := (y_X7_addends_1 8).trans rfl
theorem n_X7_addends_28 : nth t_X7_addends 28 = aIfLt 82 31 := (y_X7_addends_1 9).trans rfl
theorem n_X7_addends_31 : nth t_X7_addends 31 = aLdI 4 33 := (y_X7_addends_1 12).trans rfl
theorem n_X7_addends_33 : nth t_X7_addends 33 = aLdA 0 34 := (y_X7_addends_1 14).trans rfl
theorem n_X7_addends_34 : nth t_X7_addends 34 = aGetR 64 [6] 37 := (y_X7_addends_1 15).trans rfl
theorem n_X7_addends_37 : nth t_X7_addends 37 = aLdI 3 38 := (y_X7_addends_1 18).trans rfl
theorem n_X7_addends_38 : nth t_X7_addends 38 = aAldI 39 := (y_X7_addends_1 19).trans rfl
theorem y_X7_addends_2 (n : Nat) : nth t_X7_addends (n + 39) = nth t_X7_addends_c2 n := (y_X7_addends_1 (n + 20)).trans rfl
theorem n_X7_addends_39 : nth t_X7_addends 39 = aLdA 0 40 := (y_X7_addends_2 0).trans rfl
theorem n_X7_addends_40 : nth t_X7_addends 40 = aGetR 63 [6] 43 := (y_X7_addends_2 1).trans rfl
theorem n_X7_addends_43 : nth t_X7_addends 43 = aLdI 3 44 := (y_X7_addends_2 4).trans rfl
theorem n_X7_addends_44 : nth t_X7_addends 44 = aAldI 45 := (y_X7_addends_2 5).trans rfl
theorem n_X7_addends_45 : nth t_X7_addends 45 = aB (fun x y => x - y) 46 := (y_X7_addends_2 6).trans rfl
theorem n_X7_addends_46 : nth t_X7_addends 46 = aIcLe 49 82 := (y_X7_addends_2 7).trans rfl
theorem n_X7_addends_49 : nth t_X7_addends 49 = aLdA 0 50 := (y_X7_addends_2 10).trans rfl
theorem n_X7_addends_50 : nth t_X7_addends 50 = aK (.int 0) 51 := (y_X7_addends_2 11).trans rfl
theorem n_X7_addends_51 : nth t_X7_addends 51 = aLdA 0 52 := (y_X7_addends_2 12).trans rfl
theorem n_X7_addends_52 : nth t_X7_addends 52 = aGetR 64 [6] 55 := (y_X7_addends_2 13).trans rfl
theorem n_X7_addends_55 : nth t_X7_addends 55 = aLdI 3 56 := (y_X7_addends_2 16).trans rfl
theorem n_X7_addends_56 : nth t_X7_addends 56 = aAldI 57 := (y_X7_addends_2 17).trans rfl
theorem y_X7_addends_3 (n : Nat) : nth t_X7_addends (n + 57) = nth t_X7_addends_c3 n := (y_X7_addends_2 (n + 18)).trans rfl
theorem n_X7_addends_57 : nth t_X7_addends 57 = aB (fun x y => x + y) 58 := (y_X7_addends_3 0).trans rfl
theorem n_X7_addends_58 : nth t_X7_addends 58 = aLdI 4 60 := (y_X7_addends_3 1).trans rfl
theorem n_X7_addends_60 : nth t_X7_addends 60 = aB (fun x y => x - y) 61 := (y_X7_addends_3 3).trans rfl
theorem n_X7_addends_61 : nth t_X7_addends 61 = aK (.int 1) 62 := (y_X7_addends_3 4).trans rfl
theorem n_X7_addends_62 : nth t_X7_addends 62 = aB (fun x y => x - y) 63 := (y_X7_addends_3 5).trans rfl
theorem n_X7_addends_63 : nth t_X7_addends 63 = aK (.int 96) 65 := (y_X7_addends_3 6).trans rfl
theorem n_X7_addends_65 : nth t_X7_addends 65 = aK (.int 6) 67 := (y_X7_addends_3 8).trans rfl
theorem n_X7_addends_67 : nth t_X7_addends 67 = aLdI 2 68 := (y_X7_addends_3 10).trans rfl
theorem n_X7_addends_68 : nth t_X7_addends 68 = aB (fun x y => x * y) 69 := (y_X7_addends_3 11).trans rfl
theorem n_X7_addends_69 : nth t_X7_addends 69 = aB (fun x y => x + y) 70 := (y_X7_addends_3 12).trans rfl
theorem n_X7_addends_70 : nth t_X7_addends 70 = aLdI 4 72 := (y_X7_addends_3 13).trans rfl
theorem n_X7_addends_72 : nth t_X7_addends 72 = aB (fun x y => x + y) 73 := (y_X7_addends_3 15).trans rfl
theorem y_X7_addends_4 (n : Nat) : nth t_X7_addends (n + 73) = nth t_X7_addends_c4 n := (y_X7_addends_3 (n + 16)).trans rfl
theorem n_X7_addends_73 : nth t_X7_addends 73 = aCalV 225 2 76 [6] none := (y_X7_addends_4 0).trans rfl
theorem n_X7_addends_76 : nth t_X7_addends 76 = aInc 4 1 79 := (y_X7_addends_4 3).trans rfl
theorem n_X7_addends_79 : nth t_X7_addends 79 = aGoto 27 := (y_X7_addends_4 6).trans rfl
theorem n_X7_addends_82 : nth t_X7_addends 82 = aLdA 0 83 := (y_X7_addends_4 9).trans rfl
theorem n_X7_addends_83 : nth t_X7_addends 83 = aGetR 70 [6] 86 := (y_X7_addends_4 10).trans rfl
theorem n_X7_addends_86 : nth t_X7_addends 86 = aLdI 1 87 := (y_X7_addends_4 13).trans rfl
theorem n_X7_addends_87 : nth t_X7_addends 87 = aAldI 88 := (y_X7_addends_4 14).trans rfl
theorem n_X7_addends_88 : nth t_X7_addends 88 = aIfEq 91 102 := (y_X7_addends_4 15).trans rfl
theorem n_X7_addends_91 : nth t_X7_addends 91 = aLdA 0 92 := (y_X7_addends_4 18).trans rfl
theorem n_X7_addends_92 : nth t_X7_addends 92 = aK (.int 60) 94 := (y_X7_addends_4 19).trans rfl
theorem n_X7_addends_94 : nth t_X7_addends 94 = aK (.int 120) 96 := (y_X7_addends_4 21).trans rfl
theorem n_X7_addends_96 : nth t_X7_addends 96 = aLdI 2 97 := (y_X7_addends_4 23).trans rfl
theorem y_X7_addends_5 (n : Nat) : nth t_X7_addends (n + 97) = nth t_X7_addends_c5 n := (y_X7_addends_4 (n + 24)).trans rfl
theorem n_X7_addends_97 : nth t_X7_addends 97 = aB (fun x y => x + y) 98 := (y_X7_addends_5 0).trans rfl
theorem n_X7_addends_98 : nth t_X7_addends 98 = aCalV 225 2 101 [6] none := (y_X7_addends_5 1).trans rfl
theorem n_X7_addends_101 : nth t_X7_addends 101 = aRetV := (y_X7_addends_5 4).trans rfl
theorem n_X7_addends_102 : nth t_X7_addends 102 = aLdA 0 103 := (y_X7_addends_5 5).trans rfl
theorem n_X7_addends_103 : nth t_X7_addends 103 = aLdA 0 104 := (y_X7_addends_5 6).trans rfl
theorem n_X7_addends_104 : nth t_X7_addends 104 = aGetR 70 [6] 107 := (y_X7_addends_5 7).trans rfl
theorem n_X7_addends_107 : nth t_X7_addends 107 = aLdI 1 108 := (y_X7_addends_5 10).trans rfl
theorem n_X7_addends_108 : nth t_X7_addends 108 = aAldI 109 := (y_X7_addends_5 11).trans rfl
theorem n_X7_addends_109 : nth t_X7_addends 109 = aCalV 227 1 112 [6] none := (y_X7_addends_5 12).trans rfl
theorem n_X7_addends_112 : nth t_X7_addends 112 = aStI 4 114 := (y_X7_addends_5 15).trans rfl
theorem n_X7_addends_114 : nth t_X7_addends 114 = aLdA 0 115 := (y_X7_addends_5 17).trans rfl
theorem n_X7_addends_115 : nth t_X7_addends 115 = aK (.int 60) 117 := (y_X7_addends_5 18).trans rfl
theorem y_X7_addends_6 (n : Nat) : nth t_X7_addends (n + 117) = nth t_X7_addends_c6 n := (y_X7_addends_5 (n + 20)).trans rfl
theorem n_X7_addends_117 : nth t_X7_addends 117 = aK (.int 181) 120 := (y_X7_addends_6 0).trans rfl
theorem n_X7_addends_120 : nth t_X7_addends 120 = aLdI 4 122 := (y_X7_addends_6 3).trans rfl
theorem n_X7_addends_122 : nth t_X7_addends 122 = aB (fun x y => x + y) 123 := (y_X7_addends_6 5).trans rfl
theorem n_X7_addends_123 : nth t_X7_addends 123 = aCalV 225 2 126 [6] none := (y_X7_addends_6 6).trans rfl
theorem n_X7_addends_126 : nth t_X7_addends 126 = aLdA 0 127 := (y_X7_addends_6 9).trans rfl
theorem n_X7_addends_127 : nth t_X7_addends 127 = aK (.int 193) 130 := (y_X7_addends_6 10).trans rfl
theorem n_X7_addends_130 : nth t_X7_addends 130 = aLdI 4 132 := (y_X7_addends_6 13).trans rfl
theorem n_X7_addends_132 : nth t_X7_addends 132 = aB (fun x y => x + y) 133 := (y_X7_addends_6 15).trans rfl
theorem n_X7_addends_133 : nth t_X7_addends 133 = aK (.int 120) 135 := (y_X7_addends_6 16).trans rfl
theorem n_X7_addends_135 : nth t_X7_addends 135 = aLdI 2 136 := (y_X7_addends_6 18).trans rfl
theorem n_X7_addends_136 : nth t_X7_addends 136 = aB (fun x y => x + y) 137 := (y_X7_addends_6 19).trans rfl
theorem n_X7_addends_137 : nth t_X7_addends 137 = aCalV 225 2 140 [6] none := (y_X7_addends_6 20).trans rfl
theorem y_X7_addends_7 (n : Nat) : nth t_X7_addends (n + 140) = nth t_X7_addends_c7 n := (y_X7_addends_6 (n + 23)).trans rfl
theorem n_X7_addends_140 : nth t_X7_addends 140 = aLdA 0 141 := (y_X7_addends_7 0).trans rfl
theorem n_X7_addends_141 : nth t_X7_addends 141 = aK (.int 205) 144 := (y_X7_addends_7 1).trans rfl
theorem n_X7_addends_144 : nth t_X7_addends 144 = aLdI 4 146 := (y_X7_addends_7 4).trans rfl
theorem n_X7_addends_146 : nth t_X7_addends 146 = aB (fun x y => x + y) 147 := (y_X7_addends_7 6).trans rfl
theorem n_X7_addends_147 : nth t_X7_addends 147 = aK (.int 124) 149 := (y_X7_addends_7 7).trans rfl
theorem n_X7_addends_149 : nth t_X7_addends 149 = aLdI 2 150 := (y_X7_addends_7 9).trans rfl
theorem n_X7_addends_150 : nth t_X7_addends 150 = aB (fun x y => x + y) 151 := (y_X7_addends_7 10).trans rfl
theorem n_X7_addends_151 : nth t_X7_addends 151 = aCalV 225 2 154 [6] none := (y_X7_addends_7 11).trans rfl
theorem n_X7_addends_154 : nth t_X7_addends 154 = aRetV := (y_X7_addends_7 14).trans rfl
theorem n_X7_point_0 : nth t_X7_point 0 = aK (.int 0) 1 := rfl
theorem n_X7_point_1 : nth t_X7_point 1 = aStI 2 2 := rfl
theorem n_X7_point_2 : nth t_X7_point 2 = aLdI 2 3 := rfl
theorem n_X7_point_3 : nth t_X7_point 3 = aLdA 0 4 := rfl
theorem n_X7_point_4 : nth t_X7_point 4 = aGetI 80 [6] 7 := rfl
theorem n_X7_point_7 : nth t_X7_point 7 = aIcLt 10 36 := rfl
theorem n_X7_point_10 : nth t_X7_point 10 = aLdA 0 11 := rfl
theorem n_X7_point_11 : nth t_X7_point 11 = aGetR 74 [6] 14 := rfl
theorem n_X7_point_14 : nth t_X7_point 14 = aLdI 2 15 := rfl
theorem n_X7_point_15 : nth t_X7_point 15 = aAldI 16 := rfl
theorem n_X7_point_16 : nth t_X7_point 16 = aLdI 1 17 := rfl
theorem n_X7_point_17 : nth t_X7_point 17 = aIcEq 20 30 := rfl
theorem y_X7_point_1 (n : Nat) : nth t_X7_point (n + 20) = nth t_X7_point_c1 n := rfl
theorem n_X7_point_20 : nth t_X7_point 20 = aLdA 0 21 := (y_X7_point_1 0).trans rfl
theorem n_X7_point_21 : nth t_X7_point 21 = aGetR 75 [6] 24 := (y_X7_point_1 1).trans rfl
theorem n_X7_point_24 : nth t_X7_point 24 = aLdI 2 25 := (y_X7_point_1 4).trans rfl
theorem n_X7_point_25 : nth t_X7_point 25 = aAldI 26 := (y_X7_point_1 5).trans rfl
theorem n_X7_point_26 : nth t_X7_point 26 = aK (.int 3) 27 := (y_X7_point_1 6).trans rfl
theorem n_X7_point_27 : nth t_X7_point 27 = aIcEq 30 36 := (y_X7_point_1 7).trans rfl
theorem n_X7_point_30 : nth t_X7_point 30 = aInc 2 1 33 := (y_X7_point_1 10).trans rfl
theorem n_X7_point_33 : nth t_X7_point 33 = aGoto 2 := (y_X7_point_1 13).trans rfl
theorem n_X7_point_36 : nth t_X7_point 36 = aLdI 2 37 := (y_X7_point_1 16).trans rfl
theorem n_X7_point_37 : nth t_X7_point 37 = aK (.int 4) 38 := (y_X7_point_1 17).trans rfl
theorem n_X7_point_38 : nth t_X7_point 38 = aIcEq 41 48 := (y_X7_point_1 18).trans rfl
theorem n_X7_point_41 : nth t_X7_point 41 = aLdA 0 42 := (y_X7_point_1 21).trans rfl
theorem y_X7_point_2 (n : Nat) : nth t_X7_point (n + 42) = nth t_X7_point_c2 n := (y_X7_point_1 (n + 22)).trans rfl
theorem n_X7_point_42 : nth t_X7_point 42 = aK (.int 1) 43 := (y_X7_point_2 0).trans rfl
theorem n_X7_point_43 : nth t_X7_point 43 = aPutZ 81 [6] 46 := (y_X7_point_2 1).trans rfl
theorem n_X7_point_46 : nth t_X7_point 46 = aK (.int 0) 47 := (y_X7_point_2 4).trans rfl
theorem n_X7_point_47 : nth t_X7_point 47 = aRetI := (y_X7_point_2 5).trans rfl
theorem n_X7_point_48 : nth t_X7_point 48 = aLdI 2 49 := (y_X7_point_2 6).trans rfl
theorem n_X7_point_49 : nth t_X7_point 49 = aLdA 0 50 := (y_X7_point_2 7).trans rfl
theorem n_X7_point_50 : nth t_X7_point 50 = aGetI 80 [6] 53 := (y_X7_point_2 8).trans rfl
theorem n_X7_point_53 : nth t_X7_point 53 = aIcEq 56 113 := (y_X7_point_2 11).trans rfl
theorem n_X7_point_56 : nth t_X7_point 56 = aLdA 0 57 := (y_X7_point_2 14).trans rfl
theorem n_X7_point_57 : nth t_X7_point 57 = aGetR 74 [6] 60 := (y_X7_point_2 15).trans rfl
theorem n_X7_point_60 : nth t_X7_point 60 = aLdI 2 61 := (y_X7_point_2 18).trans rfl
theorem n_X7_point_61 : nth t_X7_point 61 = aLdI 1 62 := (y_X7_point_2 19).trans rfl
theorem y_X7_point_3 (n : Nat) : nth t_X7_point (n + 62) = nth t_X7_point_c3 n := (y_X7_point_2 (n + 20)).trans rfl
theorem n_X7_point_62 : nth t_X7_point 62 = aAstI 63 := (y_X7_point_3 0).trans rfl
theorem n_X7_point_63 : nth t_X7_point 63 = aLdA 0 64 := (y_X7_point_3 1).trans rfl
theorem n_X7_point_64 : nth t_X7_point 64 = aGetR 75 [6] 67 := (y_X7_point_3 2).trans rfl
theorem n_X7_point_67 : nth t_X7_point 67 = aLdI 2 68 := (y_X7_point_3 5).trans rfl
theorem n_X7_point_68 : nth t_X7_point 68 = aK (.int 0) 69 := (y_X7_point_3 6).trans rfl
theorem n_X7_point_69 : nth t_X7_point 69 = aAstI 70 := (y_X7_point_3 7).trans rfl
theorem n_X7_point_70 : nth t_X7_point 70 = aLdA 0 71 := (y_X7_point_3 8).trans rfl
theorem n_X7_point_71 : nth t_X7_point 71 = aDup 72 := (y_X7_point_3 9).trans rfl
theorem n_X7_point_72 : nth t_X7_point 72 = aGetI 80 [6] 75 := (y_X7_point_3 10).trans rfl
theorem n_X7_point_75 : nth t_X7_point 75 = aK (.int 1) 76 := (y_X7_point_3 13).trans rfl
theorem n_X7_point_76 : nth t_X7_point 76 = aB (fun x y => x + y) 77 := (y_X7_point_3 14).trans rfl
theorem n_X7_point_77 : nth t_X7_point 77 = aPutI 80 [6] 80 := (y_X7_point_3 15).trans rfl
theorem y_X7_point_4 (n : Nat) : nth t_X7_point (n + 80) = nth t_X7_point_c4 n := (y_X7_point_3 (n + 18)).trans rfl
theorem n_X7_point_80 : nth t_X7_point 80 = aLdA 0 81 := (y_X7_point_4 0).trans rfl
theorem n_X7_point_81 : nth t_X7_point 81 = aLdI 1 82 := (y_X7_point_4 1).trans rfl
theorem n_X7_point_82 : nth t_X7_point 82 = aK (.int 20) 84 := (y_X7_point_4 2).trans rfl
theorem n_X7_point_84 : nth t_X7_point 84 = aIcLe 99 87 := (y_X7_point_4 4).trans rfl
theorem n_X7_point_87 : nth t_X7_point 87 = aK (.int 65) 89 := (y_X7_point_4 7).trans rfl
theorem n_X7_point_89 : nth t_X7_point 89 = aLdI 1 90 := (y_X7_point_4 9).trans rfl
theorem n_X7_point_90 : nth t_X7_point 90 = aB (fun x y => x + y) 91 := (y_X7_point_4 10).trans rfl
theorem n_X7_point_91 : nth t_X7_point 91 = aK (.int 20) 93 := (y_X7_point_4 11).trans rfl
theorem n_X7_point_93 : nth t_X7_point 93 = aB (fun x y => x - y) 94 := (y_X7_point_4 13).trans rfl
theorem n_X7_point_94 : nth t_X7_point 94 = aK (.int 1) 95 := (y_X7_point_4 14).trans rfl
theorem n_X7_point_95 : nth t_X7_point 95 = aB (fun x y => x - y) 96 := (y_X7_point_4 15).trans rfl
theorem n_X7_point_96 : nth t_X7_point 96 = aGoto 105 := (y_X7_point_4 16).trans rfl
theorem y_X7_point_5 (n : Nat) : nth t_X7_point (n + 99) = nth t_X7_point_c5 n := (y_X7_point_4 (n + 19)).trans rfl
theorem n_X7_point_99 : nth t_X7_point 99 = aK (.int 40) 101 := (y_X7_point_5 0).trans rfl
theorem n_X7_point_101 : nth t_X7_point 101 = aLdI 1 102 := (y_X7_point_5 2).trans rfl
theorem n_X7_point_102 : nth t_X7_point 102 = aB (fun x y => x + y) 103 := (y_X7_point_5 3).trans rfl
theorem n_X7_point_103 : nth t_X7_point 103 = aK (.int 1) 104 := (y_X7_point_5 4).trans rfl
theorem n_X7_point_104 : nth t_X7_point 104 = aB (fun x y => x - y) 105 := (y_X7_point_5 5).trans rfl
theorem n_X7_point_105 : nth t_X7_point 105 = aK (.int 144) 108 := (y_X7_point_5 6).trans rfl
theorem n_X7_point_108 : nth t_X7_point 108 = aLdI 2 109 := (y_X7_point_5 9).trans rfl
theorem n_X7_point_109 : nth t_X7_point 109 = aB (fun x y => x + y) 110 := (y_X7_point_5 10).trans rfl
theorem n_X7_point_110 : nth t_X7_point 110 = aCalV 225 2 113 [6] none := (y_X7_point_5 11).trans rfl
theorem n_X7_point_113 : nth t_X7_point 113 = aLdA 0 114 := (y_X7_point_5 14).trans rfl
theorem n_X7_point_114 : nth t_X7_point 114 = aGetR 75 [6] 117 := (y_X7_point_5 15).trans rfl
theorem n_X7_point_117 : nth t_X7_point 117 = aLdI 2 118 := (y_X7_point_5 18).trans rfl
theorem y_X7_point_6 (n : Nat) : nth t_X7_point (n + 118) = nth t_X7_point_c6 n := (y_X7_point_5 (n + 19)).trans rfl
theorem n_X7_point_118 : nth t_X7_point 118 = aDup2 119 := (y_X7_point_6 0).trans rfl
theorem n_X7_point_119 : nth t_X7_point 119 = aAldI 120 := (y_X7_point_6 1).trans rfl
theorem n_X7_point_120 : nth t_X7_point 120 = aK (.int 1) 121 := (y_X7_point_6 2).trans rfl
theorem n_X7_point_121 : nth t_X7_point 121 = aB (fun x y => x + y) 122 := (y_X7_point_6 3).trans rfl
theorem n_X7_point_122 : nth t_X7_point 122 = aAstI 123 := (y_X7_point_6 4).trans rfl
theorem n_X7_point_123 : nth t_X7_point 123 = aK (.int 3) 124 := (y_X7_point_6 5).trans rfl
theorem n_X7_point_124 : nth t_X7_point 124 = aLdI 2 125 := (y_X7_point_6 6).trans rfl
theorem n_X7_point_125 : nth t_X7_point 125 = aB (fun x y => x * y) 126 := (y_X7_point_6 7).trans rfl
theorem n_X7_point_126 : nth t_X7_point 126 = aLdA 0 127 := (y_X7_point_6 8).trans rfl
theorem n_X7_point_127 : nth t_X7_point 127 = aGetR 75 [6] 130 := (y_X7_point_6 9).trans rfl
theorem n_X7_point_130 : nth t_X7_point 130 = aLdI 2 131 := (y_X7_point_6 12).trans rfl
theorem n_X7_point_131 : nth t_X7_point 131 = aAldI 132 := (y_X7_point_6 13).trans rfl
theorem y_X7_point_7 (n : Nat) : nth t_X7_point (n + 132) = nth t_X7_point_c7 n := (y_X7_point_6 (n + 14)).trans rfl
theorem n_X7_point_132 : nth t_X7_point 132 = aB (fun x y => x + y) 133 := (y_X7_point_7 0).trans rfl
theorem n_X7_point_133 : nth t_X7_point 133 = aK (.int 1) 134 := (y_X7_point_7 1).trans rfl
theorem n_X7_point_134 : nth t_X7_point 134 = aB (fun x y => x - y) 135 := (y_X7_point_7 2).trans rfl
theorem n_X7_point_135 : nth t_X7_point 135 = aRetI := (y_X7_point_7 3).trans rfl
theorem n_X7_wants_0 : nth t_X7_wants 0 = aLdA 0 1 := rfl
theorem n_X7_wants_1 : nth t_X7_wants 1 = aK (.int 0) 2 := rfl
theorem n_X7_wants_2 : nth t_X7_wants 2 = aPutI 0 [6] 5 := rfl
theorem n_X7_wants_5 : nth t_X7_wants 5 = aLdA 0 6 := rfl
theorem n_X7_wants_6 : nth t_X7_wants 6 = aLdI 1 7 := rfl
theorem n_X7_wants_7 : nth t_X7_wants 7 = aCalV 229 1 10 [6] none := rfl
theorem n_X7_wants_10 : nth t_X7_wants 10 = aRetI := rfl
theorem n_X7_part_0 : nth t_X7_part 0 = aLdA 0 1 := rfl
theorem n_X7_part_1 : nth t_X7_part 1 = aCalV 223 0 4 [6] none := rfl
theorem n_X7_part_4 : nth t_X7_part 4 = aStI 2 5 := rfl
theorem n_X7_part_5 : nth t_X7_part 5 = aLdI 1 6 := rfl
theorem n_X7_part_6 : nth t_X7_part 6 = aK (.int 0) 7 := rfl
theorem n_X7_part_7 : nth t_X7_part 7 = aLdI 2 8 := rfl
theorem n_X7_part_8 : nth t_X7_part 8 = aK (.int 1) 9 := rfl
theorem n_X7_part_9 : nth t_X7_part 9 = aB (fun x y => x - y) 10 := rfl
theorem n_X7_part_10 : nth t_X7_part 10 = aCalS 154 3 13 none := rfl
theorem n_X7_part_13 : nth t_X7_part 13 = aIfEq 16 18 := rfl
theorem n_X7_part_16 : nth t_X7_part 16 = aK (.int (-1)) 17 := rfl
theorem n_X7_part_17 : nth t_X7_part 17 = aRetI := rfl
theorem y_X7_part_1 (n : Nat) : nth t_X7_part (n + 18) = nth t_X7_part_c1 n := rfl
theorem n_X7_part_18 : nth t_X7_part 18 = aK (.int 1) 19 := (y_X7_part_1 0).trans rfl
theorem n_X7_part_19 : nth t_X7_part 19 = aLdA 0 20 := (y_X7_part_1 1).trans rfl
theorem n_X7_part_20 : nth t_X7_part 20 = aGetR 66 [6] 23 := (y_X7_part_1 2).trans rfl
theorem n_X7_part_23 : nth t_X7_part 23 = aK (.int 0) 24 := (y_X7_part_1 5).trans rfl
theorem n_X7_part_24 : nth t_X7_part 24 = aAldI 25 := (y_X7_part_1 6).trans rfl
theorem n_X7_part_25 : nth t_X7_part 25 = aB (fun x y => x <<< (y &&& 31)) 26 := (y_X7_part_1 7).trans rfl
theorem n_X7_part_26 : nth t_X7_part 26 = aK (.int 1) 27 := (y_X7_part_1 8).trans rfl
theorem n_X7_part_27 : nth t_X7_part 27 = aB (fun x y => x - y) 28 := (y_X7_part_1 9).trans rfl
theorem n_X7_part_28 : nth t_X7_part 28 = aStI 3 29 := (y_X7_part_1 10).trans rfl
theorem n_X7_part_29 : nth t_X7_part 29 = aK (.int 0) 30 := (y_X7_part_1 11).trans rfl
theorem n_X7_part_30 : nth t_X7_part 30 = aStI 4 32 := (y_X7_part_1 12).trans rfl
theorem n_X7_part_32 : nth t_X7_part 32 = aLdI 4 34 := (y_X7_part_1 14).trans rfl
theorem y_X7_part_2 (n : Nat) : nth t_X7_part (n + 34) = nth t_X7_part_c2 n := (y_X7_part_1 (n + 16)).trans rfl
theorem n_X7_part_34 : nth t_X7_part 34 = aLdI 1 35 := (y_X7_part_2 0).trans rfl
theorem n_X7_part_35 : nth t_X7_part 35 = aIcLt 38 55 := (y_X7_part_2 1).trans rfl
theorem n_X7_part_38 : nth t_X7_part 38 = aLdI 3 39 := (y_X7_part_2 4).trans rfl
theorem n_X7_part_39 : nth t_X7_part 39 = aLdA 0 40 := (y_X7_part_2 5).trans rfl
theorem n_X7_part_40 : nth t_X7_part 40 = aGetR 77 [6] 43 := (y_X7_part_2 6).trans rfl
theorem n_X7_part_43 : nth t_X7_part 43 = aLdI 3 44 := (y_X7_part_2 9).trans rfl
theorem n_X7_part_44 : nth t_X7_part 44 = aAldI 45 := (y_X7_part_2 10).trans rfl
theorem n_X7_part_45 : nth t_X7_part 45 = aK (.int (-1)) 46 := (y_X7_part_2 11).trans rfl
theorem n_X7_part_46 : nth t_X7_part 46 = aB (fun x y => x ^^^ y) 47 := (y_X7_part_2 12).trans rfl
theorem n_X7_part_47 : nth t_X7_part 47 = aB (fun x y => x &&& y) 48 := (y_X7_part_2 13).trans rfl
theorem n_X7_part_48 : nth t_X7_part 48 = aStI 3 49 := (y_X7_part_2 14).trans rfl
theorem n_X7_part_49 : nth t_X7_part 49 = aInc 4 1 52 := (y_X7_part_2 15).trans rfl
theorem y_X7_part_3 (n : Nat) : nth t_X7_part (n + 52) = nth t_X7_part_c3 n := (y_X7_part_2 (n + 18)).trans rfl
theorem n_X7_part_52 : nth t_X7_part 52 = aGoto 32 := (y_X7_part_3 0).trans rfl
theorem n_X7_part_55 : nth t_X7_part 55 = aLdA 0 56 := (y_X7_part_3 3).trans rfl
theorem n_X7_part_56 : nth t_X7_part 56 = aGetR 77 [6] 59 := (y_X7_part_3 4).trans rfl
theorem n_X7_part_59 : nth t_X7_part 59 = aLdI 3 60 := (y_X7_part_3 7).trans rfl
theorem n_X7_part_60 : nth t_X7_part 60 = aAldI 61 := (y_X7_part_3 8).trans rfl
theorem n_X7_part_61 : nth t_X7_part 61 = aRetI := (y_X7_part_3 9).trans rfl
theorem n_X7_make_0 : nth t_X7_make 0 = aLdA 0 1 := rfl
theorem n_X7_make_1 : nth t_X7_make 1 = aK (.int 0) 2 := rfl
theorem n_X7_make_2 : nth t_X7_make 2 = aPutI 0 [6] 5 := rfl
theorem n_X7_make_5 : nth t_X7_make 5 = aLdA 0 6 := rfl
theorem n_X7_make_6 : nth t_X7_make 6 = aLdI 1 7 := rfl
theorem n_X7_make_7 : nth t_X7_make 7 = aCalV 229 1 10 [6] none := rfl
theorem n_X7_make_10 : nth t_X7_make 10 = aStI 2 11 := rfl
theorem n_X7_make_11 : nth t_X7_make 11 = aLdI 2 12 := rfl
theorem n_X7_make_12 : nth t_X7_make 12 = aIfLt 15 17 := rfl
theorem n_X7_make_15 : nth t_X7_make 15 = aK (.int (-1)) 16 := rfl
theorem n_X7_make_16 : nth t_X7_make 16 = aRetI := rfl
theorem n_X7_make_17 : nth t_X7_make 17 = aLdA 0 18 := rfl
theorem y_X7_make_1 (n : Nat) : nth t_X7_make (n + 18) = nth t_X7_make_c1 n := rfl
theorem n_X7_make_18 : nth t_X7_make 18 = aLdI 2 19 := (y_X7_make_1 0).trans rfl
theorem n_X7_make_19 : nth t_X7_make 19 = aCalV 224 1 22 [6] none := (y_X7_make_1 1).trans rfl
theorem n_X7_make_22 : nth t_X7_make 22 = aPop 23 := (y_X7_make_1 4).trans rfl
theorem n_X7_make_23 : nth t_X7_make 23 = aLdA 0 24 := (y_X7_make_1 5).trans rfl
theorem n_X7_make_24 : nth t_X7_make 24 = aGetR 17 [6] 27 := (y_X7_make_1 6).trans rfl
theorem n_X7_make_27 : nth t_X7_make 27 = aK (.int 0) 28 := (y_X7_make_1 9).trans rfl
theorem n_X7_make_28 : nth t_X7_make 28 = aLdA 0 29 := (y_X7_make_1 10).trans rfl
theorem n_X7_make_29 : nth t_X7_make 29 = aGetI 79 [6] 32 := (y_X7_make_1 11).trans rfl
theorem n_X7_make_32 : nth t_X7_make 32 = aAstI 33 := (y_X7_make_1 14).trans rfl
theorem n_X7_make_33 : nth t_X7_make 33 = aK (.int 0) 34 := (y_X7_make_1 15).trans rfl
theorem n_X7_make_34 : nth t_X7_make 34 = aStI 3 35 := (y_X7_make_1 16).trans rfl
theorem n_X7_make_35 : nth t_X7_make 35 = aLdI 3 36 := (y_X7_make_1 17).trans rfl
theorem y_X7_make_2 (n : Nat) : nth t_X7_make (n + 36) = nth t_X7_make_c2 n := (y_X7_make_1 (n + 18)).trans rfl
theorem n_X7_make_36 : nth t_X7_make 36 = aLdA 0 37 := (y_X7_make_2 0).trans rfl
theorem n_X7_make_37 : nth t_X7_make 37 = aGetI 79 [6] 40 := (y_X7_make_2 1).trans rfl
theorem n_X7_make_40 : nth t_X7_make 40 = aIcLt 43 73 := (y_X7_make_2 4).trans rfl
theorem n_X7_make_43 : nth t_X7_make 43 = aLdA 0 44 := (y_X7_make_2 7).trans rfl
theorem n_X7_make_44 : nth t_X7_make 44 = aGetR 15 [6] 47 := (y_X7_make_2 8).trans rfl
theorem n_X7_make_47 : nth t_X7_make 47 = aLdI 3 48 := (y_X7_make_2 11).trans rfl
theorem n_X7_make_48 : nth t_X7_make 48 = aLdA 0 49 := (y_X7_make_2 12).trans rfl
theorem n_X7_make_49 : nth t_X7_make 49 = aGetR 72 [6] 52 := (y_X7_make_2 13).trans rfl
theorem n_X7_make_52 : nth t_X7_make 52 = aLdI 3 53 := (y_X7_make_2 16).trans rfl
theorem n_X7_make_53 : nth t_X7_make 53 = aAldI 54 := (y_X7_make_2 17).trans rfl
theorem n_X7_make_54 : nth t_X7_make 54 = aAstI 55 := (y_X7_make_2 18).trans rfl
theorem n_X7_make_55 : nth t_X7_make 55 = aLdA 0 56 := (y_X7_make_2 19).trans rfl
theorem y_X7_make_3 (n : Nat) : nth t_X7_make (n + 56) = nth t_X7_make_c3 n := (y_X7_make_2 (n + 20)).trans rfl
theorem n_X7_make_56 : nth t_X7_make 56 = aGetR 16 [6] 59 := (y_X7_make_3 0).trans rfl
theorem n_X7_make_59 : nth t_X7_make 59 = aLdI 3 60 := (y_X7_make_3 3).trans rfl
theorem n_X7_make_60 : nth t_X7_make 60 = aLdA 0 61 := (y_X7_make_3 4).trans rfl
theorem n_X7_make_61 : nth t_X7_make 61 = aGetR 73 [6] 64 := (y_X7_make_3 5).trans rfl
theorem n_X7_make_64 : nth t_X7_make 64 = aLdI 3 65 := (y_X7_make_3 8).trans rfl
theorem n_X7_make_65 : nth t_X7_make 65 = aAldI 66 := (y_X7_make_3 9).trans rfl
theorem n_X7_make_66 : nth t_X7_make 66 = aAstI 67 := (y_X7_make_3 10).trans rfl
theorem n_X7_make_67 : nth t_X7_make 67 = aInc 3 1 70 := (y_X7_make_3 11).trans rfl
theorem n_X7_make_70 : nth t_X7_make 70 = aGoto 35 := (y_X7_make_3 14).trans rfl
theorem n_X7_make_73 : nth t_X7_make 73 = aLdA 0 74 := (y_X7_make_3 17).trans rfl
theorem n_X7_make_74 : nth t_X7_make 74 = aGetI 79 [6] 77 := (y_X7_make_3 18).trans rfl
theorem n_X7_make_77 : nth t_X7_make 77 = aRetI := (y_X7_make_3 21).trans rfl
theorem n_X7_wanted_0 : nth t_X7_wanted 0 = aLdA 0 1 := rfl
theorem n_X7_wanted_1 : nth t_X7_wanted 1 = aK (.int 0) 2 := rfl
theorem n_X7_wanted_2 : nth t_X7_wanted 2 = aPutI 0 [6] 5 := rfl
theorem n_X7_wanted_5 : nth t_X7_wanted 5 = aLdA 0 6 := rfl
theorem n_X7_wanted_6 : nth t_X7_wanted 6 = aLdI 2 7 := rfl
theorem n_X7_wanted_7 : nth t_X7_wanted 7 = aCalV 229 1 10 [6] none := rfl
theorem n_X7_wanted_10 : nth t_X7_wanted 10 = aStI 3 11 := rfl
theorem n_X7_wanted_11 : nth t_X7_wanted 11 = aLdI 1 12 := rfl
theorem n_X7_wanted_12 : nth t_X7_wanted 12 = aCalS 153 1 15 none := rfl
theorem n_X7_wanted_15 : nth t_X7_wanted 15 = aIfEq 22 18 := rfl
theorem n_X7_wanted_18 : nth t_X7_wanted 18 = aLdI 3 19 := rfl
theorem n_X7_wanted_19 : nth t_X7_wanted 19 = aIfLt 22 24 := rfl
theorem y_X7_wanted_1 (n : Nat) : nth t_X7_wanted (n + 22) = nth t_X7_wanted_c1 n := rfl
theorem n_X7_wanted_22 : nth t_X7_wanted 22 = aK (.int (-1)) 23 := (y_X7_wanted_1 0).trans rfl
theorem n_X7_wanted_23 : nth t_X7_wanted 23 = aRetI := (y_X7_wanted_1 1).trans rfl
theorem n_X7_wanted_24 : nth t_X7_wanted 24 = aLdA 0 25 := (y_X7_wanted_1 2).trans rfl
theorem n_X7_wanted_25 : nth t_X7_wanted 25 = aLdI 1 26 := (y_X7_wanted_1 3).trans rfl
theorem n_X7_wanted_26 : nth t_X7_wanted 26 = aLdI 3 27 := (y_X7_wanted_1 4).trans rfl
theorem n_X7_wanted_27 : nth t_X7_wanted 27 = aCalV 232 2 30 [6] none := (y_X7_wanted_1 5).trans rfl
theorem n_X7_wanted_30 : nth t_X7_wanted 30 = aPop 31 := (y_X7_wanted_1 8).trans rfl
theorem n_X7_wanted_31 : nth t_X7_wanted 31 = aLdA 0 32 := (y_X7_wanted_1 9).trans rfl
theorem n_X7_wanted_32 : nth t_X7_wanted 32 = aLdA 0 33 := (y_X7_wanted_1 10).trans rfl
theorem n_X7_wanted_33 : nth t_X7_wanted 33 = aGetI 85 [6] 36 := (y_X7_wanted_1 11).trans rfl
theorem n_X7_wanted_36 : nth t_X7_wanted 36 = aK (.int 60) 38 := (y_X7_wanted_1 14).trans rfl
theorem n_X7_wanted_38 : nth t_X7_wanted 38 = aIcLt 41 48 := (y_X7_wanted_1 16).trans rfl
theorem y_X7_wanted_2 (n : Nat) : nth t_X7_wanted (n + 41) = nth t_X7_wanted_c2 n := (y_X7_wanted_1 (n + 19)).trans rfl
theorem n_X7_wanted_41 : nth t_X7_wanted 41 = aLdA 0 42 := (y_X7_wanted_2 0).trans rfl
theorem n_X7_wanted_42 : nth t_X7_wanted 42 = aGetI 85 [6] 45 := (y_X7_wanted_2 1).trans rfl
theorem n_X7_wanted_45 : nth t_X7_wanted 45 = aGoto 50 := (y_X7_wanted_2 4).trans rfl
theorem n_X7_wanted_48 : nth t_X7_wanted 48 = aK (.int 60) 50 := (y_X7_wanted_2 7).trans rfl
theorem n_X7_wanted_50 : nth t_X7_wanted 50 = aPutI 84 [6] 53 := (y_X7_wanted_2 9).trans rfl
theorem n_X7_wanted_53 : nth t_X7_wanted 53 = aK (.int 0) 54 := (y_X7_wanted_2 12).trans rfl
theorem n_X7_wanted_54 : nth t_X7_wanted 54 = aStI 4 56 := (y_X7_wanted_2 13).trans rfl
theorem n_X7_wanted_56 : nth t_X7_wanted 56 = aLdI 4 58 := (y_X7_wanted_2 15).trans rfl
theorem n_X7_wanted_58 : nth t_X7_wanted 58 = aK (.int 12) 60 := (y_X7_wanted_2 17).trans rfl
theorem n_X7_wanted_60 : nth t_X7_wanted 60 = aLdA 0 61 := (y_X7_wanted_2 19).trans rfl
theorem n_X7_wanted_61 : nth t_X7_wanted 61 = aGetI 84 [6] 64 := (y_X7_wanted_2 20).trans rfl
theorem n_X7_wanted_64 : nth t_X7_wanted 64 = aB (fun x y => x * y) 65 := (y_X7_wanted_2 23).trans rfl
theorem y_X7_wanted_3 (n : Nat) : nth t_X7_wanted (n + 65) = nth t_X7_wanted_c3 n := (y_X7_wanted_2 (n + 24)).trans rfl
theorem n_X7_wanted_65 : nth t_X7_wanted 65 = aIcLt 68 88 := (y_X7_wanted_3 0).trans rfl
theorem n_X7_wanted_68 : nth t_X7_wanted 68 = aLdA 0 69 := (y_X7_wanted_3 3).trans rfl
theorem n_X7_wanted_69 : nth t_X7_wanted 69 = aGetR 87 [6] 72 := (y_X7_wanted_3 4).trans rfl
theorem n_X7_wanted_72 : nth t_X7_wanted 72 = aLdI 4 74 := (y_X7_wanted_3 7).trans rfl
theorem n_X7_wanted_74 : nth t_X7_wanted 74 = aLdA 0 75 := (y_X7_wanted_3 9).trans rfl
theorem n_X7_wanted_75 : nth t_X7_wanted 75 = aGetR 82 [6] 78 := (y_X7_wanted_3 10).trans rfl
theorem n_X7_wanted_78 : nth t_X7_wanted 78 = aLdI 4 80 := (y_X7_wanted_3 13).trans rfl
theorem n_X7_wanted_80 : nth t_X7_wanted 80 = aAldI 81 := (y_X7_wanted_3 15).trans rfl
theorem n_X7_wanted_81 : nth t_X7_wanted 81 = aAstI 82 := (y_X7_wanted_3 16).trans rfl
theorem n_X7_wanted_82 : nth t_X7_wanted 82 = aInc 4 1 85 := (y_X7_wanted_3 17).trans rfl
theorem n_X7_wanted_85 : nth t_X7_wanted 85 = aGoto 56 := (y_X7_wanted_3 20).trans rfl
theorem n_X7_wanted_88 : nth t_X7_wanted 88 = aLdA 0 89 := (y_X7_wanted_3 23).trans rfl
theorem y_X7_wanted_4 (n : Nat) : nth t_X7_wanted (n + 89) = nth t_X7_wanted_c4 n := (y_X7_wanted_3 (n + 24)).trans rfl
theorem n_X7_wanted_89 : nth t_X7_wanted 89 = aK (.int 1) 90 := (y_X7_wanted_4 0).trans rfl
theorem n_X7_wanted_90 : nth t_X7_wanted 90 = aPutZ 86 [6] 93 := (y_X7_wanted_4 1).trans rfl
theorem n_X7_wanted_93 : nth t_X7_wanted 93 = aLdA 0 94 := (y_X7_wanted_4 4).trans rfl
theorem n_X7_wanted_94 : nth t_X7_wanted 94 = aGetI 84 [6] 97 := (y_X7_wanted_4 5).trans rfl
theorem n_X7_wanted_97 : nth t_X7_wanted 97 = aRetI := (y_X7_wanted_4 8).trans rfl
theorem n_X7_dues_0 : nth t_X7_dues 0 = aK (.int 0) 1 := rfl
theorem n_X7_dues_1 : nth t_X7_dues 1 = aStI 3 2 := rfl
theorem n_X7_dues_2 : nth t_X7_dues 2 = aLdI 3 3 := rfl
theorem n_X7_dues_3 : nth t_X7_dues 3 = aK (.int 8) 5 := rfl
theorem n_X7_dues_5 : nth t_X7_dues 5 = aIcLt 8 21 := rfl
theorem n_X7_dues_8 : nth t_X7_dues 8 = aLdA 0 9 := rfl
theorem n_X7_dues_9 : nth t_X7_dues 9 = aGetR 83 [6] 12 := rfl
theorem n_X7_dues_12 : nth t_X7_dues 12 = aLdI 3 13 := rfl
theorem n_X7_dues_13 : nth t_X7_dues 13 = aK (.int 0) 14 := rfl
theorem n_X7_dues_14 : nth t_X7_dues 14 = aAstI 15 := rfl
theorem n_X7_dues_15 : nth t_X7_dues 15 = aInc 3 1 18 := rfl
theorem n_X7_dues_18 : nth t_X7_dues 18 = aGoto 2 := rfl
theorem y_X7_dues_1 (n : Nat) : nth t_X7_dues (n + 21) = nth t_X7_dues_c1 n := rfl
theorem n_X7_dues_21 : nth t_X7_dues 21 = aLdA 0 22 := (y_X7_dues_1 0).trans rfl
theorem n_X7_dues_22 : nth t_X7_dues 22 = aK (.int 0) 23 := (y_X7_dues_1 1).trans rfl
theorem n_X7_dues_23 : nth t_X7_dues 23 = aPutI 85 [6] 26 := (y_X7_dues_1 2).trans rfl
theorem n_X7_dues_26 : nth t_X7_dues 26 = aK (.int 0) 27 := (y_X7_dues_1 5).trans rfl
theorem n_X7_dues_27 : nth t_X7_dues 27 = aStI 3 28 := (y_X7_dues_1 6).trans rfl
theorem n_X7_dues_28 : nth t_X7_dues 28 = aLdI 3 29 := (y_X7_dues_1 7).trans rfl
theorem n_X7_dues_29 : nth t_X7_dues 29 = aLdA 0 30 := (y_X7_dues_1 8).trans rfl
theorem n_X7_dues_30 : nth t_X7_dues 30 = aGetR 6 [6] 33 := (y_X7_dues_1 9).trans rfl
theorem n_X7_dues_33 : nth t_X7_dues 33 = aLdI 1 34 := (y_X7_dues_1 12).trans rfl
theorem n_X7_dues_34 : nth t_X7_dues 34 = aAldI 35 := (y_X7_dues_1 13).trans rfl
theorem n_X7_dues_35 : nth t_X7_dues 35 = aIcLt 38 232 := (y_X7_dues_1 14).trans rfl
theorem n_X7_dues_38 : nth t_X7_dues 38 = aK (.int 20) 40 := (y_X7_dues_1 17).trans rfl
theorem y_X7_dues_2 (n : Nat) : nth t_X7_dues (n + 40) = nth t_X7_dues_c2 n := (y_X7_dues_1 (n + 19)).trans rfl
theorem n_X7_dues_40 : nth t_X7_dues 40 = aK (.int 40) 42 := (y_X7_dues_2 0).trans rfl
theorem n_X7_dues_42 : nth t_X7_dues 42 = aLdI 1 43 := (y_X7_dues_2 2).trans rfl
theorem n_X7_dues_43 : nth t_X7_dues 43 = aB (fun x y => x * y) 44 := (y_X7_dues_2 3).trans rfl
theorem n_X7_dues_44 : nth t_X7_dues 44 = aLdI 3 45 := (y_X7_dues_2 4).trans rfl
theorem n_X7_dues_45 : nth t_X7_dues 45 = aB (fun x y => x + y) 46 := (y_X7_dues_2 5).trans rfl
theorem n_X7_dues_46 : nth t_X7_dues 46 = aB (fun x y => x * y) 47 := (y_X7_dues_2 6).trans rfl
theorem n_X7_dues_47 : nth t_X7_dues 47 = aStI 4 49 := (y_X7_dues_2 7).trans rfl
theorem n_X7_dues_49 : nth t_X7_dues 49 = aK (.int 0) 50 := (y_X7_dues_2 9).trans rfl
theorem n_X7_dues_50 : nth t_X7_dues 50 = aStI 5 52 := (y_X7_dues_2 10).trans rfl
theorem n_X7_dues_52 : nth t_X7_dues 52 = aLdI 5 54 := (y_X7_dues_2 12).trans rfl
theorem n_X7_dues_54 : nth t_X7_dues 54 = aLdA 0 55 := (y_X7_dues_2 14).trans rfl
theorem n_X7_dues_55 : nth t_X7_dues 55 = aGetR 66 [6] 58 := (y_X7_dues_2 15).trans rfl
theorem y_X7_dues_3 (n : Nat) : nth t_X7_dues (n + 58) = nth t_X7_dues_c3 n := (y_X7_dues_2 (n + 18)).trans rfl
theorem n_X7_dues_58 : nth t_X7_dues 58 = aK (.int 0) 59 := (y_X7_dues_3 0).trans rfl
theorem n_X7_dues_59 : nth t_X7_dues 59 = aAldI 60 := (y_X7_dues_3 1).trans rfl
theorem n_X7_dues_60 : nth t_X7_dues 60 = aIcLt 63 96 := (y_X7_dues_3 2).trans rfl
theorem n_X7_dues_63 : nth t_X7_dues 63 = aLdA 0 64 := (y_X7_dues_3 5).trans rfl
theorem n_X7_dues_64 : nth t_X7_dues 64 = aGetR 83 [6] 67 := (y_X7_dues_3 6).trans rfl
theorem n_X7_dues_67 : nth t_X7_dues 67 = aLdI 5 69 := (y_X7_dues_3 9).trans rfl
theorem n_X7_dues_69 : nth t_X7_dues 69 = aLdA 0 70 := (y_X7_dues_3 11).trans rfl
theorem n_X7_dues_70 : nth t_X7_dues 70 = aGetR 83 [6] 73 := (y_X7_dues_3 12).trans rfl
theorem n_X7_dues_73 : nth t_X7_dues 73 = aLdI 5 75 := (y_X7_dues_3 15).trans rfl
theorem n_X7_dues_75 : nth t_X7_dues 75 = aAldI 76 := (y_X7_dues_3 17).trans rfl
theorem n_X7_dues_76 : nth t_X7_dues 76 = aLdA 0 77 := (y_X7_dues_3 18).trans rfl
theorem n_X7_dues_77 : nth t_X7_dues 77 = aLdI 5 79 := (y_X7_dues_3 19).trans rfl
theorem y_X7_dues_4 (n : Nat) : nth t_X7_dues (n + 79) = nth t_X7_dues_c4 n := (y_X7_dues_3 (n + 21)).trans rfl
theorem n_X7_dues_79 : nth t_X7_dues 79 = aLdI 4 81 := (y_X7_dues_4 0).trans rfl
theorem n_X7_dues_81 : nth t_X7_dues 81 = aCalV 233 2 84 [6] none := (y_X7_dues_4 2).trans rfl
theorem n_X7_dues_84 : nth t_X7_dues 84 = aB (fun x y => x + y) 85 := (y_X7_dues_4 5).trans rfl
theorem n_X7_dues_85 : nth t_X7_dues 85 = aK (.int 1000000) 88 := (y_X7_dues_4 6).trans rfl
theorem n_X7_dues_88 : nth t_X7_dues 88 = aRem 89 := (y_X7_dues_4 9).trans rfl
theorem n_X7_dues_89 : nth t_X7_dues 89 = aAstI 90 := (y_X7_dues_4 10).trans rfl
theorem n_X7_dues_90 : nth t_X7_dues 90 = aInc 5 1 93 := (y_X7_dues_4 11).trans rfl
theorem n_X7_dues_93 : nth t_X7_dues 93 = aGoto 52 := (y_X7_dues_4 14).trans rfl
theorem n_X7_dues_96 : nth t_X7_dues 96 = aK (.int 0) 97 := (y_X7_dues_4 17).trans rfl
theorem n_X7_dues_97 : nth t_X7_dues 97 = aStI 5 99 := (y_X7_dues_4 18).trans rfl
theorem n_X7_dues_99 : nth t_X7_dues 99 = aK (.int 0) 100 := (y_X7_dues_4 20).trans rfl
theorem n_X7_dues_100 : nth t_X7_dues 100 = aStI 6 102 := (y_X7_dues_4 21).trans rfl
theorem y_X7_dues_5 (n : Nat) : nth t_X7_dues (n + 102) = nth t_X7_dues_c5 n := (y_X7_dues_4 (n + 23)).trans rfl
theorem n_X7_dues_102 : nth t_X7_dues 102 = aLdI 6 104 := (y_X7_dues_5 0).trans rfl
theorem n_X7_dues_104 : nth t_X7_dues 104 = aK (.int 3) 105 := (y_X7_dues_5 2).trans rfl
theorem n_X7_dues_105 : nth t_X7_dues 105 = aIcLt 108 188 := (y_X7_dues_5 3).trans rfl
theorem n_X7_dues_108 : nth t_X7_dues 108 = aLdI 3 109 := (y_X7_dues_5 6).trans rfl
theorem n_X7_dues_109 : nth t_X7_dues 109 = aK (.int 1) 110 := (y_X7_dues_5 7).trans rfl
theorem n_X7_dues_110 : nth t_X7_dues 110 = aB (fun x y => x + y) 111 := (y_X7_dues_5 8).trans rfl
theorem n_X7_dues_111 : nth t_X7_dues 111 = aLdA 0 112 := (y_X7_dues_5 9).trans rfl
theorem n_X7_dues_112 : nth t_X7_dues 112 = aGetR 6 [6] 115 := (y_X7_dues_5 10).trans rfl
theorem n_X7_dues_115 : nth t_X7_dues 115 = aLdI 1 116 := (y_X7_dues_5 13).trans rfl
theorem n_X7_dues_116 : nth t_X7_dues 116 = aAldI 117 := (y_X7_dues_5 14).trans rfl
theorem n_X7_dues_117 : nth t_X7_dues 117 = aIcLt 120 182 := (y_X7_dues_5 15).trans rfl
theorem n_X7_dues_120 : nth t_X7_dues 120 = aLdA 0 121 := (y_X7_dues_5 18).trans rfl
theorem y_X7_dues_6 (n : Nat) : nth t_X7_dues (n + 121) = nth t_X7_dues_c6 n := (y_X7_dues_5 (n + 19)).trans rfl
theorem n_X7_dues_121 : nth t_X7_dues 121 = aGetR 65 [6] 124 := (y_X7_dues_6 0).trans rfl
theorem n_X7_dues_124 : nth t_X7_dues 124 = aLdI 6 126 := (y_X7_dues_6 3).trans rfl
theorem n_X7_dues_126 : nth t_X7_dues 126 = aAldI 127 := (y_X7_dues_6 5).trans rfl
theorem n_X7_dues_127 : nth t_X7_dues 127 = aIfLe 182 130 := (y_X7_dues_6 6).trans rfl
theorem n_X7_dues_130 : nth t_X7_dues 130 = aLdA 0 131 := (y_X7_dues_6 9).trans rfl
theorem n_X7_dues_131 : nth t_X7_dues 131 = aGetR 5 [6] 134 := (y_X7_dues_6 10).trans rfl
theorem n_X7_dues_134 : nth t_X7_dues 134 = aLdI 4 136 := (y_X7_dues_6 13).trans rfl
theorem n_X7_dues_136 : nth t_X7_dues 136 = aLdA 0 137 := (y_X7_dues_6 15).trans rfl
theorem n_X7_dues_137 : nth t_X7_dues 137 = aGetR 65 [6] 140 := (y_X7_dues_6 16).trans rfl
theorem n_X7_dues_140 : nth t_X7_dues 140 = aLdI 6 142 := (y_X7_dues_6 19).trans rfl
theorem n_X7_dues_142 : nth t_X7_dues 142 = aAldI 143 := (y_X7_dues_6 21).trans rfl
theorem n_X7_dues_143 : nth t_X7_dues 143 = aB (fun x y => x + y) 144 := (y_X7_dues_6 22).trans rfl
theorem y_X7_dues_7 (n : Nat) : nth t_X7_dues (n + 144) = nth t_X7_dues_c7 n := (y_X7_dues_6 (n + 23)).trans rfl
theorem n_X7_dues_144 : nth t_X7_dues 144 = aK (.int 1) 145 := (y_X7_dues_7 0).trans rfl
theorem n_X7_dues_145 : nth t_X7_dues 145 = aB (fun x y => x - y) 146 := (y_X7_dues_7 1).trans rfl
theorem n_X7_dues_146 : nth t_X7_dues 146 = aAldI 147 := (y_X7_dues_7 2).trans rfl
theorem n_X7_dues_147 : nth t_X7_dues 147 = aK (.int 16) 149 := (y_X7_dues_7 3).trans rfl
theorem n_X7_dues_149 : nth t_X7_dues 149 = aRem 150 := (y_X7_dues_7 5).trans rfl
theorem n_X7_dues_150 : nth t_X7_dues 150 = aLdA 0 151 := (y_X7_dues_7 6).trans rfl
theorem n_X7_dues_151 : nth t_X7_dues 151 = aGetR 5 [6] 154 := (y_X7_dues_7 7).trans rfl
theorem n_X7_dues_154 : nth t_X7_dues 154 = aLdI 4 156 := (y_X7_dues_7 10).trans rfl
theorem n_X7_dues_156 : nth t_X7_dues 156 = aK (.int 20) 158 := (y_X7_dues_7 12).trans rfl
theorem n_X7_dues_158 : nth t_X7_dues 158 = aB (fun x y => x + y) 159 := (y_X7_dues_7 14).trans rfl
theorem n_X7_dues_159 : nth t_X7_dues 159 = aLdA 0 160 := (y_X7_dues_7 15).trans rfl
theorem n_X7_dues_160 : nth t_X7_dues 160 = aGetR 65 [6] 163 := (y_X7_dues_7 16).trans rfl
theorem y_X7_dues_8 (n : Nat) : nth t_X7_dues (n + 163) = nth t_X7_dues_c8 n := (y_X7_dues_7 (n + 19)).trans rfl
theorem n_X7_dues_163 : nth t_X7_dues 163 = aLdI 6 165 := (y_X7_dues_8 0).trans rfl
theorem n_X7_dues_165 : nth t_X7_dues 165 = aAldI 166 := (y_X7_dues_8 2).trans rfl
theorem n_X7_dues_166 : nth t_X7_dues 166 = aB (fun x y => x + y) 167 := (y_X7_dues_8 3).trans rfl
theorem n_X7_dues_167 : nth t_X7_dues 167 = aK (.int 1) 168 := (y_X7_dues_8 4).trans rfl
theorem n_X7_dues_168 : nth t_X7_dues 168 = aB (fun x y => x - y) 169 := (y_X7_dues_8 5).trans rfl
theorem n_X7_dues_169 : nth t_X7_dues 169 = aAldI 170 := (y_X7_dues_8 6).trans rfl
theorem n_X7_dues_170 : nth t_X7_dues 170 = aK (.int 16) 172 := (y_X7_dues_8 7).trans rfl
theorem n_X7_dues_172 : nth t_X7_dues 172 = aRem 173 := (y_X7_dues_8 9).trans rfl
theorem n_X7_dues_173 : nth t_X7_dues 173 = aIcEq 182 176 := (y_X7_dues_8 10).trans rfl
theorem n_X7_dues_176 : nth t_X7_dues 176 = aLdI 6 178 := (y_X7_dues_8 13).trans rfl
theorem n_X7_dues_178 : nth t_X7_dues 178 = aK (.int 1) 179 := (y_X7_dues_8 15).trans rfl
theorem n_X7_dues_179 : nth t_X7_dues 179 = aB (fun x y => x + y) 180 := (y_X7_dues_8 16).trans rfl
theorem y_X7_dues_9 (n : Nat) : nth t_X7_dues (n + 180) = nth t_X7_dues_c9 n := (y_X7_dues_8 (n + 17)).trans rfl
theorem n_X7_dues_180 : nth t_X7_dues 180 = aStI 5 182 := (y_X7_dues_9 0).trans rfl
theorem n_X7_dues_182 : nth t_X7_dues 182 = aInc 6 1 185 := (y_X7_dues_9 2).trans rfl
theorem n_X7_dues_185 : nth t_X7_dues 185 = aGoto 102 := (y_X7_dues_9 5).trans rfl
theorem n_X7_dues_188 : nth t_X7_dues 188 = aLdI 3 189 := (y_X7_dues_9 8).trans rfl
theorem n_X7_dues_189 : nth t_X7_dues 189 = aK (.int 1) 190 := (y_X7_dues_9 9).trans rfl
theorem n_X7_dues_190 : nth t_X7_dues 190 = aB (fun x y => x + y) 191 := (y_X7_dues_9 10).trans rfl
theorem n_X7_dues_191 : nth t_X7_dues 191 = aLdA 0 192 := (y_X7_dues_9 11).trans rfl
theorem n_X7_dues_192 : nth t_X7_dues 192 = aGetR 6 [6] 195 := (y_X7_dues_9 12).trans rfl
theorem n_X7_dues_195 : nth t_X7_dues 195 = aLdI 1 196 := (y_X7_dues_9 15).trans rfl
theorem n_X7_dues_196 : nth t_X7_dues 196 = aAldI 197 := (y_X7_dues_9 16).trans rfl
theorem n_X7_dues_197 : nth t_X7_dues 197 = aIcEq 200 203 := (y_X7_dues_9 17).trans rfl
theorem n_X7_dues_200 : nth t_X7_dues 200 = aK (.int 3) 201 := (y_X7_dues_9 20).trans rfl
theorem y_X7_dues_10 (n : Nat) : nth t_X7_dues (n + 201) = nth t_X7_dues_c10 n := (y_X7_dues_9 (n + 21)).trans rfl
theorem n_X7_dues_201 : nth t_X7_dues 201 = aStI 5 203 := (y_X7_dues_10 0).trans rfl
theorem n_X7_dues_203 : nth t_X7_dues 203 = aK (.int 1) 204 := (y_X7_dues_10 2).trans rfl
theorem n_X7_dues_204 : nth t_X7_dues 204 = aStI 6 206 := (y_X7_dues_10 3).trans rfl
theorem n_X7_dues_206 : nth t_X7_dues 206 = aLdI 6 208 := (y_X7_dues_10 5).trans rfl
theorem n_X7_dues_208 : nth t_X7_dues 208 = aLdI 5 210 := (y_X7_dues_10 7).trans rfl
theorem n_X7_dues_210 : nth t_X7_dues 210 = aIcLe 213 226 := (y_X7_dues_10 9).trans rfl
theorem n_X7_dues_213 : nth t_X7_dues 213 = aLdA 0 214 := (y_X7_dues_10 12).trans rfl
theorem n_X7_dues_214 : nth t_X7_dues 214 = aLdI 2 215 := (y_X7_dues_10 13).trans rfl
theorem n_X7_dues_215 : nth t_X7_dues 215 = aLdI 6 217 := (y_X7_dues_10 14).trans rfl
theorem n_X7_dues_217 : nth t_X7_dues 217 = aCalV 234 2 220 [6] none := (y_X7_dues_10 16).trans rfl
theorem n_X7_dues_220 : nth t_X7_dues 220 = aInc 6 1 223 := (y_X7_dues_10 19).trans rfl
theorem n_X7_dues_223 : nth t_X7_dues 223 = aGoto 206 := (y_X7_dues_10 22).trans rfl
theorem y_X7_dues_11 (n : Nat) : nth t_X7_dues (n + 226) = nth t_X7_dues_c11 n := (y_X7_dues_10 (n + 25)).trans rfl
theorem n_X7_dues_226 : nth t_X7_dues 226 = aInc 3 1 229 := (y_X7_dues_11 0).trans rfl
theorem n_X7_dues_229 : nth t_X7_dues 229 = aGoto 28 := (y_X7_dues_11 3).trans rfl
theorem n_X7_dues_232 : nth t_X7_dues 232 = aLdA 0 233 := (y_X7_dues_11 6).trans rfl
theorem n_X7_dues_233 : nth t_X7_dues 233 = aGetI 85 [6] 236 := (y_X7_dues_11 7).trans rfl
theorem n_X7_dues_236 : nth t_X7_dues 236 = aRetI := (y_X7_dues_11 10).trans rfl
theorem n_X7_added_0 : nth t_X7_added 0 = aLdA 0 1 := rfl
theorem n_X7_added_1 : nth t_X7_added 1 = aGetR 67 [6] 4 := rfl
theorem n_X7_added_4 : nth t_X7_added 4 = aLdI 1 5 := rfl
theorem n_X7_added_5 : nth t_X7_added 5 = aAldI 6 := rfl
theorem n_X7_added_6 : nth t_X7_added 6 = aIfLt 9 11 := rfl
theorem n_X7_added_9 : nth t_X7_added 9 = aK (.int 1) 10 := rfl
theorem n_X7_added_10 : nth t_X7_added 10 = aRetI := rfl
theorem n_X7_added_11 : nth t_X7_added 11 = aK (.int 0) 12 := rfl
theorem n_X7_added_12 : nth t_X7_added 12 = aStI 3 13 := rfl
theorem n_X7_added_13 : nth t_X7_added 13 = aLdA 0 14 := rfl
theorem n_X7_added_14 : nth t_X7_added 14 = aGetR 63 [6] 17 := rfl
theorem n_X7_added_17 : nth t_X7_added 17 = aLdA 0 18 := rfl
theorem y_X7_added_1 (n : Nat) : nth t_X7_added (n + 18) = nth t_X7_added_c1 n := rfl
theorem n_X7_added_18 : nth t_X7_added 18 = aGetR 67 [6] 21 := (y_X7_added_1 0).trans rfl
theorem n_X7_added_21 : nth t_X7_added 21 = aLdI 1 22 := (y_X7_added_1 3).trans rfl
theorem n_X7_added_22 : nth t_X7_added 22 = aAldI 23 := (y_X7_added_1 4).trans rfl
theorem n_X7_added_23 : nth t_X7_added 23 = aAldI 24 := (y_X7_added_1 5).trans rfl
theorem n_X7_added_24 : nth t_X7_added 24 = aStI 4 26 := (y_X7_added_1 6).trans rfl
theorem n_X7_added_26 : nth t_X7_added 26 = aLdI 4 28 := (y_X7_added_1 8).trans rfl
theorem n_X7_added_28 : nth t_X7_added 28 = aLdA 0 29 := (y_X7_added_1 10).trans rfl
theorem n_X7_added_29 : nth t_X7_added 29 = aGetR 64 [6] 32 := (y_X7_added_1 11).trans rfl
theorem n_X7_added_32 : nth t_X7_added 32 = aLdA 0 33 := (y_X7_added_1 14).trans rfl
theorem n_X7_added_33 : nth t_X7_added 33 = aGetR 67 [6] 36 := (y_X7_added_1 15).trans rfl
theorem n_X7_added_36 : nth t_X7_added 36 = aLdI 1 37 := (y_X7_added_1 18).trans rfl
theorem n_X7_added_37 : nth t_X7_added 37 = aAldI 38 := (y_X7_added_1 19).trans rfl
theorem y_X7_added_2 (n : Nat) : nth t_X7_added (n + 38) = nth t_X7_added_c2 n := (y_X7_added_1 (n + 20)).trans rfl
theorem n_X7_added_38 : nth t_X7_added 38 = aAldI 39 := (y_X7_added_2 0).trans rfl
theorem n_X7_added_39 : nth t_X7_added 39 = aIcLe 42 83 := (y_X7_added_2 1).trans rfl
theorem n_X7_added_42 : nth t_X7_added 42 = aLdA 0 43 := (y_X7_added_2 4).trans rfl
theorem n_X7_added_43 : nth t_X7_added 43 = aGetR 5 [6] 46 := (y_X7_added_2 5).trans rfl
theorem n_X7_added_46 : nth t_X7_added 46 = aLdI 2 47 := (y_X7_added_2 8).trans rfl
theorem n_X7_added_47 : nth t_X7_added 47 = aLdI 4 49 := (y_X7_added_2 9).trans rfl
theorem n_X7_added_49 : nth t_X7_added 49 = aB (fun x y => x + y) 50 := (y_X7_added_2 11).trans rfl
theorem n_X7_added_50 : nth t_X7_added 50 = aK (.int 1) 51 := (y_X7_added_2 12).trans rfl
theorem n_X7_added_51 : nth t_X7_added 51 = aB (fun x y => x - y) 52 := (y_X7_added_2 13).trans rfl
theorem n_X7_added_52 : nth t_X7_added 52 = aAldI 53 := (y_X7_added_2 14).trans rfl
theorem n_X7_added_53 : nth t_X7_added 53 = aK (.int 16) 55 := (y_X7_added_2 15).trans rfl
theorem n_X7_added_55 : nth t_X7_added 55 = aRem 56 := (y_X7_added_2 17).trans rfl
theorem y_X7_added_3 (n : Nat) : nth t_X7_added (n + 56) = nth t_X7_added_c3 n := (y_X7_added_2 (n + 18)).trans rfl
theorem n_X7_added_56 : nth t_X7_added 56 = aStI 5 58 := (y_X7_added_3 0).trans rfl
theorem n_X7_added_58 : nth t_X7_added 58 = aK (.int 10) 60 := (y_X7_added_3 2).trans rfl
theorem n_X7_added_60 : nth t_X7_added 60 = aLdI 3 61 := (y_X7_added_3 4).trans rfl
theorem n_X7_added_61 : nth t_X7_added 61 = aB (fun x y => x * y) 62 := (y_X7_added_3 5).trans rfl
theorem n_X7_added_62 : nth t_X7_added 62 = aLdI 5 64 := (y_X7_added_3 6).trans rfl
theorem n_X7_added_64 : nth t_X7_added 64 = aK (.int 15) 66 := (y_X7_added_3 8).trans rfl
theorem n_X7_added_66 : nth t_X7_added 66 = aIcEq 69 73 := (y_X7_added_3 10).trans rfl
theorem n_X7_added_69 : nth t_X7_added 69 = aK (.int 0) 70 := (y_X7_added_3 13).trans rfl
theorem n_X7_added_70 : nth t_X7_added 70 = aGoto 75 := (y_X7_added_3 14).trans rfl
theorem n_X7_added_73 : nth t_X7_added 73 = aLdI 5 75 := (y_X7_added_3 17).trans rfl
theorem n_X7_added_75 : nth t_X7_added 75 = aB (fun x y => x + y) 76 := (y_X7_added_3 19).trans rfl
theorem n_X7_added_76 : nth t_X7_added 76 = aStI 3 77 := (y_X7_added_3 20).trans rfl
theorem y_X7_added_4 (n : Nat) : nth t_X7_added (n + 77) = nth t_X7_added_c4 n := (y_X7_added_3 (n + 21)).trans rfl
theorem n_X7_added_77 : nth t_X7_added 77 = aInc 4 1 80 := (y_X7_added_4 0).trans rfl
theorem n_X7_added_80 : nth t_X7_added 80 = aGoto 26 := (y_X7_added_4 3).trans rfl
theorem n_X7_added_83 : nth t_X7_added 83 = aLdA 0 84 := (y_X7_added_4 6).trans rfl
theorem n_X7_added_84 : nth t_X7_added 84 = aGetR 70 [6] 87 := (y_X7_added_4 7).trans rfl
theorem n_X7_added_87 : nth t_X7_added 87 = aLdI 1 88 := (y_X7_added_4 10).trans rfl
theorem n_X7_added_88 : nth t_X7_added 88 = aAldI 89 := (y_X7_added_4 11).trans rfl
theorem n_X7_added_89 : nth t_X7_added 89 = aIfLe 117 92 := (y_X7_added_4 12).trans rfl
theorem n_X7_added_92 : nth t_X7_added 92 = aLdA 0 93 := (y_X7_added_4 15).trans rfl
theorem n_X7_added_93 : nth t_X7_added 93 = aGetR 5 [6] 96 := (y_X7_added_4 16).trans rfl
theorem n_X7_added_96 : nth t_X7_added 96 = aLdI 2 97 := (y_X7_added_4 19).trans rfl
theorem n_X7_added_97 : nth t_X7_added 97 = aLdA 0 98 := (y_X7_added_4 20).trans rfl
theorem n_X7_added_98 : nth t_X7_added 98 = aGetR 70 [6] 101 := (y_X7_added_4 21).trans rfl
theorem y_X7_added_5 (n : Nat) : nth t_X7_added (n + 101) = nth t_X7_added_c5 n := (y_X7_added_4 (n + 24)).trans rfl
theorem n_X7_added_101 : nth t_X7_added 101 = aLdI 1 102 := (y_X7_added_5 0).trans rfl
theorem n_X7_added_102 : nth t_X7_added 102 = aAldI 103 := (y_X7_added_5 1).trans rfl
theorem n_X7_added_103 : nth t_X7_added 103 = aB (fun x y => x + y) 104 := (y_X7_added_5 2).trans rfl
theorem n_X7_added_104 : nth t_X7_added 104 = aK (.int 1) 105 := (y_X7_added_5 3).trans rfl
theorem n_X7_added_105 : nth t_X7_added 105 = aB (fun x y => x - y) 106 := (y_X7_added_5 4).trans rfl
theorem n_X7_added_106 : nth t_X7_added 106 = aAldI 107 := (y_X7_added_5 5).trans rfl
theorem n_X7_added_107 : nth t_X7_added 107 = aK (.int 15) 109 := (y_X7_added_5 6).trans rfl
theorem n_X7_added_109 : nth t_X7_added 109 = aIcLe 117 112 := (y_X7_added_5 8).trans rfl
theorem n_X7_added_112 : nth t_X7_added 112 = aLdI 3 113 := (y_X7_added_5 11).trans rfl
theorem n_X7_added_113 : nth t_X7_added 113 = aU (fun x => -x) 114 := (y_X7_added_5 12).trans rfl
theorem n_X7_added_114 : nth t_X7_added 114 = aGoto 118 := (y_X7_added_5 13).trans rfl
theorem n_X7_added_117 : nth t_X7_added 117 = aLdI 3 118 := (y_X7_added_5 16).trans rfl
theorem y_X7_added_6 (n : Nat) : nth t_X7_added (n + 118) = nth t_X7_added_c6 n := (y_X7_added_5 (n + 17)).trans rfl
theorem n_X7_added_118 : nth t_X7_added 118 = aRetI := (y_X7_added_6 0).trans rfl
theorem n_X7_dueLine_0 : nth t_X7_dueLine 0 = aK (.int 0) 1 := rfl
theorem n_X7_dueLine_1 : nth t_X7_dueLine 1 = aStI 3 2 := rfl
theorem n_X7_dueLine_2 : nth t_X7_dueLine 2 = aK (.int 0) 3 := rfl
theorem n_X7_dueLine_3 : nth t_X7_dueLine 3 = aStI 4 5 := rfl
theorem n_X7_dueLine_5 : nth t_X7_dueLine 5 = aK (.int 0) 6 := rfl
theorem n_X7_dueLine_6 : nth t_X7_dueLine 6 = aStI 5 8 := rfl
theorem n_X7_dueLine_8 : nth t_X7_dueLine 8 = aLdI 5 10 := rfl
theorem n_X7_dueLine_10 : nth t_X7_dueLine 10 = aK (.int 12) 12 := rfl
theorem n_X7_dueLine_12 : nth t_X7_dueLine 12 = aIcLt 15 47 := rfl
theorem n_X7_dueLine_15 : nth t_X7_dueLine 15 = aLdA 0 16 := rfl
theorem n_X7_dueLine_16 : nth t_X7_dueLine 16 = aGetI 85 [6] 19 := rfl
theorem n_X7_dueLine_19 : nth t_X7_dueLine 19 = aK (.int 60) 21 := rfl
theorem y_X7_dueLine_1 (n : Nat) : nth t_X7_dueLine (n + 21) = nth t_X7_dueLine_c1 n := rfl
theorem n_X7_dueLine_21 : nth t_X7_dueLine 21 = aIcLt 24 47 := (y_X7_dueLine_1 0).trans rfl
theorem n_X7_dueLine_24 : nth t_X7_dueLine 24 = aLdA 0 25 := (y_X7_dueLine_1 3).trans rfl
theorem n_X7_dueLine_25 : nth t_X7_dueLine 25 = aGetR 82 [6] 28 := (y_X7_dueLine_1 4).trans rfl
theorem n_X7_dueLine_28 : nth t_X7_dueLine 28 = aK (.int 12) 30 := (y_X7_dueLine_1 7).trans rfl
theorem n_X7_dueLine_30 : nth t_X7_dueLine 30 = aLdA 0 31 := (y_X7_dueLine_1 9).trans rfl
theorem n_X7_dueLine_31 : nth t_X7_dueLine 31 = aGetI 85 [6] 34 := (y_X7_dueLine_1 10).trans rfl
theorem n_X7_dueLine_34 : nth t_X7_dueLine 34 = aB (fun x y => x * y) 35 := (y_X7_dueLine_1 13).trans rfl
theorem n_X7_dueLine_35 : nth t_X7_dueLine 35 = aLdI 5 37 := (y_X7_dueLine_1 14).trans rfl
theorem n_X7_dueLine_37 : nth t_X7_dueLine 37 = aB (fun x y => x + y) 38 := (y_X7_dueLine_1 16).trans rfl
theorem n_X7_dueLine_38 : nth t_X7_dueLine 38 = aK (.int 15) 40 := (y_X7_dueLine_1 17).trans rfl
theorem n_X7_dueLine_40 : nth t_X7_dueLine 40 = aAstI 41 := (y_X7_dueLine_1 19).trans rfl
theorem n_X7_dueLine_41 : nth t_X7_dueLine 41 = aInc 5 1 44 := (y_X7_dueLine_1 20).trans rfl
theorem y_X7_dueLine_2 (n : Nat) : nth t_X7_dueLine (n + 44) = nth t_X7_dueLine_c2 n := (y_X7_dueLine_1 (n + 23)).trans rfl
theorem n_X7_dueLine_44 : nth t_X7_dueLine 44 = aGoto 8 := (y_X7_dueLine_2 0).trans rfl
theorem n_X7_dueLine_47 : nth t_X7_dueLine 47 = aK (.int 0) 48 := (y_X7_dueLine_2 3).trans rfl
theorem n_X7_dueLine_48 : nth t_X7_dueLine 48 = aStI 5 50 := (y_X7_dueLine_2 4).trans rfl
theorem n_X7_dueLine_50 : nth t_X7_dueLine 50 = aLdI 5 52 := (y_X7_dueLine_2 6).trans rfl
theorem n_X7_dueLine_52 : nth t_X7_dueLine 52 = aLdA 0 53 := (y_X7_dueLine_2 8).trans rfl
theorem n_X7_dueLine_53 : nth t_X7_dueLine 53 = aGetR 66 [6] 56 := (y_X7_dueLine_2 9).trans rfl
theorem n_X7_dueLine_56 : nth t_X7_dueLine 56 = aK (.int 0) 57 := (y_X7_dueLine_2 12).trans rfl
theorem n_X7_dueLine_57 : nth t_X7_dueLine 57 = aAldI 58 := (y_X7_dueLine_2 13).trans rfl
theorem n_X7_dueLine_58 : nth t_X7_dueLine 58 = aIcLt 61 233 := (y_X7_dueLine_2 14).trans rfl
theorem n_X7_dueLine_61 : nth t_X7_dueLine 61 = aLdA 0 62 := (y_X7_dueLine_2 17).trans rfl
theorem n_X7_dueLine_62 : nth t_X7_dueLine 62 = aGetR 69 [6] 65 := (y_X7_dueLine_2 18).trans rfl
theorem n_X7_dueLine_65 : nth t_X7_dueLine 65 = aLdI 5 67 := (y_X7_dueLine_2 21).trans rfl
theorem y_X7_dueLine_3 (n : Nat) : nth t_X7_dueLine (n + 67) = nth t_X7_dueLine_c3 n := (y_X7_dueLine_2 (n + 23)).trans rfl
theorem n_X7_dueLine_67 : nth t_X7_dueLine 67 = aAldI 68 := (y_X7_dueLine_3 0).trans rfl
theorem n_X7_dueLine_68 : nth t_X7_dueLine 68 = aLdI 2 69 := (y_X7_dueLine_3 1).trans rfl
theorem n_X7_dueLine_69 : nth t_X7_dueLine 69 = aIcEq 72 76 := (y_X7_dueLine_3 2).trans rfl
theorem n_X7_dueLine_72 : nth t_X7_dueLine 72 = aK (.int 1) 73 := (y_X7_dueLine_3 5).trans rfl
theorem n_X7_dueLine_73 : nth t_X7_dueLine 73 = aGoto 77 := (y_X7_dueLine_3 6).trans rfl
theorem n_X7_dueLine_76 : nth t_X7_dueLine 76 = aK (.int 0) 77 := (y_X7_dueLine_3 9).trans rfl
theorem n_X7_dueLine_77 : nth t_X7_dueLine 77 = aStI 6 79 := (y_X7_dueLine_3 10).trans rfl
theorem n_X7_dueLine_79 : nth t_X7_dueLine 79 = aLdA 0 80 := (y_X7_dueLine_3 12).trans rfl
theorem n_X7_dueLine_80 : nth t_X7_dueLine 80 = aGetR 83 [6] 83 := (y_X7_dueLine_3 13).trans rfl
theorem n_X7_dueLine_83 : nth t_X7_dueLine 83 = aLdI 5 85 := (y_X7_dueLine_3 16).trans rfl
theorem n_X7_dueLine_85 : nth t_X7_dueLine 85 = aAldI 86 := (y_X7_dueLine_3 18).trans rfl
theorem n_X7_dueLine_86 : nth t_X7_dueLine 86 = aIfLt 89 100 := (y_X7_dueLine_3 19).trans rfl
theorem y_X7_dueLine_4 (n : Nat) : nth t_X7_dueLine (n + 89) = nth t_X7_dueLine_c4 n := (y_X7_dueLine_3 (n + 22)).trans rfl
theorem n_X7_dueLine_89 : nth t_X7_dueLine 89 = aLdA 0 90 := (y_X7_dueLine_4 0).trans rfl
theorem n_X7_dueLine_90 : nth t_X7_dueLine 90 = aGetR 83 [6] 93 := (y_X7_dueLine_4 1).trans rfl
theorem n_X7_dueLine_93 : nth t_X7_dueLine 93 = aLdI 5 95 := (y_X7_dueLine_4 4).trans rfl
theorem n_X7_dueLine_95 : nth t_X7_dueLine 95 = aAldI 96 := (y_X7_dueLine_4 6).trans rfl
theorem n_X7_dueLine_96 : nth t_X7_dueLine 96 = aU (fun x => -x) 97 := (y_X7_dueLine_4 7).trans rfl
theorem n_X7_dueLine_97 : nth t_X7_dueLine 97 = aGoto 107 := (y_X7_dueLine_4 8).trans rfl
theorem n_X7_dueLine_100 : nth t_X7_dueLine 100 = aLdA 0 101 := (y_X7_dueLine_4 11).trans rfl
theorem n_X7_dueLine_101 : nth t_X7_dueLine 101 = aGetR 83 [6] 104 := (y_X7_dueLine_4 12).trans rfl
theorem n_X7_dueLine_104 : nth t_X7_dueLine 104 = aLdI 5 106 := (y_X7_dueLine_4 15).trans rfl
theorem n_X7_dueLine_106 : nth t_X7_dueLine 106 = aAldI 107 := (y_X7_dueLine_4 17).trans rfl
theorem n_X7_dueLine_107 : nth t_X7_dueLine 107 = aStI 7 109 := (y_X7_dueLine_4 18).trans rfl
theorem n_X7_dueLine_109 : nth t_X7_dueLine 109 = aLdI 6 111 := (y_X7_dueLine_4 20).trans rfl
theorem y_X7_dueLine_5 (n : Nat) : nth t_X7_dueLine (n + 111) = nth t_X7_dueLine_c5 n := (y_X7_dueLine_4 (n + 22)).trans rfl
theorem n_X7_dueLine_111 : nth t_X7_dueLine 111 = aIfEq 122 114 := (y_X7_dueLine_5 0).trans rfl
theorem n_X7_dueLine_114 : nth t_X7_dueLine 114 = aLdA 0 115 := (y_X7_dueLine_5 3).trans rfl
theorem n_X7_dueLine_115 : nth t_X7_dueLine 115 = aGetR 83 [6] 118 := (y_X7_dueLine_5 4).trans rfl
theorem n_X7_dueLine_118 : nth t_X7_dueLine 118 = aLdI 5 120 := (y_X7_dueLine_5 7).trans rfl
theorem n_X7_dueLine_120 : nth t_X7_dueLine 120 = aK (.int 0) 121 := (y_X7_dueLine_5 9).trans rfl
theorem n_X7_dueLine_121 : nth t_X7_dueLine 121 = aAstI 122 := (y_X7_dueLine_5 10).trans rfl
theorem n_X7_dueLine_122 : nth t_X7_dueLine 122 = aLdI 1 123 := (y_X7_dueLine_5 11).trans rfl
theorem n_X7_dueLine_123 : nth t_X7_dueLine 123 = aLdI 5 125 := (y_X7_dueLine_5 12).trans rfl
theorem n_X7_dueLine_125 : nth t_X7_dueLine 125 = aB (fun x y => x >>> (y &&& 31)) 126 := (y_X7_dueLine_5 14).trans rfl
theorem n_X7_dueLine_126 : nth t_X7_dueLine 126 = aK (.int 1) 127 := (y_X7_dueLine_5 15).trans rfl
theorem n_X7_dueLine_127 : nth t_X7_dueLine 127 = aB (fun x y => x &&& y) 128 := (y_X7_dueLine_5 16).trans rfl
theorem n_X7_dueLine_128 : nth t_X7_dueLine 128 = aIfEq 131 134 := (y_X7_dueLine_5 17).trans rfl
theorem y_X7_dueLine_6 (n : Nat) : nth t_X7_dueLine (n + 131) = nth t_X7_dueLine_c6 n := (y_X7_dueLine_5 (n + 20)).trans rfl
theorem n_X7_dueLine_131 : nth t_X7_dueLine 131 = aGoto 227 := (y_X7_dueLine_6 0).trans rfl
theorem n_X7_dueLine_134 : nth t_X7_dueLine 134 = aLdA 0 135 := (y_X7_dueLine_6 3).trans rfl
theorem n_X7_dueLine_135 : nth t_X7_dueLine 135 = aGetR 68 [6] 138 := (y_X7_dueLine_6 4).trans rfl
theorem n_X7_dueLine_138 : nth t_X7_dueLine 138 = aLdI 5 140 := (y_X7_dueLine_6 7).trans rfl
theorem n_X7_dueLine_140 : nth t_X7_dueLine 140 = aAldI 141 := (y_X7_dueLine_6 9).trans rfl
theorem n_X7_dueLine_141 : nth t_X7_dueLine 141 = aK (.int 1) 142 := (y_X7_dueLine_6 10).trans rfl
theorem n_X7_dueLine_142 : nth t_X7_dueLine 142 = aB (fun x y => x - y) 143 := (y_X7_dueLine_6 11).trans rfl
theorem n_X7_dueLine_143 : nth t_X7_dueLine 143 = aStI 8 145 := (y_X7_dueLine_6 12).trans rfl
theorem n_X7_dueLine_145 : nth t_X7_dueLine 145 = aLdI 8 147 := (y_X7_dueLine_6 14).trans rfl
theorem n_X7_dueLine_147 : nth t_X7_dueLine 147 = aIfLt 200 150 := (y_X7_dueLine_6 16).trans rfl
theorem n_X7_dueLine_150 : nth t_X7_dueLine 150 = aLdI 6 152 := (y_X7_dueLine_6 19).trans rfl
theorem n_X7_dueLine_152 : nth t_X7_dueLine 152 = aIfEq 187 155 := (y_X7_dueLine_6 21).trans rfl
theorem y_X7_dueLine_7 (n : Nat) : nth t_X7_dueLine (n + 155) = nth t_X7_dueLine_c7 n := (y_X7_dueLine_6 (n + 24)).trans rfl
theorem n_X7_dueLine_155 : nth t_X7_dueLine 155 = aLdA 0 156 := (y_X7_dueLine_7 0).trans rfl
theorem n_X7_dueLine_156 : nth t_X7_dueLine 156 = aGetI 85 [6] 159 := (y_X7_dueLine_7 1).trans rfl
theorem n_X7_dueLine_159 : nth t_X7_dueLine 159 = aK (.int 60) 161 := (y_X7_dueLine_7 4).trans rfl
theorem n_X7_dueLine_161 : nth t_X7_dueLine 161 = aIcLt 164 187 := (y_X7_dueLine_7 6).trans rfl
theorem n_X7_dueLine_164 : nth t_X7_dueLine 164 = aLdA 0 165 := (y_X7_dueLine_7 9).trans rfl
theorem n_X7_dueLine_165 : nth t_X7_dueLine 165 = aGetR 82 [6] 168 := (y_X7_dueLine_7 10).trans rfl
theorem n_X7_dueLine_168 : nth t_X7_dueLine 168 = aK (.int 12) 170 := (y_X7_dueLine_7 13).trans rfl
theorem n_X7_dueLine_170 : nth t_X7_dueLine 170 = aLdA 0 171 := (y_X7_dueLine_7 15).trans rfl
theorem n_X7_dueLine_171 : nth t_X7_dueLine 171 = aGetI 85 [6] 174 := (y_X7_dueLine_7 16).trans rfl
theorem n_X7_dueLine_174 : nth t_X7_dueLine 174 = aB (fun x y => x * y) 175 := (y_X7_dueLine_7 19).trans rfl
theorem n_X7_dueLine_175 : nth t_X7_dueLine 175 = aLdI 4 177 := (y_X7_dueLine_7 20).trans rfl
theorem n_X7_dueLine_177 : nth t_X7_dueLine 177 = aB (fun x y => x + y) 178 := (y_X7_dueLine_7 22).trans rfl
theorem y_X7_dueLine_8 (n : Nat) : nth t_X7_dueLine (n + 178) = nth t_X7_dueLine_c8 n := (y_X7_dueLine_7 (n + 23)).trans rfl
theorem n_X7_dueLine_178 : nth t_X7_dueLine 178 = aLdI 8 180 := (y_X7_dueLine_8 0).trans rfl
theorem n_X7_dueLine_180 : nth t_X7_dueLine 180 = aB (fun x y => x + y) 181 := (y_X7_dueLine_8 2).trans rfl
theorem n_X7_dueLine_181 : nth t_X7_dueLine 181 = aLdI 7 183 := (y_X7_dueLine_8 3).trans rfl
theorem n_X7_dueLine_183 : nth t_X7_dueLine 183 = aK (.int 10) 185 := (y_X7_dueLine_8 5).trans rfl
theorem n_X7_dueLine_185 : nth t_X7_dueLine 185 = aRem 186 := (y_X7_dueLine_8 7).trans rfl
theorem n_X7_dueLine_186 : nth t_X7_dueLine 186 = aAstI 187 := (y_X7_dueLine_8 8).trans rfl
theorem n_X7_dueLine_187 : nth t_X7_dueLine 187 = aLdI 7 189 := (y_X7_dueLine_8 9).trans rfl
theorem n_X7_dueLine_189 : nth t_X7_dueLine 189 = aK (.int 10) 191 := (y_X7_dueLine_8 11).trans rfl
theorem n_X7_dueLine_191 : nth t_X7_dueLine 191 = aDiv 192 := (y_X7_dueLine_8 13).trans rfl
theorem n_X7_dueLine_192 : nth t_X7_dueLine 192 = aStI 7 194 := (y_X7_dueLine_8 14).trans rfl
theorem n_X7_dueLine_194 : nth t_X7_dueLine 194 = aInc 8 (-1) 197 := (y_X7_dueLine_8 16).trans rfl
theorem n_X7_dueLine_197 : nth t_X7_dueLine 197 = aGoto 145 := (y_X7_dueLine_8 19).trans rfl
theorem y_X7_dueLine_9 (n : Nat) : nth t_X7_dueLine (n + 200) = nth t_X7_dueLine_c9 n := (y_X7_dueLine_8 (n + 22)).trans rfl
theorem n_X7_dueLine_200 : nth t_X7_dueLine 200 = aLdI 4 202 := (y_X7_dueLine_9 0).trans rfl
theorem n_X7_dueLine_202 : nth t_X7_dueLine 202 = aLdA 0 203 := (y_X7_dueLine_9 2).trans rfl
theorem n_X7_dueLine_203 : nth t_X7_dueLine 203 = aGetR 68 [6] 206 := (y_X7_dueLine_9 3).trans rfl
theorem n_X7_dueLine_206 : nth t_X7_dueLine 206 = aLdI 5 208 := (y_X7_dueLine_9 6).trans rfl
theorem n_X7_dueLine_208 : nth t_X7_dueLine 208 = aAldI 209 := (y_X7_dueLine_9 8).trans rfl
theorem n_X7_dueLine_209 : nth t_X7_dueLine 209 = aB (fun x y => x + y) 210 := (y_X7_dueLine_9 9).trans rfl
theorem n_X7_dueLine_210 : nth t_X7_dueLine 210 = aStI 4 212 := (y_X7_dueLine_9 10).trans rfl
theorem n_X7_dueLine_212 : nth t_X7_dueLine 212 = aLdI 3 213 := (y_X7_dueLine_9 12).trans rfl
theorem n_X7_dueLine_213 : nth t_X7_dueLine 213 = aIfEq 216 221 := (y_X7_dueLine_9 13).trans rfl
theorem n_X7_dueLine_216 : nth t_X7_dueLine 216 = aLdI 6 218 := (y_X7_dueLine_9 16).trans rfl
theorem n_X7_dueLine_218 : nth t_X7_dueLine 218 = aIfEq 225 221 := (y_X7_dueLine_9 18).trans rfl
theorem n_X7_dueLine_221 : nth t_X7_dueLine 221 = aK (.int 1) 222 := (y_X7_dueLine_9 21).trans rfl
theorem y_X7_dueLine_10 (n : Nat) : nth t_X7_dueLine (n + 222) = nth t_X7_dueLine_c10 n := (y_X7_dueLine_9 (n + 22)).trans rfl
theorem n_X7_dueLine_222 : nth t_X7_dueLine 222 = aGoto 226 := (y_X7_dueLine_10 0).trans rfl
theorem n_X7_dueLine_225 : nth t_X7_dueLine 225 = aK (.int 0) 226 := (y_X7_dueLine_10 3).trans rfl
theorem n_X7_dueLine_226 : nth t_X7_dueLine 226 = aStI 3 227 := (y_X7_dueLine_10 4).trans rfl
theorem n_X7_dueLine_227 : nth t_X7_dueLine 227 = aInc 5 1 230 := (y_X7_dueLine_10 5).trans rfl
theorem n_X7_dueLine_230 : nth t_X7_dueLine 230 = aGoto 50 := (y_X7_dueLine_10 8).trans rfl
theorem n_X7_dueLine_233 : nth t_X7_dueLine 233 = aLdI 3 234 := (y_X7_dueLine_10 11).trans rfl
theorem n_X7_dueLine_234 : nth t_X7_dueLine 234 = aIfEq 247 237 := (y_X7_dueLine_10 12).trans rfl
theorem n_X7_dueLine_237 : nth t_X7_dueLine 237 = aLdA 0 238 := (y_X7_dueLine_10 15).trans rfl
theorem n_X7_dueLine_238 : nth t_X7_dueLine 238 = aDup 239 := (y_X7_dueLine_10 16).trans rfl
theorem n_X7_dueLine_239 : nth t_X7_dueLine 239 = aGetI 85 [6] 242 := (y_X7_dueLine_10 17).trans rfl
theorem n_X7_dueLine_242 : nth t_X7_dueLine 242 = aK (.int 1) 243 := (y_X7_dueLine_10 20).trans rfl
theorem n_X7_dueLine_243 : nth t_X7_dueLine 243 = aB (fun x y => x + y) 244 := (y_X7_dueLine_10 21).trans rfl
theorem y_X7_dueLine_11 (n : Nat) : nth t_X7_dueLine (n + 244) = nth t_X7_dueLine_c11 n := (y_X7_dueLine_10 (n + 22)).trans rfl
theorem n_X7_dueLine_244 : nth t_X7_dueLine 244 = aPutI 85 [6] 247 := (y_X7_dueLine_11 0).trans rfl
theorem n_X7_dueLine_247 : nth t_X7_dueLine 247 = aRetV := (y_X7_dueLine_11 3).trans rfl
theorem n_X7_wantedAt_0 : nth t_X7_wantedAt 0 = aLdA 0 1 := rfl
theorem n_X7_wantedAt_1 : nth t_X7_wantedAt 1 = aLdA 0 2 := rfl
theorem n_X7_wantedAt_2 : nth t_X7_wantedAt 2 = aGetI 86 [6] 5 := rfl
theorem n_X7_wantedAt_5 : nth t_X7_wantedAt 5 = aIfEq 32 8 := rfl
theorem n_X7_wantedAt_8 : nth t_X7_wantedAt 8 = aLdI 1 9 := rfl
theorem n_X7_wantedAt_9 : nth t_X7_wantedAt 9 = aK (.int 0) 10 := rfl
theorem n_X7_wantedAt_10 : nth t_X7_wantedAt 10 = aLdA 0 11 := rfl
theorem n_X7_wantedAt_11 : nth t_X7_wantedAt 11 = aGetI 84 [6] 14 := rfl
theorem n_X7_wantedAt_14 : nth t_X7_wantedAt 14 = aK (.int 1) 15 := rfl
theorem n_X7_wantedAt_15 : nth t_X7_wantedAt 15 = aB (fun x y => x - y) 16 := rfl
theorem n_X7_wantedAt_16 : nth t_X7_wantedAt 16 = aCalS 154 3 19 none := rfl
theorem n_X7_wantedAt_19 : nth t_X7_wantedAt 19 = aIfEq 32 22 := rfl
theorem y_X7_wantedAt_1 (n : Nat) : nth t_X7_wantedAt (n + 22) = nth t_X7_wantedAt_c1 n := rfl
theorem n_X7_wantedAt_22 : nth t_X7_wantedAt 22 = aLdI 2 23 := (y_X7_wantedAt_1 0).trans rfl
theorem n_X7_wantedAt_23 : nth t_X7_wantedAt 23 = aK (.int 1) 24 := (y_X7_wantedAt_1 1).trans rfl
theorem n_X7_wantedAt_24 : nth t_X7_wantedAt 24 = aK (.int 12) 26 := (y_X7_wantedAt_1 2).trans rfl
theorem n_X7_wantedAt_26 : nth t_X7_wantedAt 26 = aCalS 154 3 29 none := (y_X7_wantedAt_1 4).trans rfl
theorem n_X7_wantedAt_29 : nth t_X7_wantedAt 29 = aIfEq 32 36 := (y_X7_wantedAt_1 7).trans rfl
theorem n_X7_wantedAt_32 : nth t_X7_wantedAt 32 = aK (.int 1) 33 := (y_X7_wantedAt_1 10).trans rfl
theorem n_X7_wantedAt_33 : nth t_X7_wantedAt 33 = aGoto 37 := (y_X7_wantedAt_1 11).trans rfl
theorem n_X7_wantedAt_36 : nth t_X7_wantedAt 36 = aK (.int 0) 37 := (y_X7_wantedAt_1 14).trans rfl
theorem n_X7_wantedAt_37 : nth t_X7_wantedAt 37 = aCalV 158 1 40 [6] none := (y_X7_wantedAt_1 15).trans rfl
theorem n_X7_wantedAt_40 : nth t_X7_wantedAt 40 = aIfEq 45 43 := (y_X7_wantedAt_1 18).trans rfl
theorem n_X7_wantedAt_43 : nth t_X7_wantedAt 43 = aK (.int 0) 44 := (y_X7_wantedAt_1 21).trans rfl
theorem n_X7_wantedAt_44 : nth t_X7_wantedAt 44 = aRetI := (y_X7_wantedAt_1 22).trans rfl
theorem y_X7_wantedAt_2 (n : Nat) : nth t_X7_wantedAt (n + 45) = nth t_X7_wantedAt_c2 n := (y_X7_wantedAt_1 (n + 23)).trans rfl
theorem n_X7_wantedAt_45 : nth t_X7_wantedAt 45 = aLdA 0 46 := (y_X7_wantedAt_2 0).trans rfl
theorem n_X7_wantedAt_46 : nth t_X7_wantedAt 46 = aGetR 87 [6] 49 := (y_X7_wantedAt_2 1).trans rfl
theorem n_X7_wantedAt_49 : nth t_X7_wantedAt 49 = aK (.int 12) 51 := (y_X7_wantedAt_2 4).trans rfl
theorem n_X7_wantedAt_51 : nth t_X7_wantedAt 51 = aLdI 1 52 := (y_X7_wantedAt_2 6).trans rfl
theorem n_X7_wantedAt_52 : nth t_X7_wantedAt 52 = aB (fun x y => x * y) 53 := (y_X7_wantedAt_2 7).trans rfl
theorem n_X7_wantedAt_53 : nth t_X7_wantedAt 53 = aLdI 2 54 := (y_X7_wantedAt_2 8).trans rfl
theorem n_X7_wantedAt_54 : nth t_X7_wantedAt 54 = aB (fun x y => x + y) 55 := (y_X7_wantedAt_2 9).trans rfl
theorem n_X7_wantedAt_55 : nth t_X7_wantedAt 55 = aK (.int 1) 56 := (y_X7_wantedAt_2 10).trans rfl
theorem n_X7_wantedAt_56 : nth t_X7_wantedAt 56 = aB (fun x y => x - y) 57 := (y_X7_wantedAt_2 11).trans rfl
theorem n_X7_wantedAt_57 : nth t_X7_wantedAt 57 = aAldI 58 := (y_X7_wantedAt_2 12).trans rfl
theorem n_X7_wantedAt_58 : nth t_X7_wantedAt 58 = aRetI := (y_X7_wantedAt_2 13).trans rfl
theorem n_X7_same_0 : nth t_X7_same 0 = aLdA 0 1 := rfl
theorem n_X7_same_1 : nth t_X7_same 1 = aK (.int 0) 2 := rfl
theorem n_X7_same_2 : nth t_X7_same 2 = aPutI 0 [6] 5 := rfl
theorem n_X7_same_5 : nth t_X7_same 5 = aLdA 0 6 := rfl
theorem n_X7_same_6 : nth t_X7_same 6 = aLdI 2 7 := rfl
theorem n_X7_same_7 : nth t_X7_same 7 = aCalV 229 1 10 [6] none := rfl
theorem n_X7_same_10 : nth t_X7_same 10 = aStI 3 11 := rfl
theorem n_X7_same_11 : nth t_X7_same 11 = aLdI 1 12 := rfl
theorem n_X7_same_12 : nth t_X7_same 12 = aCalS 153 1 15 none := rfl
theorem n_X7_same_15 : nth t_X7_same 15 = aIfEq 22 18 := rfl
theorem n_X7_same_18 : nth t_X7_same 18 = aLdI 3 19 := rfl
theorem n_X7_same_19 : nth t_X7_same 19 = aIfLt 22 24 := rfl
theorem y_X7_same_1 (n : Nat) : nth t_X7_same (n + 22) = nth t_X7_same_c1 n := rfl
theorem n_X7_same_22 : nth t_X7_same 22 = aK (.int (-1)) 23 := (y_X7_same_1 0).trans rfl
theorem n_X7_same_23 : nth t_X7_same 23 = aRetI := (y_X7_same_1 1).trans rfl
theorem n_X7_same_24 : nth t_X7_same 24 = aLdA 0 25 := (y_X7_same_1 2).trans rfl
theorem n_X7_same_25 : nth t_X7_same 25 = aLdI 1 26 := (y_X7_same_1 3).trans rfl
theorem n_X7_same_26 : nth t_X7_same 26 = aLdI 3 27 := (y_X7_same_1 4).trans rfl
theorem n_X7_same_27 : nth t_X7_same 27 = aCalV 232 2 30 [6] none := (y_X7_same_1 5).trans rfl
theorem n_X7_same_30 : nth t_X7_same 30 = aStI 4 32 := (y_X7_same_1 8).trans rfl
theorem n_X7_same_32 : nth t_X7_same 32 = aLdA 0 33 := (y_X7_same_1 10).trans rfl
theorem n_X7_same_33 : nth t_X7_same 33 = aK (.int (-1)) 34 := (y_X7_same_1 11).trans rfl
theorem n_X7_same_34 : nth t_X7_same 34 = aPutI 42 [6] 37 := (y_X7_same_1 12).trans rfl
theorem n_X7_same_37 : nth t_X7_same 37 = aLdA 0 38 := (y_X7_same_1 15).trans rfl
theorem n_X7_same_38 : nth t_X7_same 38 = aLdI 1 39 := (y_X7_same_1 16).trans rfl
theorem y_X7_same_2 (n : Nat) : nth t_X7_same (n + 39) = nth t_X7_same_c2 n := (y_X7_same_1 (n + 17)).trans rfl
theorem n_X7_same_39 : nth t_X7_same 39 = aK (.int 0) 40 := (y_X7_same_2 0).trans rfl
theorem n_X7_same_40 : nth t_X7_same 40 = aLdA 0 41 := (y_X7_same_2 1).trans rfl
theorem n_X7_same_41 : nth t_X7_same 41 = aGetR 6 [6] 44 := (y_X7_same_2 2).trans rfl
theorem n_X7_same_44 : nth t_X7_same 44 = aLdI 1 45 := (y_X7_same_2 5).trans rfl
theorem n_X7_same_45 : nth t_X7_same 45 = aAldI 46 := (y_X7_same_2 6).trans rfl
theorem n_X7_same_46 : nth t_X7_same 46 = aK (.int (-1)) 47 := (y_X7_same_2 7).trans rfl
theorem n_X7_same_47 : nth t_X7_same 47 = aCalV 176 4 50 [6] none := (y_X7_same_2 8).trans rfl
theorem n_X7_same_50 : nth t_X7_same 50 = aLdA 0 51 := (y_X7_same_2 11).trans rfl
theorem n_X7_same_51 : nth t_X7_same 51 = aK (.int 40) 53 := (y_X7_same_2 12).trans rfl
theorem n_X7_same_53 : nth t_X7_same 53 = aCalV 177 1 56 [6] none := (y_X7_same_2 14).trans rfl
theorem n_X7_same_56 : nth t_X7_same 56 = aLdA 0 57 := (y_X7_same_2 17).trans rfl
theorem n_X7_same_57 : nth t_X7_same 57 = aGetR 30 [6] 60 := (y_X7_same_2 18).trans rfl
theorem y_X7_same_3 (n : Nat) : nth t_X7_same (n + 60) = nth t_X7_same_c3 n := (y_X7_same_2 (n + 21)).trans rfl
theorem n_X7_same_60 : nth t_X7_same 60 = aK (.int 0) 61 := (y_X7_same_3 0).trans rfl
theorem n_X7_same_61 : nth t_X7_same 61 = aAldI 62 := (y_X7_same_3 1).trans rfl
theorem n_X7_same_62 : nth t_X7_same 62 = aIfEq 65 76 := (y_X7_same_3 2).trans rfl
theorem n_X7_same_65 : nth t_X7_same 65 = aLdI 4 67 := (y_X7_same_3 5).trans rfl
theorem n_X7_same_67 : nth t_X7_same 67 = aLdA 0 68 := (y_X7_same_3 7).trans rfl
theorem n_X7_same_68 : nth t_X7_same 68 = aGetR 31 [6] 71 := (y_X7_same_3 8).trans rfl
theorem n_X7_same_71 : nth t_X7_same 71 = aK (.int 0) 72 := (y_X7_same_3 11).trans rfl
theorem n_X7_same_72 : nth t_X7_same 72 = aAldI 73 := (y_X7_same_3 12).trans rfl
theorem n_X7_same_73 : nth t_X7_same 73 = aIcEq 78 76 := (y_X7_same_3 13).trans rfl
theorem n_X7_same_76 : nth t_X7_same 76 = aK (.int 0) 77 := (y_X7_same_3 16).trans rfl
theorem n_X7_same_77 : nth t_X7_same 77 = aRetI := (y_X7_same_3 17).trans rfl
theorem n_X7_same_78 : nth t_X7_same 78 = aK (.int 0) 79 := (y_X7_same_3 18).trans rfl
theorem y_X7_same_4 (n : Nat) : nth t_X7_same (n + 79) = nth t_X7_same_c4 n := (y_X7_same_3 (n + 19)).trans rfl
theorem n_X7_same_79 : nth t_X7_same 79 = aStI 5 81 := (y_X7_same_4 0).trans rfl
theorem n_X7_same_81 : nth t_X7_same 81 = aLdI 5 83 := (y_X7_same_4 2).trans rfl
theorem n_X7_same_83 : nth t_X7_same 83 = aK (.int 12) 85 := (y_X7_same_4 4).trans rfl
theorem n_X7_same_85 : nth t_X7_same 85 = aLdI 4 87 := (y_X7_same_4 6).trans rfl
theorem n_X7_same_87 : nth t_X7_same 87 = aB (fun x y => x * y) 88 := (y_X7_same_4 8).trans rfl
theorem n_X7_same_88 : nth t_X7_same 88 = aIcLt 91 116 := (y_X7_same_4 9).trans rfl
theorem n_X7_same_91 : nth t_X7_same 91 = aLdA 0 92 := (y_X7_same_4 12).trans rfl
theorem n_X7_same_92 : nth t_X7_same 92 = aGetR 82 [6] 95 := (y_X7_same_4 13).trans rfl
theorem n_X7_same_95 : nth t_X7_same 95 = aLdI 5 97 := (y_X7_same_4 16).trans rfl
theorem n_X7_same_97 : nth t_X7_same 97 = aAldI 98 := (y_X7_same_4 18).trans rfl
theorem n_X7_same_98 : nth t_X7_same 98 = aLdA 0 99 := (y_X7_same_4 19).trans rfl
theorem n_X7_same_99 : nth t_X7_same 99 = aGetR 33 [6] 102 := (y_X7_same_4 20).trans rfl
theorem y_X7_same_5 (n : Nat) : nth t_X7_same (n + 102) = nth t_X7_same_c5 n := (y_X7_same_4 (n + 23)).trans rfl
theorem n_X7_same_102 : nth t_X7_same 102 = aLdI 5 104 := (y_X7_same_5 0).trans rfl
theorem n_X7_same_104 : nth t_X7_same 104 = aAldI 105 := (y_X7_same_5 2).trans rfl
theorem n_X7_same_105 : nth t_X7_same 105 = aIcEq 110 108 := (y_X7_same_5 3).trans rfl
theorem n_X7_same_108 : nth t_X7_same 108 = aK (.int 0) 109 := (y_X7_same_5 6).trans rfl
theorem n_X7_same_109 : nth t_X7_same 109 = aRetI := (y_X7_same_5 7).trans rfl
theorem n_X7_same_110 : nth t_X7_same 110 = aInc 5 1 113 := (y_X7_same_5 8).trans rfl
theorem n_X7_same_113 : nth t_X7_same 113 = aGoto 81 := (y_X7_same_5 11).trans rfl
theorem n_X7_same_116 : nth t_X7_same 116 = aK (.int 1) 117 := (y_X7_same_5 14).trans rfl
theorem n_X7_same_117 : nth t_X7_same 117 = aRetI := (y_X7_same_5 15).trans rfl
theorem n_X7_keep_0 : nth t_X7_keep 0 = aLdA 0 1 := rfl
theorem n_X7_keep_1 : nth t_X7_keep 1 = aK (.int 0) 2 := rfl
theorem n_X7_keep_2 : nth t_X7_keep 2 = aPutI 0 [6] 5 := rfl
theorem n_X7_keep_5 : nth t_X7_keep 5 = aLdI 1 6 := rfl
theorem n_X7_keep_6 : nth t_X7_keep 6 = aK (.int 0) 7 := rfl
theorem n_X7_keep_7 : nth t_X7_keep 7 = aK (.int 7) 9 := rfl
theorem n_X7_keep_9 : nth t_X7_keep 9 = aCalS 154 3 12 none := rfl
theorem n_X7_keep_12 : nth t_X7_keep 12 = aIfEq 15 17 := rfl
theorem n_X7_keep_15 : nth t_X7_keep 15 = aK (.int 0) 16 := rfl
theorem n_X7_keep_16 : nth t_X7_keep 16 = aRetZ := rfl
theorem n_X7_keep_17 : nth t_X7_keep 17 = aLdA 0 18 := rfl
theorem n_X7_keep_18 : nth t_X7_keep 18 = aK (.int 0) 19 := rfl
theorem y_X7_keep_1 (n : Nat) : nth t_X7_keep (n + 19) = nth t_X7_keep_c1 n := rfl
theorem n_X7_keep_19 : nth t_X7_keep 19 = aK (.int 2) 20 := (y_X7_keep_1 0).trans rfl
theorem n_X7_keep_20 : nth t_X7_keep 20 = aLdI 1 21 := (y_X7_keep_1 1).trans rfl
theorem n_X7_keep_21 : nth t_X7_keep 21 = aB (fun x y => x + y) 22 := (y_X7_keep_1 2).trans rfl
theorem n_X7_keep_22 : nth t_X7_keep 22 = aCalV 174 2 25 [6] none := (y_X7_keep_1 3).trans rfl
theorem n_X7_keep_25 : nth t_X7_keep 25 = aLdA 0 26 := (y_X7_keep_1 6).trans rfl
theorem n_X7_keep_26 : nth t_X7_keep 26 = aGetR 19 [6] 29 := (y_X7_keep_1 7).trans rfl
theorem n_X7_keep_29 : nth t_X7_keep 29 = aLdI 1 30 := (y_X7_keep_1 10).trans rfl
theorem n_X7_keep_30 : nth t_X7_keep 30 = aK (.int 1) 31 := (y_X7_keep_1 11).trans rfl
theorem n_X7_keep_31 : nth t_X7_keep 31 = aAstB 32 := (y_X7_keep_1 12).trans rfl
theorem n_X7_keep_32 : nth t_X7_keep 32 = aK (.int 1) 33 := (y_X7_keep_1 13).trans rfl
theorem n_X7_keep_33 : nth t_X7_keep 33 = aRetZ := (y_X7_keep_1 14).trans rfl
theorem n_X7_use_0 : nth t_X7_use 0 = aLdA 0 1 := rfl
theorem n_X7_use_1 : nth t_X7_use 1 = aK (.int 0) 2 := rfl
theorem n_X7_use_2 : nth t_X7_use 2 = aPutI 0 [6] 5 := rfl
theorem n_X7_use_5 : nth t_X7_use 5 = aLdA 0 6 := rfl
theorem n_X7_use_6 : nth t_X7_use 6 = aLdI 1 7 := rfl
theorem n_X7_use_7 : nth t_X7_use 7 = aCalV 239 1 10 [6] none := rfl
theorem n_X7_use_10 : nth t_X7_use 10 = aIfEq 13 15 := rfl
theorem n_X7_use_13 : nth t_X7_use 13 = aK (.int (-1)) 14 := rfl
theorem n_X7_use_14 : nth t_X7_use 14 = aRetI := rfl
theorem n_X7_use_15 : nth t_X7_use 15 = aLdA 0 16 := rfl
theorem n_X7_use_16 : nth t_X7_use 16 = aK (.int 2) 17 := rfl
theorem n_X7_use_17 : nth t_X7_use 17 = aLdI 1 18 := rfl
theorem y_X7_use_1 (n : Nat) : nth t_X7_use (n + 18) = nth t_X7_use_c1 n := rfl
theorem n_X7_use_18 : nth t_X7_use 18 = aB (fun x y => x + y) 19 := (y_X7_use_1 0).trans rfl
theorem n_X7_use_19 : nth t_X7_use 19 = aK (.int 0) 20 := (y_X7_use_1 1).trans rfl
theorem n_X7_use_20 : nth t_X7_use 20 = aCalV 174 2 23 [6] none := (y_X7_use_1 2).trans rfl
theorem n_X7_use_23 : nth t_X7_use 23 = aLdA 0 24 := (y_X7_use_1 5).trans rfl
theorem n_X7_use_24 : nth t_X7_use 24 = aGetR 17 [6] 27 := (y_X7_use_1 6).trans rfl
theorem n_X7_use_27 : nth t_X7_use 27 = aK (.int 0) 28 := (y_X7_use_1 9).trans rfl
theorem n_X7_use_28 : nth t_X7_use 28 = aAldI 29 := (y_X7_use_1 10).trans rfl
theorem n_X7_use_29 : nth t_X7_use 29 = aRetI := (y_X7_use_1 11).trans rfl
theorem n_X7_isThere_0 : nth t_X7_isThere 0 = aLdI 1 1 := rfl
theorem n_X7_isThere_1 : nth t_X7_isThere 1 = aK (.int 0) 2 := rfl
theorem n_X7_isThere_2 : nth t_X7_isThere 2 = aK (.int 7) 4 := rfl
theorem n_X7_isThere_4 : nth t_X7_isThere 4 = aCalS 154 3 7 none := rfl
theorem n_X7_isThere_7 : nth t_X7_isThere 7 = aIfEq 23 10 := rfl
theorem n_X7_isThere_10 : nth t_X7_isThere 10 = aLdA 0 11 := rfl
theorem n_X7_isThere_11 : nth t_X7_isThere 11 = aGetR 19 [6] 14 := rfl
theorem n_X7_isThere_14 : nth t_X7_isThere 14 = aLdI 1 15 := rfl
theorem n_X7_isThere_15 : nth t_X7_isThere 15 = aAldB 16 := rfl
theorem n_X7_isThere_16 : nth t_X7_isThere 16 = aIfEq 23 19 := rfl
theorem n_X7_isThere_19 : nth t_X7_isThere 19 = aK (.int 1) 20 := rfl
theorem n_X7_isThere_20 : nth t_X7_isThere 20 = aGoto 24 := rfl
theorem y_X7_isThere_1 (n : Nat) : nth t_X7_isThere (n + 23) = nth t_X7_isThere_c1 n := rfl
theorem n_X7_isThere_23 : nth t_X7_isThere 23 = aK (.int 0) 24 := (y_X7_isThere_1 0).trans rfl
theorem n_X7_isThere_24 : nth t_X7_isThere 24 = aRetZ := (y_X7_isThere_1 1).trans rfl
theorem n_X7_apart_0 : nth t_X7_apart 0 = aLdA 0 1 := rfl
theorem n_X7_apart_1 : nth t_X7_apart 1 = aK (.int 0) 2 := rfl
theorem n_X7_apart_2 : nth t_X7_apart 2 = aPutI 0 [6] 5 := rfl
theorem n_X7_apart_5 : nth t_X7_apart 5 = aLdA 0 6 := rfl
theorem n_X7_apart_6 : nth t_X7_apart 6 = aLdI 1 7 := rfl
theorem n_X7_apart_7 : nth t_X7_apart 7 = aCalV 239 1 10 [6] none := rfl
theorem n_X7_apart_10 : nth t_X7_apart 10 = aIfEq 34 13 := rfl
theorem n_X7_apart_13 : nth t_X7_apart 13 = aLdA 0 14 := rfl
theorem n_X7_apart_14 : nth t_X7_apart 14 = aLdI 2 15 := rfl
theorem n_X7_apart_15 : nth t_X7_apart 15 = aCalV 239 1 18 [6] none := rfl
theorem n_X7_apart_18 : nth t_X7_apart 18 = aIfEq 34 21 := rfl
theorem n_X7_apart_21 : nth t_X7_apart 21 = aLdA 0 22 := rfl
theorem y_X7_apart_1 (n : Nat) : nth t_X7_apart (n + 22) = nth t_X7_apart_c1 n := rfl
theorem n_X7_apart_22 : nth t_X7_apart 22 = aK (.int 2) 23 := (y_X7_apart_1 0).trans rfl
theorem n_X7_apart_23 : nth t_X7_apart 23 = aLdI 1 24 := (y_X7_apart_1 1).trans rfl
theorem n_X7_apart_24 : nth t_X7_apart 24 = aB (fun x y => x + y) 25 := (y_X7_apart_1 2).trans rfl
theorem n_X7_apart_25 : nth t_X7_apart 25 = aK (.int 2) 26 := (y_X7_apart_1 3).trans rfl
theorem n_X7_apart_26 : nth t_X7_apart 26 = aLdI 2 27 := (y_X7_apart_1 4).trans rfl
theorem n_X7_apart_27 : nth t_X7_apart 27 = aB (fun x y => x + y) 28 := (y_X7_apart_1 5).trans rfl
theorem n_X7_apart_28 : nth t_X7_apart 28 = aCalV 241 2 31 [6] none := (y_X7_apart_1 6).trans rfl
theorem n_X7_apart_31 : nth t_X7_apart 31 = aGoto 35 := (y_X7_apart_1 9).trans rfl
theorem n_X7_apart_34 : nth t_X7_apart 34 = aK (.int (-1)) 35 := (y_X7_apart_1 12).trans rfl
theorem n_X7_apart_35 : nth t_X7_apart 35 = aRetI := (y_X7_apart_1 13).trans rfl
theorem n_X7_differ_0 : nth t_X7_differ 0 = aLdA 0 1 := rfl
theorem n_X7_differ_1 : nth t_X7_differ 1 = aGetR 17 [6] 4 := rfl
theorem n_X7_differ_4 : nth t_X7_differ 4 = aLdI 1 5 := rfl
theorem n_X7_differ_5 : nth t_X7_differ 5 = aAldI 6 := rfl
theorem n_X7_differ_6 : nth t_X7_differ 6 = aLdA 0 7 := rfl
theorem n_X7_differ_7 : nth t_X7_differ 7 = aGetR 17 [6] 10 := rfl
theorem n_X7_differ_10 : nth t_X7_differ 10 = aLdI 2 11 := rfl
theorem n_X7_differ_11 : nth t_X7_differ 11 = aAldI 12 := rfl
theorem n_X7_differ_12 : nth t_X7_differ 12 = aB (fun x y => x + y) 13 := rfl
theorem n_X7_differ_13 : nth t_X7_differ 13 = aStI 3 14 := rfl
theorem n_X7_differ_14 : nth t_X7_differ 14 = aK (.int 0) 15 := rfl
theorem n_X7_differ_15 : nth t_X7_differ 15 = aStI 4 17 := rfl
theorem y_X7_differ_1 (n : Nat) : nth t_X7_differ (n + 17) = nth t_X7_differ_c1 n := rfl
theorem n_X7_differ_17 : nth t_X7_differ 17 = aLdI 4 19 := (y_X7_differ_1 0).trans rfl
theorem n_X7_differ_19 : nth t_X7_differ 19 = aLdA 0 20 := (y_X7_differ_1 2).trans rfl
theorem n_X7_differ_20 : nth t_X7_differ 20 = aGetR 17 [6] 23 := (y_X7_differ_1 3).trans rfl
theorem n_X7_differ_23 : nth t_X7_differ 23 = aLdI 2 24 := (y_X7_differ_1 6).trans rfl
theorem n_X7_differ_24 : nth t_X7_differ 24 = aAldI 25 := (y_X7_differ_1 7).trans rfl
theorem n_X7_differ_25 : nth t_X7_differ 25 = aIcLt 28 42 := (y_X7_differ_1 8).trans rfl
theorem n_X7_differ_28 : nth t_X7_differ 28 = aLdA 0 29 := (y_X7_differ_1 11).trans rfl
theorem n_X7_differ_29 : nth t_X7_differ 29 = aGetR 91 [6] 32 := (y_X7_differ_1 12).trans rfl
theorem n_X7_differ_32 : nth t_X7_differ 32 = aLdI 4 34 := (y_X7_differ_1 15).trans rfl
theorem n_X7_differ_34 : nth t_X7_differ 34 = aK (.int 0) 35 := (y_X7_differ_1 17).trans rfl
theorem n_X7_differ_35 : nth t_X7_differ 35 = aAstB 36 := (y_X7_differ_1 18).trans rfl
theorem n_X7_differ_36 : nth t_X7_differ 36 = aInc 4 1 39 := (y_X7_differ_1 19).trans rfl
theorem y_X7_differ_2 (n : Nat) : nth t_X7_differ (n + 39) = nth t_X7_differ_c2 n := (y_X7_differ_1 (n + 22)).trans rfl
theorem n_X7_differ_39 : nth t_X7_differ 39 = aGoto 17 := (y_X7_differ_2 0).trans rfl
theorem n_X7_differ_42 : nth t_X7_differ 42 = aK (.int 0) 43 := (y_X7_differ_2 3).trans rfl
theorem n_X7_differ_43 : nth t_X7_differ 43 = aStI 4 45 := (y_X7_differ_2 4).trans rfl
theorem n_X7_differ_45 : nth t_X7_differ 45 = aLdI 4 47 := (y_X7_differ_2 6).trans rfl
theorem n_X7_differ_47 : nth t_X7_differ 47 = aLdA 0 48 := (y_X7_differ_2 8).trans rfl
theorem n_X7_differ_48 : nth t_X7_differ 48 = aGetR 17 [6] 51 := (y_X7_differ_2 9).trans rfl
theorem n_X7_differ_51 : nth t_X7_differ 51 = aLdI 1 52 := (y_X7_differ_2 12).trans rfl
theorem n_X7_differ_52 : nth t_X7_differ 52 = aAldI 53 := (y_X7_differ_2 13).trans rfl
theorem n_X7_differ_53 : nth t_X7_differ 53 = aIcLt 56 168 := (y_X7_differ_2 14).trans rfl
theorem n_X7_differ_56 : nth t_X7_differ 56 = aK (.int 0) 57 := (y_X7_differ_2 17).trans rfl
theorem n_X7_differ_57 : nth t_X7_differ 57 = aStI 5 59 := (y_X7_differ_2 18).trans rfl
theorem n_X7_differ_59 : nth t_X7_differ 59 = aK (.int 0) 60 := (y_X7_differ_2 20).trans rfl
theorem y_X7_differ_3 (n : Nat) : nth t_X7_differ (n + 60) = nth t_X7_differ_c3 n := (y_X7_differ_2 (n + 21)).trans rfl
theorem n_X7_differ_60 : nth t_X7_differ 60 = aStI 6 62 := (y_X7_differ_3 0).trans rfl
theorem n_X7_differ_62 : nth t_X7_differ 62 = aLdI 6 64 := (y_X7_differ_3 2).trans rfl
theorem n_X7_differ_64 : nth t_X7_differ 64 = aLdA 0 65 := (y_X7_differ_3 4).trans rfl
theorem n_X7_differ_65 : nth t_X7_differ 65 = aGetR 17 [6] 68 := (y_X7_differ_3 5).trans rfl
theorem n_X7_differ_68 : nth t_X7_differ 68 = aLdI 2 69 := (y_X7_differ_3 8).trans rfl
theorem n_X7_differ_69 : nth t_X7_differ 69 = aAldI 70 := (y_X7_differ_3 9).trans rfl
theorem n_X7_differ_70 : nth t_X7_differ 70 = aIcLt 73 149 := (y_X7_differ_3 10).trans rfl
theorem n_X7_differ_73 : nth t_X7_differ 73 = aLdI 5 75 := (y_X7_differ_3 13).trans rfl
theorem n_X7_differ_75 : nth t_X7_differ 75 = aIfEq 78 149 := (y_X7_differ_3 15).trans rfl
theorem n_X7_differ_78 : nth t_X7_differ 78 = aLdA 0 79 := (y_X7_differ_3 18).trans rfl
theorem n_X7_differ_79 : nth t_X7_differ 79 = aGetR 91 [6] 82 := (y_X7_differ_3 19).trans rfl
theorem n_X7_differ_82 : nth t_X7_differ 82 = aLdI 6 84 := (y_X7_differ_3 22).trans rfl
theorem y_X7_differ_4 (n : Nat) : nth t_X7_differ (n + 84) = nth t_X7_differ_c4 n := (y_X7_differ_3 (n + 24)).trans rfl
theorem n_X7_differ_84 : nth t_X7_differ 84 = aAldB 85 := (y_X7_differ_4 0).trans rfl
theorem n_X7_differ_85 : nth t_X7_differ 85 = aIfEq 88 113 := (y_X7_differ_4 1).trans rfl
theorem n_X7_differ_88 : nth t_X7_differ 88 = aLdA 0 89 := (y_X7_differ_4 4).trans rfl
theorem n_X7_differ_89 : nth t_X7_differ 89 = aK (.int 60) 91 := (y_X7_differ_4 5).trans rfl
theorem n_X7_differ_91 : nth t_X7_differ 91 = aLdI 1 92 := (y_X7_differ_4 7).trans rfl
theorem n_X7_differ_92 : nth t_X7_differ 92 = aB (fun x y => x * y) 93 := (y_X7_differ_4 8).trans rfl
theorem n_X7_differ_93 : nth t_X7_differ 93 = aLdI 4 95 := (y_X7_differ_4 9).trans rfl
theorem n_X7_differ_95 : nth t_X7_differ 95 = aB (fun x y => x + y) 96 := (y_X7_differ_4 11).trans rfl
theorem n_X7_differ_96 : nth t_X7_differ 96 = aK (.int 60) 98 := (y_X7_differ_4 12).trans rfl
theorem n_X7_differ_98 : nth t_X7_differ 98 = aLdI 2 99 := (y_X7_differ_4 14).trans rfl
theorem n_X7_differ_99 : nth t_X7_differ 99 = aB (fun x y => x * y) 100 := (y_X7_differ_4 15).trans rfl
theorem n_X7_differ_100 : nth t_X7_differ 100 = aLdI 6 102 := (y_X7_differ_4 16).trans rfl
theorem y_X7_differ_5 (n : Nat) : nth t_X7_differ (n + 102) = nth t_X7_differ_c5 n := (y_X7_differ_4 (n + 18)).trans rfl
theorem n_X7_differ_102 : nth t_X7_differ 102 = aB (fun x y => x + y) 103 := (y_X7_differ_5 0).trans rfl
theorem n_X7_differ_103 : nth t_X7_differ 103 = aCalV 242 2 106 [6] none := (y_X7_differ_5 1).trans rfl
theorem n_X7_differ_106 : nth t_X7_differ 106 = aIfEq 113 109 := (y_X7_differ_5 4).trans rfl
theorem n_X7_differ_109 : nth t_X7_differ 109 = aK (.int 1) 110 := (y_X7_differ_5 7).trans rfl
theorem n_X7_differ_110 : nth t_X7_differ 110 = aGoto 114 := (y_X7_differ_5 8).trans rfl
theorem n_X7_differ_113 : nth t_X7_differ 113 = aK (.int 0) 114 := (y_X7_differ_5 11).trans rfl
theorem n_X7_differ_114 : nth t_X7_differ 114 = aStI 5 116 := (y_X7_differ_5 12).trans rfl
theorem n_X7_differ_116 : nth t_X7_differ 116 = aLdA 0 117 := (y_X7_differ_5 14).trans rfl
theorem n_X7_differ_117 : nth t_X7_differ 117 = aGetR 91 [6] 120 := (y_X7_differ_5 15).trans rfl
theorem n_X7_differ_120 : nth t_X7_differ 120 = aLdI 6 122 := (y_X7_differ_5 18).trans rfl
theorem n_X7_differ_122 : nth t_X7_differ 122 = aLdA 0 123 := (y_X7_differ_5 20).trans rfl
theorem n_X7_differ_123 : nth t_X7_differ 123 = aGetR 91 [6] 126 := (y_X7_differ_5 21).trans rfl
theorem y_X7_differ_6 (n : Nat) : nth t_X7_differ (n + 126) = nth t_X7_differ_c6 n := (y_X7_differ_5 (n + 24)).trans rfl
theorem n_X7_differ_126 : nth t_X7_differ 126 = aLdI 6 128 := (y_X7_differ_6 0).trans rfl
theorem n_X7_differ_128 : nth t_X7_differ 128 = aAldB 129 := (y_X7_differ_6 2).trans rfl
theorem n_X7_differ_129 : nth t_X7_differ 129 = aIfEq 132 137 := (y_X7_differ_6 3).trans rfl
theorem n_X7_differ_132 : nth t_X7_differ 132 = aLdI 5 134 := (y_X7_differ_6 6).trans rfl
theorem n_X7_differ_134 : nth t_X7_differ 134 = aIfEq 141 137 := (y_X7_differ_6 8).trans rfl
theorem n_X7_differ_137 : nth t_X7_differ 137 = aK (.int 1) 138 := (y_X7_differ_6 11).trans rfl
theorem n_X7_differ_138 : nth t_X7_differ 138 = aGoto 142 := (y_X7_differ_6 12).trans rfl
theorem n_X7_differ_141 : nth t_X7_differ 141 = aK (.int 0) 142 := (y_X7_differ_6 15).trans rfl
theorem n_X7_differ_142 : nth t_X7_differ 142 = aAstB 143 := (y_X7_differ_6 16).trans rfl
theorem n_X7_differ_143 : nth t_X7_differ 143 = aInc 6 1 146 := (y_X7_differ_6 17).trans rfl
theorem n_X7_differ_146 : nth t_X7_differ 146 = aGoto 62 := (y_X7_differ_6 20).trans rfl
theorem n_X7_differ_149 : nth t_X7_differ 149 = aLdI 3 150 := (y_X7_differ_6 23).trans rfl
theorem y_X7_differ_7 (n : Nat) : nth t_X7_differ (n + 150) = nth t_X7_differ_c7 n := (y_X7_differ_6 (n + 24)).trans rfl
theorem n_X7_differ_150 : nth t_X7_differ 150 = aLdI 5 152 := (y_X7_differ_7 0).trans rfl
theorem n_X7_differ_152 : nth t_X7_differ 152 = aIfEq 159 155 := (y_X7_differ_7 2).trans rfl
theorem n_X7_differ_155 : nth t_X7_differ 155 = aK (.int 2) 156 := (y_X7_differ_7 5).trans rfl
theorem n_X7_differ_156 : nth t_X7_differ 156 = aGoto 160 := (y_X7_differ_7 6).trans rfl
theorem n_X7_differ_159 : nth t_X7_differ 159 = aK (.int 0) 160 := (y_X7_differ_7 9).trans rfl
theorem n_X7_differ_160 : nth t_X7_differ 160 = aB (fun x y => x - y) 161 := (y_X7_differ_7 10).trans rfl
theorem n_X7_differ_161 : nth t_X7_differ 161 = aStI 3 162 := (y_X7_differ_7 11).trans rfl
theorem n_X7_differ_162 : nth t_X7_differ 162 = aInc 4 1 165 := (y_X7_differ_7 12).trans rfl
theorem n_X7_differ_165 : nth t_X7_differ 165 = aGoto 45 := (y_X7_differ_7 15).trans rfl
theorem n_X7_differ_168 : nth t_X7_differ 168 = aLdI 3 169 := (y_X7_differ_7 18).trans rfl
theorem n_X7_differ_169 : nth t_X7_differ 169 = aRetI := (y_X7_differ_7 19).trans rfl
theorem n_X7_isOne_0 : nth t_X7_isOne 0 = aLdA 0 1 := rfl
theorem n_X7_isOne_1 : nth t_X7_isOne 1 = aGetR 15 [6] 4 := rfl
theorem n_X7_isOne_4 : nth t_X7_isOne 4 = aLdI 1 5 := rfl
theorem n_X7_isOne_5 : nth t_X7_isOne 5 = aAldI 6 := rfl
theorem n_X7_isOne_6 : nth t_X7_isOne 6 = aLdA 0 7 := rfl
theorem n_X7_isOne_7 : nth t_X7_isOne 7 = aGetR 15 [6] 10 := rfl
theorem n_X7_isOne_10 : nth t_X7_isOne 10 = aLdI 2 11 := rfl
theorem n_X7_isOne_11 : nth t_X7_isOne 11 = aAldI 12 := rfl
theorem n_X7_isOne_12 : nth t_X7_isOne 12 = aIcEq 15 30 := rfl
theorem n_X7_isOne_15 : nth t_X7_isOne 15 = aLdA 0 16 := rfl
theorem n_X7_isOne_16 : nth t_X7_isOne 16 = aGetR 16 [6] 19 := rfl
theorem n_X7_isOne_19 : nth t_X7_isOne 19 = aLdI 1 20 := rfl
theorem y_X7_isOne_1 (n : Nat) : nth t_X7_isOne (n + 20) = nth t_X7_isOne_c1 n := rfl
theorem n_X7_isOne_20 : nth t_X7_isOne 20 = aAldI 21 := (y_X7_isOne_1 0).trans rfl
theorem n_X7_isOne_21 : nth t_X7_isOne 21 = aLdA 0 22 := (y_X7_isOne_1 1).trans rfl
theorem n_X7_isOne_22 : nth t_X7_isOne 22 = aGetR 16 [6] 25 := (y_X7_isOne_1 2).trans rfl
theorem n_X7_isOne_25 : nth t_X7_isOne 25 = aLdI 2 26 := (y_X7_isOne_1 5).trans rfl
theorem n_X7_isOne_26 : nth t_X7_isOne 26 = aAldI 27 := (y_X7_isOne_1 6).trans rfl
theorem n_X7_isOne_27 : nth t_X7_isOne 27 = aIcEq 60 30 := (y_X7_isOne_1 7).trans rfl
theorem n_X7_isOne_30 : nth t_X7_isOne 30 = aLdA 0 31 := (y_X7_isOne_1 10).trans rfl
theorem n_X7_isOne_31 : nth t_X7_isOne 31 = aGetR 15 [6] 34 := (y_X7_isOne_1 11).trans rfl
theorem n_X7_isOne_34 : nth t_X7_isOne 34 = aLdI 1 35 := (y_X7_isOne_1 14).trans rfl
theorem n_X7_isOne_35 : nth t_X7_isOne 35 = aAldI 36 := (y_X7_isOne_1 15).trans rfl
theorem n_X7_isOne_36 : nth t_X7_isOne 36 = aLdA 0 37 := (y_X7_isOne_1 16).trans rfl
theorem n_X7_isOne_37 : nth t_X7_isOne 37 = aGetR 16 [6] 40 := (y_X7_isOne_1 17).trans rfl
theorem y_X7_isOne_2 (n : Nat) : nth t_X7_isOne (n + 40) = nth t_X7_isOne_c2 n := (y_X7_isOne_1 (n + 20)).trans rfl
theorem n_X7_isOne_40 : nth t_X7_isOne 40 = aLdI 2 41 := (y_X7_isOne_2 0).trans rfl
theorem n_X7_isOne_41 : nth t_X7_isOne 41 = aAldI 42 := (y_X7_isOne_2 1).trans rfl
theorem n_X7_isOne_42 : nth t_X7_isOne 42 = aIcEq 45 64 := (y_X7_isOne_2 2).trans rfl
theorem n_X7_isOne_45 : nth t_X7_isOne 45 = aLdA 0 46 := (y_X7_isOne_2 5).trans rfl
theorem n_X7_isOne_46 : nth t_X7_isOne 46 = aGetR 16 [6] 49 := (y_X7_isOne_2 6).trans rfl
theorem n_X7_isOne_49 : nth t_X7_isOne 49 = aLdI 1 50 := (y_X7_isOne_2 9).trans rfl
theorem n_X7_isOne_50 : nth t_X7_isOne 50 = aAldI 51 := (y_X7_isOne_2 10).trans rfl
theorem n_X7_isOne_51 : nth t_X7_isOne 51 = aLdA 0 52 := (y_X7_isOne_2 11).trans rfl
theorem n_X7_isOne_52 : nth t_X7_isOne 52 = aGetR 15 [6] 55 := (y_X7_isOne_2 12).trans rfl
theorem n_X7_isOne_55 : nth t_X7_isOne 55 = aLdI 2 56 := (y_X7_isOne_2 15).trans rfl
theorem n_X7_isOne_56 : nth t_X7_isOne 56 = aAldI 57 := (y_X7_isOne_2 16).trans rfl
theorem n_X7_isOne_57 : nth t_X7_isOne 57 = aIcEq 60 64 := (y_X7_isOne_2 17).trans rfl
theorem y_X7_isOne_3 (n : Nat) : nth t_X7_isOne (n + 60) = nth t_X7_isOne_c3 n := (y_X7_isOne_2 (n + 20)).trans rfl
theorem n_X7_isOne_60 : nth t_X7_isOne 60 = aK (.int 1) 61 := (y_X7_isOne_3 0).trans rfl
theorem n_X7_isOne_61 : nth t_X7_isOne 61 = aGoto 65 := (y_X7_isOne_3 1).trans rfl
theorem n_X7_isOne_64 : nth t_X7_isOne 64 = aK (.int 0) 65 := (y_X7_isOne_3 4).trans rfl
theorem n_X7_isOne_65 : nth t_X7_isOne 65 = aRetZ := (y_X7_isOne_3 5).trans rfl
theorem n_X7_friday_0 : nth t_X7_friday 0 = aLdA 0 1 := rfl
theorem n_X7_friday_1 : nth t_X7_friday 1 = aK (.int 0) 2 := rfl
theorem n_X7_friday_2 : nth t_X7_friday 2 = aPutI 0 [6] 5 := rfl
theorem n_X7_friday_5 : nth t_X7_friday 5 = aLdA 0 6 := rfl
theorem n_X7_friday_6 : nth t_X7_friday 6 = aCalV 152 0 9 [6] none := rfl
theorem n_X7_friday_9 : nth t_X7_friday 9 = aLdA 0 10 := rfl
theorem n_X7_friday_10 : nth t_X7_friday 10 = aGetI 3 [6] 13 := rfl
theorem n_X7_friday_13 : nth t_X7_friday 13 = aK (.int 5) 14 := rfl
theorem n_X7_friday_14 : nth t_X7_friday 14 = aDiv 15 := rfl
theorem n_X7_friday_15 : nth t_X7_friday 15 = aStI 1 16 := rfl
theorem n_X7_friday_16 : nth t_X7_friday 16 = aLdA 0 17 := rfl
theorem n_X7_friday_17 : nth t_X7_friday 17 = aGetI 3 [6] 20 := rfl
theorem y_X7_friday_1 (n : Nat) : nth t_X7_friday (n + 20) = nth t_X7_friday_c1 n := rfl
theorem n_X7_friday_20 : nth t_X7_friday 20 = aK (.int 5) 21 := (y_X7_friday_1 0).trans rfl
theorem n_X7_friday_21 : nth t_X7_friday 21 = aRem 22 := (y_X7_friday_1 1).trans rfl
theorem n_X7_friday_22 : nth t_X7_friday 22 = aIfEq 25 35 := (y_X7_friday_1 2).trans rfl
theorem n_X7_friday_25 : nth t_X7_friday 25 = aLdI 1 26 := (y_X7_friday_1 5).trans rfl
theorem n_X7_friday_26 : nth t_X7_friday 26 = aK (.int 1) 27 := (y_X7_friday_1 6).trans rfl
theorem n_X7_friday_27 : nth t_X7_friday 27 = aK (.int 6) 29 := (y_X7_friday_1 7).trans rfl
theorem n_X7_friday_29 : nth t_X7_friday 29 = aCalS 154 3 32 none := (y_X7_friday_1 9).trans rfl
theorem n_X7_friday_32 : nth t_X7_friday 32 = aIfEq 35 38 := (y_X7_friday_1 12).trans rfl
theorem n_X7_friday_35 : nth t_X7_friday 35 = aK (.int (-2)) 37 := (y_X7_friday_1 15).trans rfl
theorem n_X7_friday_37 : nth t_X7_friday 37 = aRetI := (y_X7_friday_1 17).trans rfl
theorem n_X7_friday_38 : nth t_X7_friday 38 = aK (.int 0) 39 := (y_X7_friday_1 18).trans rfl
theorem n_X7_friday_39 : nth t_X7_friday 39 = aStI 2 40 := (y_X7_friday_1 19).trans rfl
theorem y_X7_friday_2 (n : Nat) : nth t_X7_friday (n + 40) = nth t_X7_friday_c2 n := (y_X7_friday_1 (n + 20)).trans rfl
theorem n_X7_friday_40 : nth t_X7_friday 40 = aLdI 2 41 := (y_X7_friday_2 0).trans rfl
theorem n_X7_friday_41 : nth t_X7_friday 41 = aLdI 1 42 := (y_X7_friday_2 1).trans rfl
theorem n_X7_friday_42 : nth t_X7_friday 42 = aIcLt 45 68 := (y_X7_friday_2 2).trans rfl
theorem n_X7_friday_45 : nth t_X7_friday 45 = aLdA 0 46 := (y_X7_friday_2 5).trans rfl
theorem n_X7_friday_46 : nth t_X7_friday 46 = aLdA 0 47 := (y_X7_friday_2 6).trans rfl
theorem n_X7_friday_47 : nth t_X7_friday 47 = aK (.int 5) 48 := (y_X7_friday_2 7).trans rfl
theorem n_X7_friday_48 : nth t_X7_friday 48 = aLdI 2 49 := (y_X7_friday_2 8).trans rfl
theorem n_X7_friday_49 : nth t_X7_friday 49 = aB (fun x y => x * y) 50 := (y_X7_friday_2 9).trans rfl
theorem n_X7_friday_50 : nth t_X7_friday 50 = aCalV 155 1 53 [6] none := (y_X7_friday_2 10).trans rfl
theorem n_X7_friday_53 : nth t_X7_friday 53 = aCalV 239 1 56 [6] none := (y_X7_friday_2 13).trans rfl
theorem n_X7_friday_56 : nth t_X7_friday 56 = aIfEq 59 62 := (y_X7_friday_2 16).trans rfl
theorem n_X7_friday_59 : nth t_X7_friday 59 = aK (.int (-2)) 61 := (y_X7_friday_2 19).trans rfl
theorem y_X7_friday_3 (n : Nat) : nth t_X7_friday (n + 61) = nth t_X7_friday_c3 n := (y_X7_friday_2 (n + 21)).trans rfl
theorem n_X7_friday_61 : nth t_X7_friday 61 = aRetI := (y_X7_friday_3 0).trans rfl
theorem n_X7_friday_62 : nth t_X7_friday 62 = aInc 2 1 65 := (y_X7_friday_3 1).trans rfl
theorem n_X7_friday_65 : nth t_X7_friday 65 = aGoto 40 := (y_X7_friday_3 4).trans rfl
theorem n_X7_friday_68 : nth t_X7_friday 68 = aK (.int (-1)) 69 := (y_X7_friday_3 7).trans rfl
theorem n_X7_friday_69 : nth t_X7_friday 69 = aStI 2 70 := (y_X7_friday_3 8).trans rfl
theorem n_X7_friday_70 : nth t_X7_friday 70 = aK (.int 1) 71 := (y_X7_friday_3 9).trans rfl
theorem n_X7_friday_71 : nth t_X7_friday 71 = aStI 3 72 := (y_X7_friday_3 10).trans rfl
theorem n_X7_friday_72 : nth t_X7_friday 72 = aK (.int 2) 73 := (y_X7_friday_3 11).trans rfl
theorem n_X7_friday_73 : nth t_X7_friday 73 = aStI 4 75 := (y_X7_friday_3 12).trans rfl
theorem n_X7_friday_75 : nth t_X7_friday 75 = aLdI 4 77 := (y_X7_friday_3 14).trans rfl
theorem n_X7_friday_77 : nth t_X7_friday 77 = aLdI 1 78 := (y_X7_friday_3 16).trans rfl
theorem n_X7_friday_78 : nth t_X7_friday 78 = aIcLe 81 92 := (y_X7_friday_3 17).trans rfl
theorem y_X7_friday_4 (n : Nat) : nth t_X7_friday (n + 81) = nth t_X7_friday_c4 n := (y_X7_friday_3 (n + 20)).trans rfl
theorem n_X7_friday_81 : nth t_X7_friday 81 = aLdI 3 82 := (y_X7_friday_4 0).trans rfl
theorem n_X7_friday_82 : nth t_X7_friday 82 = aLdI 4 84 := (y_X7_friday_4 1).trans rfl
theorem n_X7_friday_84 : nth t_X7_friday 84 = aB (fun x y => x * y) 85 := (y_X7_friday_4 3).trans rfl
theorem n_X7_friday_85 : nth t_X7_friday 85 = aStI 3 86 := (y_X7_friday_4 4).trans rfl
theorem n_X7_friday_86 : nth t_X7_friday 86 = aInc 4 1 89 := (y_X7_friday_4 5).trans rfl
theorem n_X7_friday_89 : nth t_X7_friday 89 = aGoto 75 := (y_X7_friday_4 8).trans rfl
theorem n_X7_friday_92 : nth t_X7_friday 92 = aK (.int 0) 93 := (y_X7_friday_4 11).trans rfl
theorem n_X7_friday_93 : nth t_X7_friday 93 = aStI 4 95 := (y_X7_friday_4 12).trans rfl
theorem n_X7_friday_95 : nth t_X7_friday 95 = aLdI 4 97 := (y_X7_friday_4 14).trans rfl
theorem n_X7_friday_97 : nth t_X7_friday 97 = aLdI 3 98 := (y_X7_friday_4 16).trans rfl
theorem n_X7_friday_98 : nth t_X7_friday 98 = aIcLt 101 177 := (y_X7_friday_4 17).trans rfl
theorem n_X7_friday_101 : nth t_X7_friday 101 = aLdA 0 102 := (y_X7_friday_4 20).trans rfl
theorem y_X7_friday_5 (n : Nat) : nth t_X7_friday (n + 102) = nth t_X7_friday_c5 n := (y_X7_friday_4 (n + 21)).trans rfl
theorem n_X7_friday_102 : nth t_X7_friday 102 = aLdI 4 104 := (y_X7_friday_5 0).trans rfl
theorem n_X7_friday_104 : nth t_X7_friday 104 = aLdI 1 105 := (y_X7_friday_5 2).trans rfl
theorem n_X7_friday_105 : nth t_X7_friday 105 = aLdI 3 106 := (y_X7_friday_5 3).trans rfl
theorem n_X7_friday_106 : nth t_X7_friday 106 = aCalV 244 3 109 [6] none := (y_X7_friday_5 4).trans rfl
theorem n_X7_friday_109 : nth t_X7_friday 109 = aLdA 0 110 := (y_X7_friday_5 7).trans rfl
theorem n_X7_friday_110 : nth t_X7_friday 110 = aLdI 1 111 := (y_X7_friday_5 8).trans rfl
theorem n_X7_friday_111 : nth t_X7_friday 111 = aCalV 245 1 114 [6] none := (y_X7_friday_5 9).trans rfl
theorem n_X7_friday_114 : nth t_X7_friday 114 = aStI 5 116 := (y_X7_friday_5 12).trans rfl
theorem n_X7_friday_116 : nth t_X7_friday 116 = aLdI 5 118 := (y_X7_friday_5 14).trans rfl
theorem n_X7_friday_118 : nth t_X7_friday 118 = aIfLt 171 121 := (y_X7_friday_5 16).trans rfl
theorem n_X7_friday_121 : nth t_X7_friday 121 = aLdI 2 122 := (y_X7_friday_5 19).trans rfl
theorem n_X7_friday_122 : nth t_X7_friday 122 = aIfLt 134 125 := (y_X7_friday_5 20).trans rfl
theorem y_X7_friday_6 (n : Nat) : nth t_X7_friday (n + 125) = nth t_X7_friday_c6 n := (y_X7_friday_5 (n + 23)).trans rfl
theorem n_X7_friday_125 : nth t_X7_friday 125 = aLdI 5 127 := (y_X7_friday_6 0).trans rfl
theorem n_X7_friday_127 : nth t_X7_friday 127 = aLdI 2 128 := (y_X7_friday_6 2).trans rfl
theorem n_X7_friday_128 : nth t_X7_friday 128 = aIcLt 134 131 := (y_X7_friday_6 3).trans rfl
theorem n_X7_friday_131 : nth t_X7_friday 131 = aGoto 171 := (y_X7_friday_6 6).trans rfl
theorem n_X7_friday_134 : nth t_X7_friday 134 = aLdI 5 136 := (y_X7_friday_6 9).trans rfl
theorem n_X7_friday_136 : nth t_X7_friday 136 = aStI 2 137 := (y_X7_friday_6 11).trans rfl
theorem n_X7_friday_137 : nth t_X7_friday 137 = aLdA 0 138 := (y_X7_friday_6 12).trans rfl
theorem n_X7_friday_138 : nth t_X7_friday 138 = aLdI 1 139 := (y_X7_friday_6 13).trans rfl
theorem n_X7_friday_139 : nth t_X7_friday 139 = aPutI 90 [6] 142 := (y_X7_friday_6 14).trans rfl
theorem n_X7_friday_142 : nth t_X7_friday 142 = aK (.int 0) 143 := (y_X7_friday_6 17).trans rfl
theorem n_X7_friday_143 : nth t_X7_friday 143 = aStI 6 145 := (y_X7_friday_6 18).trans rfl
theorem n_X7_friday_145 : nth t_X7_friday 145 = aLdI 6 147 := (y_X7_friday_6 20).trans rfl
theorem y_X7_friday_7 (n : Nat) : nth t_X7_friday (n + 147) = nth t_X7_friday_c7 n := (y_X7_friday_6 (n + 22)).trans rfl
theorem n_X7_friday_147 : nth t_X7_friday 147 = aLdI 1 148 := (y_X7_friday_7 0).trans rfl
theorem n_X7_friday_148 : nth t_X7_friday 148 = aIcLt 151 171 := (y_X7_friday_7 1).trans rfl
theorem n_X7_friday_151 : nth t_X7_friday 151 = aLdA 0 152 := (y_X7_friday_7 4).trans rfl
theorem n_X7_friday_152 : nth t_X7_friday 152 = aGetR 89 [6] 155 := (y_X7_friday_7 5).trans rfl
theorem n_X7_friday_155 : nth t_X7_friday 155 = aLdI 6 157 := (y_X7_friday_7 8).trans rfl
theorem n_X7_friday_157 : nth t_X7_friday 157 = aLdA 0 158 := (y_X7_friday_7 10).trans rfl
theorem n_X7_friday_158 : nth t_X7_friday 158 = aGetR 88 [6] 161 := (y_X7_friday_7 11).trans rfl
theorem n_X7_friday_161 : nth t_X7_friday 161 = aLdI 6 163 := (y_X7_friday_7 14).trans rfl
theorem n_X7_friday_163 : nth t_X7_friday 163 = aAldI 164 := (y_X7_friday_7 16).trans rfl
theorem n_X7_friday_164 : nth t_X7_friday 164 = aAstI 165 := (y_X7_friday_7 17).trans rfl
theorem n_X7_friday_165 : nth t_X7_friday 165 = aInc 6 1 168 := (y_X7_friday_7 18).trans rfl
theorem n_X7_friday_168 : nth t_X7_friday 168 = aGoto 145 := (y_X7_friday_7 21).trans rfl
theorem y_X7_friday_8 (n : Nat) : nth t_X7_friday (n + 171) = nth t_X7_friday_c8 n := (y_X7_friday_7 (n + 24)).trans rfl
theorem n_X7_friday_171 : nth t_X7_friday 171 = aInc 4 1 174 := (y_X7_friday_8 0).trans rfl
theorem n_X7_friday_174 : nth t_X7_friday 174 = aGoto 95 := (y_X7_friday_8 3).trans rfl
theorem n_X7_friday_177 : nth t_X7_friday 177 = aLdI 2 178 := (y_X7_friday_8 6).trans rfl
theorem n_X7_friday_178 : nth t_X7_friday 178 = aRetI := (y_X7_friday_8 7).trans rfl
theorem n_X7_spell_0 : nth t_X7_spell 0 = aK (.int 0) 1 := rfl
theorem n_X7_spell_1 : nth t_X7_spell 1 = aStI 4 3 := rfl
theorem n_X7_spell_3 : nth t_X7_spell 3 = aLdI 1 4 := rfl
theorem n_X7_spell_4 : nth t_X7_spell 4 = aStI 5 6 := rfl
theorem n_X7_spell_6 : nth t_X7_spell 6 = aLdI 3 7 := rfl
theorem n_X7_spell_7 : nth t_X7_spell 7 = aStI 6 9 := rfl
theorem n_X7_spell_9 : nth t_X7_spell 9 = aK (.int 0) 10 := rfl
theorem n_X7_spell_10 : nth t_X7_spell 10 = aStI 7 12 := rfl
theorem n_X7_spell_12 : nth t_X7_spell 12 = aLdI 7 14 := rfl
theorem n_X7_spell_14 : nth t_X7_spell 14 = aLdI 2 15 := rfl
theorem n_X7_spell_15 : nth t_X7_spell 15 = aIcLt 18 111 := rfl
theorem n_X7_spell_18 : nth t_X7_spell 18 = aLdI 6 20 := rfl
theorem y_X7_spell_1 (n : Nat) : nth t_X7_spell (n + 20) = nth t_X7_spell_c1 n := rfl
theorem n_X7_spell_20 : nth t_X7_spell 20 = aLdI 2 21 := (y_X7_spell_1 0).trans rfl
theorem n_X7_spell_21 : nth t_X7_spell 21 = aLdI 7 23 := (y_X7_spell_1 1).trans rfl
theorem n_X7_spell_23 : nth t_X7_spell 23 = aB (fun x y => x - y) 24 := (y_X7_spell_1 3).trans rfl
theorem n_X7_spell_24 : nth t_X7_spell 24 = aDiv 25 := (y_X7_spell_1 4).trans rfl
theorem n_X7_spell_25 : nth t_X7_spell 25 = aStI 6 27 := (y_X7_spell_1 5).trans rfl
theorem n_X7_spell_27 : nth t_X7_spell 27 = aLdI 5 29 := (y_X7_spell_1 7).trans rfl
theorem n_X7_spell_29 : nth t_X7_spell 29 = aLdI 6 31 := (y_X7_spell_1 9).trans rfl
theorem n_X7_spell_31 : nth t_X7_spell 31 = aDiv 32 := (y_X7_spell_1 11).trans rfl
theorem n_X7_spell_32 : nth t_X7_spell 32 = aStI 8 34 := (y_X7_spell_1 12).trans rfl
theorem n_X7_spell_34 : nth t_X7_spell 34 = aLdI 5 36 := (y_X7_spell_1 14).trans rfl
theorem n_X7_spell_36 : nth t_X7_spell 36 = aLdI 6 38 := (y_X7_spell_1 16).trans rfl
theorem n_X7_spell_38 : nth t_X7_spell 38 = aRem 39 := (y_X7_spell_1 18).trans rfl
theorem y_X7_spell_2 (n : Nat) : nth t_X7_spell (n + 39) = nth t_X7_spell_c2 n := (y_X7_spell_1 (n + 19)).trans rfl
theorem n_X7_spell_39 : nth t_X7_spell 39 = aStI 5 41 := (y_X7_spell_2 0).trans rfl
theorem n_X7_spell_41 : nth t_X7_spell 41 = aK (.int 0) 42 := (y_X7_spell_2 2).trans rfl
theorem n_X7_spell_42 : nth t_X7_spell 42 = aStI 9 44 := (y_X7_spell_2 3).trans rfl
theorem n_X7_spell_44 : nth t_X7_spell 44 = aLdI 4 46 := (y_X7_spell_2 5).trans rfl
theorem n_X7_spell_46 : nth t_X7_spell 46 = aLdI 9 48 := (y_X7_spell_2 7).trans rfl
theorem n_X7_spell_48 : nth t_X7_spell 48 = aB (fun x y => x >>> (y &&& 31)) 49 := (y_X7_spell_2 9).trans rfl
theorem n_X7_spell_49 : nth t_X7_spell 49 = aK (.int 1) 50 := (y_X7_spell_2 10).trans rfl
theorem n_X7_spell_50 : nth t_X7_spell 50 = aB (fun x y => x &&& y) 51 := (y_X7_spell_2 11).trans rfl
theorem n_X7_spell_51 : nth t_X7_spell 51 = aK (.int 1) 52 := (y_X7_spell_2 12).trans rfl
theorem n_X7_spell_52 : nth t_X7_spell 52 = aIcEq 60 55 := (y_X7_spell_2 13).trans rfl
theorem n_X7_spell_55 : nth t_X7_spell 55 = aLdI 8 57 := (y_X7_spell_2 16).trans rfl
theorem n_X7_spell_57 : nth t_X7_spell 57 = aIfLe 87 60 := (y_X7_spell_2 18).trans rfl
theorem y_X7_spell_3 (n : Nat) : nth t_X7_spell (n + 60) = nth t_X7_spell_c3 n := (y_X7_spell_2 (n + 21)).trans rfl
theorem n_X7_spell_60 : nth t_X7_spell 60 = aLdI 8 62 := (y_X7_spell_3 0).trans rfl
theorem n_X7_spell_62 : nth t_X7_spell 62 = aLdI 4 64 := (y_X7_spell_3 2).trans rfl
theorem n_X7_spell_64 : nth t_X7_spell 64 = aLdI 9 66 := (y_X7_spell_3 4).trans rfl
theorem n_X7_spell_66 : nth t_X7_spell 66 = aB (fun x y => x >>> (y &&& 31)) 67 := (y_X7_spell_3 6).trans rfl
theorem n_X7_spell_67 : nth t_X7_spell 67 = aK (.int 1) 68 := (y_X7_spell_3 7).trans rfl
theorem n_X7_spell_68 : nth t_X7_spell 68 = aB (fun x y => x &&& y) 69 := (y_X7_spell_3 8).trans rfl
theorem n_X7_spell_69 : nth t_X7_spell 69 = aK (.int 1) 70 := (y_X7_spell_3 9).trans rfl
theorem n_X7_spell_70 : nth t_X7_spell 70 = aIcEq 73 77 := (y_X7_spell_3 10).trans rfl
theorem n_X7_spell_73 : nth t_X7_spell 73 = aK (.int 0) 74 := (y_X7_spell_3 13).trans rfl
theorem n_X7_spell_74 : nth t_X7_spell 74 = aGoto 78 := (y_X7_spell_3 14).trans rfl
theorem n_X7_spell_77 : nth t_X7_spell 77 = aK (.int 1) 78 := (y_X7_spell_3 17).trans rfl
theorem n_X7_spell_78 : nth t_X7_spell 78 = aB (fun x y => x - y) 79 := (y_X7_spell_3 18).trans rfl
theorem y_X7_spell_4 (n : Nat) : nth t_X7_spell (n + 79) = nth t_X7_spell_c4 n := (y_X7_spell_3 (n + 19)).trans rfl
theorem n_X7_spell_79 : nth t_X7_spell 79 = aStI 8 81 := (y_X7_spell_4 0).trans rfl
theorem n_X7_spell_81 : nth t_X7_spell 81 = aInc 9 1 84 := (y_X7_spell_4 2).trans rfl
theorem n_X7_spell_84 : nth t_X7_spell 84 = aGoto 44 := (y_X7_spell_4 5).trans rfl
theorem n_X7_spell_87 : nth t_X7_spell 87 = aLdA 0 88 := (y_X7_spell_4 8).trans rfl
theorem n_X7_spell_88 : nth t_X7_spell 88 = aGetR 88 [6] 91 := (y_X7_spell_4 9).trans rfl
theorem n_X7_spell_91 : nth t_X7_spell 91 = aLdI 7 93 := (y_X7_spell_4 12).trans rfl
theorem n_X7_spell_93 : nth t_X7_spell 93 = aLdI 9 95 := (y_X7_spell_4 14).trans rfl
theorem n_X7_spell_95 : nth t_X7_spell 95 = aAstI 96 := (y_X7_spell_4 16).trans rfl
theorem n_X7_spell_96 : nth t_X7_spell 96 = aLdI 4 98 := (y_X7_spell_4 17).trans rfl
theorem n_X7_spell_98 : nth t_X7_spell 98 = aK (.int 1) 99 := (y_X7_spell_4 19).trans rfl
theorem n_X7_spell_99 : nth t_X7_spell 99 = aLdI 9 101 := (y_X7_spell_4 20).trans rfl
theorem n_X7_spell_101 : nth t_X7_spell 101 = aB (fun x y => x <<< (y &&& 31)) 102 := (y_X7_spell_4 22).trans rfl
theorem y_X7_spell_5 (n : Nat) : nth t_X7_spell (n + 102) = nth t_X7_spell_c5 n := (y_X7_spell_4 (n + 23)).trans rfl
theorem n_X7_spell_102 : nth t_X7_spell 102 = aB (fun x y => x ||| y) 103 := (y_X7_spell_5 0).trans rfl
theorem n_X7_spell_103 : nth t_X7_spell 103 = aStI 4 105 := (y_X7_spell_5 1).trans rfl
theorem n_X7_spell_105 : nth t_X7_spell 105 = aInc 7 1 108 := (y_X7_spell_5 3).trans rfl
theorem n_X7_spell_108 : nth t_X7_spell 108 = aGoto 12 := (y_X7_spell_5 6).trans rfl
theorem n_X7_spell_111 : nth t_X7_spell 111 = aRetV := (y_X7_spell_5 9).trans rfl
theorem n_X7_ends_0 : nth t_X7_ends 0 = aK (.int 0) 1 := rfl
theorem n_X7_ends_1 : nth t_X7_ends 1 = aStI 2 2 := rfl
theorem n_X7_ends_2 : nth t_X7_ends 2 = aK (.int 0) 3 := rfl
theorem n_X7_ends_3 : nth t_X7_ends 3 = aStI 3 4 := rfl
theorem n_X7_ends_4 : nth t_X7_ends 4 = aLdI 3 5 := rfl
theorem n_X7_ends_5 : nth t_X7_ends 5 = aLdI 1 6 := rfl
theorem n_X7_ends_6 : nth t_X7_ends 6 = aIcLt 9 129 := rfl
theorem n_X7_ends_9 : nth t_X7_ends 9 = aK (.int 5) 10 := rfl
theorem n_X7_ends_10 : nth t_X7_ends 10 = aLdA 0 11 := rfl
theorem n_X7_ends_11 : nth t_X7_ends 11 = aGetR 88 [6] 14 := rfl
theorem n_X7_ends_14 : nth t_X7_ends 14 = aLdI 3 15 := rfl
theorem n_X7_ends_15 : nth t_X7_ends 15 = aAldI 16 := rfl
theorem y_X7_ends_1 (n : Nat) : nth t_X7_ends (n + 16) = nth t_X7_ends_c1 n := rfl
theorem n_X7_ends_16 : nth t_X7_ends 16 = aB (fun x y => x * y) 17 := (y_X7_ends_1 0).trans rfl
theorem n_X7_ends_17 : nth t_X7_ends 17 = aStI 4 19 := (y_X7_ends_1 1).trans rfl
theorem n_X7_ends_19 : nth t_X7_ends 19 = aLdI 2 20 := (y_X7_ends_1 3).trans rfl
theorem n_X7_ends_20 : nth t_X7_ends 20 = aK (.int 2) 21 := (y_X7_ends_1 4).trans rfl
theorem n_X7_ends_21 : nth t_X7_ends 21 = aLdI 3 22 := (y_X7_ends_1 5).trans rfl
theorem n_X7_ends_22 : nth t_X7_ends 22 = aIfEq 25 41 := (y_X7_ends_1 6).trans rfl
theorem n_X7_ends_25 : nth t_X7_ends 25 = aLdA 0 26 := (y_X7_ends_1 9).trans rfl
theorem n_X7_ends_26 : nth t_X7_ends 26 = aGetR 17 [6] 29 := (y_X7_ends_1 10).trans rfl
theorem n_X7_ends_29 : nth t_X7_ends 29 = aK (.int 2) 30 := (y_X7_ends_1 13).trans rfl
theorem n_X7_ends_30 : nth t_X7_ends 30 = aLdA 0 31 := (y_X7_ends_1 14).trans rfl
theorem n_X7_ends_31 : nth t_X7_ends 31 = aLdI 4 33 := (y_X7_ends_1 15).trans rfl
theorem n_X7_ends_33 : nth t_X7_ends 33 = aCalV 155 1 36 [6] none := (y_X7_ends_1 17).trans rfl
theorem y_X7_ends_2 (n : Nat) : nth t_X7_ends (n + 36) = nth t_X7_ends_c2 n := (y_X7_ends_1 (n + 20)).trans rfl
theorem n_X7_ends_36 : nth t_X7_ends 36 = aB (fun x y => x + y) 37 := (y_X7_ends_2 0).trans rfl
theorem n_X7_ends_37 : nth t_X7_ends 37 = aAldI 38 := (y_X7_ends_2 1).trans rfl
theorem n_X7_ends_38 : nth t_X7_ends 38 = aGoto 69 := (y_X7_ends_2 2).trans rfl
theorem n_X7_ends_41 : nth t_X7_ends 41 = aLdA 0 42 := (y_X7_ends_2 5).trans rfl
theorem n_X7_ends_42 : nth t_X7_ends 42 = aK (.int 2) 43 := (y_X7_ends_2 6).trans rfl
theorem n_X7_ends_43 : nth t_X7_ends 43 = aLdA 0 44 := (y_X7_ends_2 7).trans rfl
theorem n_X7_ends_44 : nth t_X7_ends 44 = aK (.int 5) 45 := (y_X7_ends_2 8).trans rfl
theorem n_X7_ends_45 : nth t_X7_ends 45 = aLdA 0 46 := (y_X7_ends_2 9).trans rfl
theorem n_X7_ends_46 : nth t_X7_ends 46 = aGetR 88 [6] 49 := (y_X7_ends_2 10).trans rfl
theorem n_X7_ends_49 : nth t_X7_ends 49 = aLdI 3 50 := (y_X7_ends_2 13).trans rfl
theorem n_X7_ends_50 : nth t_X7_ends 50 = aK (.int 1) 51 := (y_X7_ends_2 14).trans rfl
theorem n_X7_ends_51 : nth t_X7_ends 51 = aB (fun x y => x - y) 52 := (y_X7_ends_2 15).trans rfl
theorem y_X7_ends_3 (n : Nat) : nth t_X7_ends (n + 52) = nth t_X7_ends_c3 n := (y_X7_ends_2 (n + 16)).trans rfl
theorem n_X7_ends_52 : nth t_X7_ends 52 = aAldI 53 := (y_X7_ends_3 0).trans rfl
theorem n_X7_ends_53 : nth t_X7_ends 53 = aB (fun x y => x * y) 54 := (y_X7_ends_3 1).trans rfl
theorem n_X7_ends_54 : nth t_X7_ends 54 = aCalV 155 1 57 [6] none := (y_X7_ends_3 2).trans rfl
theorem n_X7_ends_57 : nth t_X7_ends 57 = aB (fun x y => x + y) 58 := (y_X7_ends_3 5).trans rfl
theorem n_X7_ends_58 : nth t_X7_ends 58 = aK (.int 2) 59 := (y_X7_ends_3 6).trans rfl
theorem n_X7_ends_59 : nth t_X7_ends 59 = aLdA 0 60 := (y_X7_ends_3 7).trans rfl
theorem n_X7_ends_60 : nth t_X7_ends 60 = aLdI 4 62 := (y_X7_ends_3 8).trans rfl
theorem n_X7_ends_62 : nth t_X7_ends 62 = aCalV 155 1 65 [6] none := (y_X7_ends_3 10).trans rfl
theorem n_X7_ends_65 : nth t_X7_ends 65 = aB (fun x y => x + y) 66 := (y_X7_ends_3 13).trans rfl
theorem n_X7_ends_66 : nth t_X7_ends 66 = aCalV 241 2 69 [6] none := (y_X7_ends_3 14).trans rfl
theorem n_X7_ends_69 : nth t_X7_ends 69 = aB (fun x y => x * y) 70 := (y_X7_ends_3 17).trans rfl
theorem n_X7_ends_70 : nth t_X7_ends 70 = aB (fun x y => x + y) 71 := (y_X7_ends_3 18).trans rfl
theorem y_X7_ends_4 (n : Nat) : nth t_X7_ends (n + 71) = nth t_X7_ends_c4 n := (y_X7_ends_3 (n + 19)).trans rfl
theorem n_X7_ends_71 : nth t_X7_ends 71 = aStI 2 72 := (y_X7_ends_4 0).trans rfl
theorem n_X7_ends_72 : nth t_X7_ends 72 = aLdI 2 73 := (y_X7_ends_4 1).trans rfl
theorem n_X7_ends_73 : nth t_X7_ends 73 = aLdA 0 74 := (y_X7_ends_4 2).trans rfl
theorem n_X7_ends_74 : nth t_X7_ends 74 = aLdI 4 76 := (y_X7_ends_4 3).trans rfl
theorem n_X7_ends_76 : nth t_X7_ends 76 = aK (.int 1) 77 := (y_X7_ends_4 5).trans rfl
theorem n_X7_ends_77 : nth t_X7_ends 77 = aB (fun x y => x + y) 78 := (y_X7_ends_4 6).trans rfl
theorem n_X7_ends_78 : nth t_X7_ends 78 = aCalV 155 1 81 [6] none := (y_X7_ends_4 7).trans rfl
theorem n_X7_ends_81 : nth t_X7_ends 81 = aK (.int 256) 84 := (y_X7_ends_4 10).trans rfl
theorem n_X7_ends_84 : nth t_X7_ends 84 = aB (fun x y => x * y) 85 := (y_X7_ends_4 13).trans rfl
theorem n_X7_ends_85 : nth t_X7_ends 85 = aLdA 0 86 := (y_X7_ends_4 14).trans rfl
theorem n_X7_ends_86 : nth t_X7_ends 86 = aLdI 4 88 := (y_X7_ends_4 15).trans rfl
theorem n_X7_ends_88 : nth t_X7_ends 88 = aK (.int 2) 89 := (y_X7_ends_4 17).trans rfl
theorem y_X7_ends_5 (n : Nat) : nth t_X7_ends (n + 89) = nth t_X7_ends_c5 n := (y_X7_ends_4 (n + 18)).trans rfl
theorem n_X7_ends_89 : nth t_X7_ends 89 = aB (fun x y => x + y) 90 := (y_X7_ends_5 0).trans rfl
theorem n_X7_ends_90 : nth t_X7_ends 90 = aCalV 155 1 93 [6] none := (y_X7_ends_5 1).trans rfl
theorem n_X7_ends_93 : nth t_X7_ends 93 = aB (fun x y => x + y) 94 := (y_X7_ends_5 4).trans rfl
theorem n_X7_ends_94 : nth t_X7_ends 94 = aB (fun x y => x + y) 95 := (y_X7_ends_5 5).trans rfl
theorem n_X7_ends_95 : nth t_X7_ends 95 = aStI 2 96 := (y_X7_ends_5 6).trans rfl
theorem n_X7_ends_96 : nth t_X7_ends 96 = aLdI 2 97 := (y_X7_ends_5 7).trans rfl
theorem n_X7_ends_97 : nth t_X7_ends 97 = aLdA 0 98 := (y_X7_ends_5 8).trans rfl
theorem n_X7_ends_98 : nth t_X7_ends 98 = aLdI 4 100 := (y_X7_ends_5 9).trans rfl
theorem n_X7_ends_100 : nth t_X7_ends 100 = aK (.int 3) 101 := (y_X7_ends_5 11).trans rfl
theorem n_X7_ends_101 : nth t_X7_ends 101 = aB (fun x y => x + y) 102 := (y_X7_ends_5 12).trans rfl
theorem n_X7_ends_102 : nth t_X7_ends 102 = aCalV 155 1 105 [6] none := (y_X7_ends_5 13).trans rfl
theorem n_X7_ends_105 : nth t_X7_ends 105 = aK (.int 256) 108 := (y_X7_ends_5 16).trans rfl
theorem y_X7_ends_6 (n : Nat) : nth t_X7_ends (n + 108) = nth t_X7_ends_c6 n := (y_X7_ends_5 (n + 19)).trans rfl
theorem n_X7_ends_108 : nth t_X7_ends 108 = aB (fun x y => x * y) 109 := (y_X7_ends_6 0).trans rfl
theorem n_X7_ends_109 : nth t_X7_ends 109 = aLdA 0 110 := (y_X7_ends_6 1).trans rfl
theorem n_X7_ends_110 : nth t_X7_ends 110 = aLdI 4 112 := (y_X7_ends_6 2).trans rfl
theorem n_X7_ends_112 : nth t_X7_ends 112 = aK (.int 4) 113 := (y_X7_ends_6 4).trans rfl
theorem n_X7_ends_113 : nth t_X7_ends 113 = aB (fun x y => x + y) 114 := (y_X7_ends_6 5).trans rfl
theorem n_X7_ends_114 : nth t_X7_ends 114 = aCalV 155 1 117 [6] none := (y_X7_ends_6 6).trans rfl
theorem n_X7_ends_117 : nth t_X7_ends 117 = aB (fun x y => x + y) 118 := (y_X7_ends_6 9).trans rfl
theorem n_X7_ends_118 : nth t_X7_ends 118 = aIcLe 123 121 := (y_X7_ends_6 10).trans rfl
theorem n_X7_ends_121 : nth t_X7_ends 121 = aK (.int (-1)) 122 := (y_X7_ends_6 13).trans rfl
theorem n_X7_ends_122 : nth t_X7_ends 122 = aRetI := (y_X7_ends_6 14).trans rfl
theorem n_X7_ends_123 : nth t_X7_ends 123 = aInc 3 1 126 := (y_X7_ends_6 15).trans rfl
theorem n_X7_ends_126 : nth t_X7_ends 126 = aGoto 4 := (y_X7_ends_6 18).trans rfl
theorem y_X7_ends_7 (n : Nat) : nth t_X7_ends (n + 129) = nth t_X7_ends_c7 n := (y_X7_ends_6 (n + 21)).trans rfl
theorem n_X7_ends_129 : nth t_X7_ends 129 = aLdI 2 130 := (y_X7_ends_7 0).trans rfl
theorem n_X7_ends_130 : nth t_X7_ends 130 = aRetI := (y_X7_ends_7 1).trans rfl
theorem n_X7_fridayAt_0 : nth t_X7_fridayAt 0 = aLdA 0 1 := rfl
theorem n_X7_fridayAt_1 : nth t_X7_fridayAt 1 = aK (.int 0) 2 := rfl
theorem n_X7_fridayAt_2 : nth t_X7_fridayAt 2 = aPutI 0 [6] 5 := rfl
theorem n_X7_fridayAt_5 : nth t_X7_fridayAt 5 = aLdI 1 6 := rfl
theorem n_X7_fridayAt_6 : nth t_X7_fridayAt 6 = aK (.int 0) 7 := rfl
theorem n_X7_fridayAt_7 : nth t_X7_fridayAt 7 = aLdA 0 8 := rfl
theorem n_X7_fridayAt_8 : nth t_X7_fridayAt 8 = aGetI 90 [6] 11 := rfl
theorem n_X7_fridayAt_11 : nth t_X7_fridayAt 11 = aK (.int 1) 12 := rfl
theorem n_X7_fridayAt_12 : nth t_X7_fridayAt 12 = aB (fun x y => x - y) 13 := rfl
theorem n_X7_fridayAt_13 : nth t_X7_fridayAt 13 = aCalS 154 3 16 none := rfl
theorem n_X7_fridayAt_16 : nth t_X7_fridayAt 16 = aIfEq 28 19 := rfl
theorem n_X7_fridayAt_19 : nth t_X7_fridayAt 19 = aLdA 0 20 := rfl
theorem y_X7_fridayAt_1 (n : Nat) : nth t_X7_fridayAt (n + 20) = nth t_X7_fridayAt_c1 n := rfl
theorem n_X7_fridayAt_20 : nth t_X7_fridayAt 20 = aGetR 89 [6] 23 := (y_X7_fridayAt_1 0).trans rfl
theorem n_X7_fridayAt_23 : nth t_X7_fridayAt 23 = aLdI 1 24 := (y_X7_fridayAt_1 3).trans rfl
theorem n_X7_fridayAt_24 : nth t_X7_fridayAt 24 = aAldI 25 := (y_X7_fridayAt_1 4).trans rfl
theorem n_X7_fridayAt_25 : nth t_X7_fridayAt 25 = aGoto 29 := (y_X7_fridayAt_1 5).trans rfl
theorem n_X7_fridayAt_28 : nth t_X7_fridayAt 28 = aK (.int (-1)) 29 := (y_X7_fridayAt_1 8).trans rfl
theorem n_X7_fridayAt_29 : nth t_X7_fridayAt 29 = aRetI := (y_X7_fridayAt_1 9).trans rfl
theorem n_X7_count_0 : nth t_X7_count 0 = aLdA 0 1 := rfl
theorem n_X7_count_1 : nth t_X7_count 1 = aK (.int 0) 2 := rfl
theorem n_X7_count_2 : nth t_X7_count 2 = aPutI 0 [6] 5 := rfl
theorem n_X7_count_5 : nth t_X7_count 5 = aK (.int 0) 6 := rfl
theorem n_X7_count_6 : nth t_X7_count 6 = aStI 2 7 := rfl
theorem n_X7_count_7 : nth t_X7_count 7 = aK (.int 0) 8 := rfl
theorem n_X7_count_8 : nth t_X7_count 8 = aStI 3 9 := rfl
theorem n_X7_count_9 : nth t_X7_count 9 = aLdI 3 10 := rfl
theorem n_X7_count_10 : nth t_X7_count 10 = aK (.int 8) 12 := rfl
theorem n_X7_count_12 : nth t_X7_count 12 = aIcLt 15 30 := rfl
theorem n_X7_count_15 : nth t_X7_count 15 = aLdI 2 16 := rfl
theorem n_X7_count_16 : nth t_X7_count 16 = aLdA 0 17 := rfl
theorem y_X7_count_1 (n : Nat) : nth t_X7_count (n + 17) = nth t_X7_count_c1 n := rfl
theorem n_X7_count_17 : nth t_X7_count 17 = aGetR 6 [6] 20 := (y_X7_count_1 0).trans rfl
theorem n_X7_count_20 : nth t_X7_count 20 = aLdI 3 21 := (y_X7_count_1 3).trans rfl
theorem n_X7_count_21 : nth t_X7_count 21 = aAldI 22 := (y_X7_count_1 4).trans rfl
theorem n_X7_count_22 : nth t_X7_count 22 = aB (fun x y => x + y) 23 := (y_X7_count_1 5).trans rfl
theorem n_X7_count_23 : nth t_X7_count 23 = aStI 2 24 := (y_X7_count_1 6).trans rfl
theorem n_X7_count_24 : nth t_X7_count 24 = aInc 3 1 27 := (y_X7_count_1 7).trans rfl
theorem n_X7_count_27 : nth t_X7_count 27 = aGoto 9 := (y_X7_count_1 10).trans rfl
theorem n_X7_count_30 : nth t_X7_count 30 = aLdI 1 31 := (y_X7_count_1 13).trans rfl
theorem n_X7_count_31 : nth t_X7_count 31 = aIfEq 34 43 := (y_X7_count_1 14).trans rfl
theorem n_X7_count_34 : nth t_X7_count 34 = aLdA 0 35 := (y_X7_count_1 17).trans rfl
theorem n_X7_count_35 : nth t_X7_count 35 = aGetR 17 [6] 38 := (y_X7_count_1 18).trans rfl
theorem n_X7_count_38 : nth t_X7_count 38 = aK (.int 0) 39 := (y_X7_count_1 21).trans rfl
theorem y_X7_count_2 (n : Nat) : nth t_X7_count (n + 39) = nth t_X7_count_c2 n := (y_X7_count_1 (n + 22)).trans rfl
theorem n_X7_count_39 : nth t_X7_count 39 = aAldI 40 := (y_X7_count_2 0).trans rfl
theorem n_X7_count_40 : nth t_X7_count 40 = aGoto 65 := (y_X7_count_2 1).trans rfl
theorem n_X7_count_43 : nth t_X7_count 43 = aLdI 1 44 := (y_X7_count_2 4).trans rfl
theorem n_X7_count_44 : nth t_X7_count 44 = aK (.int 1) 45 := (y_X7_count_2 5).trans rfl
theorem n_X7_count_45 : nth t_X7_count 45 = aIcEq 48 52 := (y_X7_count_2 6).trans rfl
theorem n_X7_count_48 : nth t_X7_count 48 = aLdI 2 49 := (y_X7_count_2 9).trans rfl
theorem n_X7_count_49 : nth t_X7_count 49 = aGoto 65 := (y_X7_count_2 10).trans rfl
theorem n_X7_count_52 : nth t_X7_count 52 = aLdI 1 53 := (y_X7_count_2 13).trans rfl
theorem n_X7_count_53 : nth t_X7_count 53 = aK (.int 2) 54 := (y_X7_count_2 14).trans rfl
theorem n_X7_count_54 : nth t_X7_count 54 = aIcEq 57 64 := (y_X7_count_2 15).trans rfl
theorem n_X7_count_57 : nth t_X7_count 57 = aLdA 0 58 := (y_X7_count_2 18).trans rfl
theorem n_X7_count_58 : nth t_X7_count 58 = aGetI 2 [6] 61 := (y_X7_count_2 19).trans rfl
theorem y_X7_count_3 (n : Nat) : nth t_X7_count (n + 61) = nth t_X7_count_c3 n := (y_X7_count_2 (n + 22)).trans rfl
theorem n_X7_count_61 : nth t_X7_count 61 = aGoto 65 := (y_X7_count_3 0).trans rfl
theorem n_X7_count_64 : nth t_X7_count 64 = aK (.int (-1)) 65 := (y_X7_count_3 3).trans rfl
theorem n_X7_count_65 : nth t_X7_count 65 = aRetI := (y_X7_count_3 4).trans rfl
