/-! printed by gen/segs.py: decode rows and segment lemmas of: X2_mix X2_step X2_turned X2_mixRipe X2_blocks X2_ripe X2_first X2_sha X2_hash160 X2_twice X2_prime X2_above X2_root -/
set_option maxRecDepth 100000
theorem dX2_mix_0 : decode cX2_mix 0 = .ok (.iconst 0, 1) := by decide +kernel
theorem dX2_mix_1 : decode cX2_mix 1 = .ok (.istore_n 1, 1) := by decide +kernel
theorem dX2_mix_2 : decode cX2_mix 2 = .ok (.iload_n 1, 1) := by decide +kernel
theorem dX2_mix_3 : decode cX2_mix 3 = .ok (.bipush 64, 2) := by decide +kernel
theorem dX2_mix_5 : decode cX2_mix 5 = .ok (.if_icmp .ge 171, 3) := by decide +kernel
theorem dX2_mix_8 : decode cX2_mix 8 = .ok (.iload_n 1, 1) := by decide +kernel
theorem dX2_mix_9 : decode cX2_mix 9 = .ok (.bipush 16, 2) := by decide +kernel
theorem dX2_mix_11 : decode cX2_mix 11 = .ok (.if_icmp .ge 78, 3) := by decide +kernel
theorem dX2_mix_14 : decode cX2_mix 14 = .ok (.aload_n 0, 1) := by decide +kernel
theorem dX2_mix_15 : decode cX2_mix 15 = .ok (.getfield 19, 3) := by decide +kernel
theorem dX2_mix_18 : decode cX2_mix 18 = .ok (.iload_n 1, 1) := by decide +kernel
theorem dX2_mix_19 : decode cX2_mix 19 = .ok (.aload_n 0, 1) := by decide +kernel
theorem dX2_mix_20 : decode cX2_mix 20 = .ok (.getfield 31, 3) := by decide +kernel
theorem dX2_mix_23 : decode cX2_mix 23 = .ok (.iconst 4, 1) := by decide +kernel
theorem dX2_mix_24 : decode cX2_mix 24 = .ok (.iload_n 1, 1) := by decide +kernel
theorem dX2_mix_25 : decode cX2_mix 25 = .ok (.imul, 1) := by decide +kernel
theorem dX2_mix_26 : decode cX2_mix 26 = .ok (.baload, 1) := by decide +kernel
theorem dX2_mix_27 : decode cX2_mix 27 = .ok (.sipush 255, 3) := by decide +kernel
theorem dX2_mix_30 : decode cX2_mix 30 = .ok (.iand, 1) := by decide +kernel
theorem dX2_mix_31 : decode cX2_mix 31 = .ok (.bipush 24, 2) := by decide +kernel
theorem dX2_mix_33 : decode cX2_mix 33 = .ok (.ishl, 1) := by decide +kernel
theorem dX2_mix_34 : decode cX2_mix 34 = .ok (.aload_n 0, 1) := by decide +kernel
theorem dX2_mix_35 : decode cX2_mix 35 = .ok (.getfield 31, 3) := by decide +kernel
theorem dX2_mix_38 : decode cX2_mix 38 = .ok (.iconst 4, 1) := by decide +kernel
theorem dX2_mix_39 : decode cX2_mix 39 = .ok (.iload_n 1, 1) := by decide +kernel
theorem dX2_mix_40 : decode cX2_mix 40 = .ok (.imul, 1) := by decide +kernel
theorem dX2_mix_41 : decode cX2_mix 41 = .ok (.iconst 1, 1) := by decide +kernel
theorem dX2_mix_42 : decode cX2_mix 42 = .ok (.iadd, 1) := by decide +kernel
theorem dX2_mix_43 : decode cX2_mix 43 = .ok (.baload, 1) := by decide +kernel
theorem dX2_mix_44 : decode cX2_mix 44 = .ok (.sipush 255, 3) := by decide +kernel
theorem dX2_mix_47 : decode cX2_mix 47 = .ok (.iand, 1) := by decide +kernel
theorem dX2_mix_48 : decode cX2_mix 48 = .ok (.bipush 16, 2) := by decide +kernel
theorem dX2_mix_50 : decode cX2_mix 50 = .ok (.ishl, 1) := by decide +kernel
theorem dX2_mix_51 : decode cX2_mix 51 = .ok (.ior, 1) := by decide +kernel
theorem dX2_mix_52 : decode cX2_mix 52 = .ok (.aload_n 0, 1) := by decide +kernel
theorem dX2_mix_53 : decode cX2_mix 53 = .ok (.getfield 31, 3) := by decide +kernel
theorem dX2_mix_56 : decode cX2_mix 56 = .ok (.iconst 4, 1) := by decide +kernel
theorem dX2_mix_57 : decode cX2_mix 57 = .ok (.iload_n 1, 1) := by decide +kernel
theorem dX2_mix_58 : decode cX2_mix 58 = .ok (.imul, 1) := by decide +kernel
theorem dX2_mix_59 : decode cX2_mix 59 = .ok (.iconst 2, 1) := by decide +kernel
theorem dX2_mix_60 : decode cX2_mix 60 = .ok (.iadd, 1) := by decide +kernel
theorem dX2_mix_61 : decode cX2_mix 61 = .ok (.baload, 1) := by decide +kernel
theorem dX2_mix_62 : decode cX2_mix 62 = .ok (.sipush 255, 3) := by decide +kernel
theorem dX2_mix_65 : decode cX2_mix 65 = .ok (.iand, 1) := by decide +kernel
theorem dX2_mix_66 : decode cX2_mix 66 = .ok (.bipush 8, 2) := by decide +kernel
theorem dX2_mix_68 : decode cX2_mix 68 = .ok (.ishl, 1) := by decide +kernel
theorem dX2_mix_69 : decode cX2_mix 69 = .ok (.ior, 1) := by decide +kernel
theorem dX2_mix_70 : decode cX2_mix 70 = .ok (.aload_n 0, 1) := by decide +kernel
theorem dX2_mix_71 : decode cX2_mix 71 = .ok (.getfield 31, 3) := by decide +kernel
theorem dX2_mix_74 : decode cX2_mix 74 = .ok (.iconst 4, 1) := by decide +kernel
theorem dX2_mix_75 : decode cX2_mix 75 = .ok (.iload_n 1, 1) := by decide +kernel
theorem dX2_mix_76 : decode cX2_mix 76 = .ok (.imul, 1) := by decide +kernel
theorem dX2_mix_77 : decode cX2_mix 77 = .ok (.iconst 3, 1) := by decide +kernel
theorem dX2_mix_78 : decode cX2_mix 78 = .ok (.iadd, 1) := by decide +kernel
theorem dX2_mix_79 : decode cX2_mix 79 = .ok (.baload, 1) := by decide +kernel
theorem dX2_mix_80 : decode cX2_mix 80 = .ok (.sipush 255, 3) := by decide +kernel
theorem dX2_mix_83 : decode cX2_mix 83 = .ok (.iand, 1) := by decide +kernel
theorem dX2_mix_84 : decode cX2_mix 84 = .ok (.ior, 1) := by decide +kernel
theorem dX2_mix_85 : decode cX2_mix 85 = .ok (.iastore, 1) := by decide +kernel
theorem dX2_mix_86 : decode cX2_mix 86 = .ok (.goto 84, 3) := by decide +kernel
theorem dX2_mix_89 : decode cX2_mix 89 = .ok (.aload_n 0, 1) := by decide +kernel
theorem dX2_mix_90 : decode cX2_mix 90 = .ok (.getfield 19, 3) := by decide +kernel
theorem dX2_mix_93 : decode cX2_mix 93 = .ok (.iload_n 1, 1) := by decide +kernel
theorem dX2_mix_94 : decode cX2_mix 94 = .ok (.bipush 15, 2) := by decide +kernel
theorem dX2_mix_96 : decode cX2_mix 96 = .ok (.isub, 1) := by decide +kernel
theorem dX2_mix_97 : decode cX2_mix 97 = .ok (.iaload, 1) := by decide +kernel
theorem dX2_mix_98 : decode cX2_mix 98 = .ok (.istore_n 2, 1) := by decide +kernel
theorem dX2_mix_99 : decode cX2_mix 99 = .ok (.aload_n 0, 1) := by decide +kernel
theorem dX2_mix_100 : decode cX2_mix 100 = .ok (.getfield 19, 3) := by decide +kernel
theorem dX2_mix_103 : decode cX2_mix 103 = .ok (.iload_n 1, 1) := by decide +kernel
theorem dX2_mix_104 : decode cX2_mix 104 = .ok (.iconst 2, 1) := by decide +kernel
theorem dX2_mix_105 : decode cX2_mix 105 = .ok (.isub, 1) := by decide +kernel
theorem dX2_mix_106 : decode cX2_mix 106 = .ok (.iaload, 1) := by decide +kernel
theorem dX2_mix_107 : decode cX2_mix 107 = .ok (.istore_n 3, 1) := by decide +kernel
theorem dX2_mix_108 : decode cX2_mix 108 = .ok (.aload_n 0, 1) := by decide +kernel
theorem dX2_mix_109 : decode cX2_mix 109 = .ok (.getfield 19, 3) := by decide +kernel
theorem dX2_mix_112 : decode cX2_mix 112 = .ok (.iload_n 1, 1) := by decide +kernel
theorem dX2_mix_113 : decode cX2_mix 113 = .ok (.aload_n 0, 1) := by decide +kernel
theorem dX2_mix_114 : decode cX2_mix 114 = .ok (.getfield 19, 3) := by decide +kernel
theorem dX2_mix_117 : decode cX2_mix 117 = .ok (.iload_n 1, 1) := by decide +kernel
theorem dX2_mix_118 : decode cX2_mix 118 = .ok (.bipush 16, 2) := by decide +kernel
theorem dX2_mix_120 : decode cX2_mix 120 = .ok (.isub, 1) := by decide +kernel
theorem dX2_mix_121 : decode cX2_mix 121 = .ok (.iaload, 1) := by decide +kernel
theorem dX2_mix_122 : decode cX2_mix 122 = .ok (.iload_n 2, 1) := by decide +kernel
theorem dX2_mix_123 : decode cX2_mix 123 = .ok (.bipush 7, 2) := by decide +kernel
theorem dX2_mix_125 : decode cX2_mix 125 = .ok (.invokestatic 84, 3) := by decide +kernel
theorem dX2_mix_128 : decode cX2_mix 128 = .ok (.iload_n 2, 1) := by decide +kernel
theorem dX2_mix_129 : decode cX2_mix 129 = .ok (.bipush 18, 2) := by decide +kernel
theorem dX2_mix_131 : decode cX2_mix 131 = .ok (.invokestatic 84, 3) := by decide +kernel
theorem dX2_mix_134 : decode cX2_mix 134 = .ok (.ixor, 1) := by decide +kernel
theorem dX2_mix_135 : decode cX2_mix 135 = .ok (.iload_n 2, 1) := by decide +kernel
theorem dX2_mix_136 : decode cX2_mix 136 = .ok (.iconst 3, 1) := by decide +kernel
theorem dX2_mix_137 : decode cX2_mix 137 = .ok (.iushr, 1) := by decide +kernel
theorem dX2_mix_138 : decode cX2_mix 138 = .ok (.ixor, 1) := by decide +kernel
theorem dX2_mix_139 : decode cX2_mix 139 = .ok (.iadd, 1) := by decide +kernel
theorem dX2_mix_140 : decode cX2_mix 140 = .ok (.aload_n 0, 1) := by decide +kernel
theorem dX2_mix_141 : decode cX2_mix 141 = .ok (.getfield 19, 3) := by decide +kernel
theorem dX2_mix_144 : decode cX2_mix 144 = .ok (.iload_n 1, 1) := by decide +kernel
theorem dX2_mix_145 : decode cX2_mix 145 = .ok (.bipush 7, 2) := by decide +kernel
theorem dX2_mix_147 : decode cX2_mix 147 = .ok (.isub, 1) := by decide +kernel
theorem dX2_mix_148 : decode cX2_mix 148 = .ok (.iaload, 1) := by decide +kernel
theorem dX2_mix_149 : decode cX2_mix 149 = .ok (.iadd, 1) := by decide +kernel
theorem dX2_mix_150 : decode cX2_mix 150 = .ok (.iload_n 3, 1) := by decide +kernel
theorem dX2_mix_151 : decode cX2_mix 151 = .ok (.bipush 17, 2) := by decide +kernel
theorem dX2_mix_153 : decode cX2_mix 153 = .ok (.invokestatic 84, 3) := by decide +kernel
theorem dX2_mix_156 : decode cX2_mix 156 = .ok (.iload_n 3, 1) := by decide +kernel
theorem dX2_mix_157 : decode cX2_mix 157 = .ok (.bipush 19, 2) := by decide +kernel
theorem dX2_mix_159 : decode cX2_mix 159 = .ok (.invokestatic 84, 3) := by decide +kernel
theorem dX2_mix_162 : decode cX2_mix 162 = .ok (.ixor, 1) := by decide +kernel
theorem dX2_mix_163 : decode cX2_mix 163 = .ok (.iload_n 3, 1) := by decide +kernel
theorem dX2_mix_164 : decode cX2_mix 164 = .ok (.bipush 10, 2) := by decide +kernel
theorem dX2_mix_166 : decode cX2_mix 166 = .ok (.iushr, 1) := by decide +kernel
theorem dX2_mix_167 : decode cX2_mix 167 = .ok (.ixor, 1) := by decide +kernel
theorem dX2_mix_168 : decode cX2_mix 168 = .ok (.iadd, 1) := by decide +kernel
theorem dX2_mix_169 : decode cX2_mix 169 = .ok (.iastore, 1) := by decide +kernel
theorem dX2_mix_170 : decode cX2_mix 170 = .ok (.iinc 1 1, 3) := by decide +kernel
theorem dX2_mix_173 : decode cX2_mix 173 = .ok (.goto (-171), 3) := by decide +kernel
theorem dX2_mix_176 : decode cX2_mix 176 = .ok (.aload_n 0, 1) := by decide +kernel
theorem dX2_mix_177 : decode cX2_mix 177 = .ok (.getfield 16, 3) := by decide +kernel
theorem dX2_mix_180 : decode cX2_mix 180 = .ok (.iconst 0, 1) := by decide +kernel
theorem dX2_mix_181 : decode cX2_mix 181 = .ok (.iaload, 1) := by decide +kernel
theorem dX2_mix_182 : decode cX2_mix 182 = .ok (.istore_n 1, 1) := by decide +kernel
theorem dX2_mix_183 : decode cX2_mix 183 = .ok (.aload_n 0, 1) := by decide +kernel
theorem dX2_mix_184 : decode cX2_mix 184 = .ok (.getfield 16, 3) := by decide +kernel
theorem dX2_mix_187 : decode cX2_mix 187 = .ok (.iconst 1, 1) := by decide +kernel
theorem dX2_mix_188 : decode cX2_mix 188 = .ok (.iaload, 1) := by decide +kernel
theorem dX2_mix_189 : decode cX2_mix 189 = .ok (.istore_n 2, 1) := by decide +kernel
theorem dX2_mix_190 : decode cX2_mix 190 = .ok (.aload_n 0, 1) := by decide +kernel
theorem dX2_mix_191 : decode cX2_mix 191 = .ok (.getfield 16, 3) := by decide +kernel
theorem dX2_mix_194 : decode cX2_mix 194 = .ok (.iconst 2, 1) := by decide +kernel
theorem dX2_mix_195 : decode cX2_mix 195 = .ok (.iaload, 1) := by decide +kernel
theorem dX2_mix_196 : decode cX2_mix 196 = .ok (.istore_n 3, 1) := by decide +kernel
theorem dX2_mix_197 : decode cX2_mix 197 = .ok (.aload_n 0, 1) := by decide +kernel
theorem dX2_mix_198 : decode cX2_mix 198 = .ok (.getfield 16, 3) := by decide +kernel
theorem dX2_mix_201 : decode cX2_mix 201 = .ok (.iconst 3, 1) := by decide +kernel
theorem dX2_mix_202 : decode cX2_mix 202 = .ok (.iaload, 1) := by decide +kernel
theorem dX2_mix_203 : decode cX2_mix 203 = .ok (.istore 4, 2) := by decide +kernel
theorem dX2_mix_205 : decode cX2_mix 205 = .ok (.aload_n 0, 1) := by decide +kernel
theorem dX2_mix_206 : decode cX2_mix 206 = .ok (.getfield 16, 3) := by decide +kernel
theorem dX2_mix_209 : decode cX2_mix 209 = .ok (.iconst 4, 1) := by decide +kernel
theorem dX2_mix_210 : decode cX2_mix 210 = .ok (.iaload, 1) := by decide +kernel
theorem dX2_mix_211 : decode cX2_mix 211 = .ok (.istore 5, 2) := by decide +kernel
theorem dX2_mix_213 : decode cX2_mix 213 = .ok (.aload_n 0, 1) := by decide +kernel
theorem dX2_mix_214 : decode cX2_mix 214 = .ok (.getfield 16, 3) := by decide +kernel
theorem dX2_mix_217 : decode cX2_mix 217 = .ok (.iconst 5, 1) := by decide +kernel
theorem dX2_mix_218 : decode cX2_mix 218 = .ok (.iaload, 1) := by decide +kernel
theorem dX2_mix_219 : decode cX2_mix 219 = .ok (.istore 6, 2) := by decide +kernel
theorem dX2_mix_221 : decode cX2_mix 221 = .ok (.aload_n 0, 1) := by decide +kernel
theorem dX2_mix_222 : decode cX2_mix 222 = .ok (.getfield 16, 3) := by decide +kernel
theorem dX2_mix_225 : decode cX2_mix 225 = .ok (.bipush 6, 2) := by decide +kernel
theorem dX2_mix_227 : decode cX2_mix 227 = .ok (.iaload, 1) := by decide +kernel
theorem dX2_mix_228 : decode cX2_mix 228 = .ok (.istore 7, 2) := by decide +kernel
theorem dX2_mix_230 : decode cX2_mix 230 = .ok (.aload_n 0, 1) := by decide +kernel
theorem dX2_mix_231 : decode cX2_mix 231 = .ok (.getfield 16, 3) := by decide +kernel
theorem dX2_mix_234 : decode cX2_mix 234 = .ok (.bipush 7, 2) := by decide +kernel
theorem dX2_mix_236 : decode cX2_mix 236 = .ok (.iaload, 1) := by decide +kernel
theorem dX2_mix_237 : decode cX2_mix 237 = .ok (.istore 8, 2) := by decide +kernel
theorem dX2_mix_239 : decode cX2_mix 239 = .ok (.iconst 0, 1) := by decide +kernel
theorem dX2_mix_240 : decode cX2_mix 240 = .ok (.istore 9, 2) := by decide +kernel
theorem dX2_mix_242 : decode cX2_mix 242 = .ok (.iload 9, 2) := by decide +kernel
theorem dX2_mix_244 : decode cX2_mix 244 = .ok (.bipush 64, 2) := by decide +kernel
theorem dX2_mix_246 : decode cX2_mix 246 = .ok (.if_icmp .ge 132, 3) := by decide +kernel
theorem dX2_mix_249 : decode cX2_mix 249 = .ok (.iload 8, 2) := by decide +kernel
theorem dX2_mix_251 : decode cX2_mix 251 = .ok (.iload 5, 2) := by decide +kernel
theorem dX2_mix_253 : decode cX2_mix 253 = .ok (.bipush 6, 2) := by decide +kernel
theorem dX2_mix_255 : decode cX2_mix 255 = .ok (.invokestatic 84, 3) := by decide +kernel
theorem dX2_mix_258 : decode cX2_mix 258 = .ok (.iload 5, 2) := by decide +kernel
theorem dX2_mix_260 : decode cX2_mix 260 = .ok (.bipush 11, 2) := by decide +kernel
theorem dX2_mix_262 : decode cX2_mix 262 = .ok (.invokestatic 84, 3) := by decide +kernel
theorem dX2_mix_265 : decode cX2_mix 265 = .ok (.ixor, 1) := by decide +kernel
theorem dX2_mix_266 : decode cX2_mix 266 = .ok (.iload 5, 2) := by decide +kernel
theorem dX2_mix_268 : decode cX2_mix 268 = .ok (.bipush 25, 2) := by decide +kernel
theorem dX2_mix_270 : decode cX2_mix 270 = .ok (.invokestatic 84, 3) := by decide +kernel
theorem dX2_mix_273 : decode cX2_mix 273 = .ok (.ixor, 1) := by decide +kernel
theorem dX2_mix_274 : decode cX2_mix 274 = .ok (.iadd, 1) := by decide +kernel
theorem dX2_mix_275 : decode cX2_mix 275 = .ok (.iload 5, 2) := by decide +kernel
theorem dX2_mix_277 : decode cX2_mix 277 = .ok (.iload 6, 2) := by decide +kernel
theorem dX2_mix_279 : decode cX2_mix 279 = .ok (.iand, 1) := by decide +kernel
theorem dX2_mix_280 : decode cX2_mix 280 = .ok (.iload 5, 2) := by decide +kernel
theorem dX2_mix_282 : decode cX2_mix 282 = .ok (.iconst (-1), 1) := by decide +kernel
theorem dX2_mix_283 : decode cX2_mix 283 = .ok (.ixor, 1) := by decide +kernel
theorem dX2_mix_284 : decode cX2_mix 284 = .ok (.iload 7, 2) := by decide +kernel
theorem dX2_mix_286 : decode cX2_mix 286 = .ok (.iand, 1) := by decide +kernel
theorem dX2_mix_287 : decode cX2_mix 287 = .ok (.ixor, 1) := by decide +kernel
theorem dX2_mix_288 : decode cX2_mix 288 = .ok (.iadd, 1) := by decide +kernel
theorem dX2_mix_289 : decode cX2_mix 289 = .ok (.aload_n 0, 1) := by decide +kernel
theorem dX2_mix_290 : decode cX2_mix 290 = .ok (.getfield 7, 3) := by decide +kernel
theorem dX2_mix_293 : decode cX2_mix 293 = .ok (.iload 9, 2) := by decide +kernel
theorem dX2_mix_295 : decode cX2_mix 295 = .ok (.iaload, 1) := by decide +kernel
theorem dX2_mix_296 : decode cX2_mix 296 = .ok (.iadd, 1) := by decide +kernel
theorem dX2_mix_297 : decode cX2_mix 297 = .ok (.aload_n 0, 1) := by decide +kernel
theorem dX2_mix_298 : decode cX2_mix 298 = .ok (.getfield 19, 3) := by decide +kernel
theorem dX2_mix_301 : decode cX2_mix 301 = .ok (.iload 9, 2) := by decide +kernel
theorem dX2_mix_303 : decode cX2_mix 303 = .ok (.iaload, 1) := by decide +kernel
theorem dX2_mix_304 : decode cX2_mix 304 = .ok (.iadd, 1) := by decide +kernel
theorem dX2_mix_305 : decode cX2_mix 305 = .ok (.istore 10, 2) := by decide +kernel
theorem dX2_mix_307 : decode cX2_mix 307 = .ok (.iload_n 1, 1) := by decide +kernel
theorem dX2_mix_308 : decode cX2_mix 308 = .ok (.iconst 2, 1) := by decide +kernel
theorem dX2_mix_309 : decode cX2_mix 309 = .ok (.invokestatic 84, 3) := by decide +kernel
theorem dX2_mix_312 : decode cX2_mix 312 = .ok (.iload_n 1, 1) := by decide +kernel
theorem dX2_mix_313 : decode cX2_mix 313 = .ok (.bipush 13, 2) := by decide +kernel
theorem dX2_mix_315 : decode cX2_mix 315 = .ok (.invokestatic 84, 3) := by decide +kernel
theorem dX2_mix_318 : decode cX2_mix 318 = .ok (.ixor, 1) := by decide +kernel
theorem dX2_mix_319 : decode cX2_mix 319 = .ok (.iload_n 1, 1) := by decide +kernel
theorem dX2_mix_320 : decode cX2_mix 320 = .ok (.bipush 22, 2) := by decide +kernel
theorem dX2_mix_322 : decode cX2_mix 322 = .ok (.invokestatic 84, 3) := by decide +kernel
theorem dX2_mix_325 : decode cX2_mix 325 = .ok (.ixor, 1) := by decide +kernel
theorem dX2_mix_326 : decode cX2_mix 326 = .ok (.iload_n 1, 1) := by decide +kernel
theorem dX2_mix_327 : decode cX2_mix 327 = .ok (.iload_n 2, 1) := by decide +kernel
theorem dX2_mix_328 : decode cX2_mix 328 = .ok (.iand, 1) := by decide +kernel
theorem dX2_mix_329 : decode cX2_mix 329 = .ok (.iload_n 1, 1) := by decide +kernel
theorem dX2_mix_330 : decode cX2_mix 330 = .ok (.iload_n 3, 1) := by decide +kernel
theorem dX2_mix_331 : decode cX2_mix 331 = .ok (.iand, 1) := by decide +kernel
theorem dX2_mix_332 : decode cX2_mix 332 = .ok (.ixor, 1) := by decide +kernel
theorem dX2_mix_333 : decode cX2_mix 333 = .ok (.iload_n 2, 1) := by decide +kernel
theorem dX2_mix_334 : decode cX2_mix 334 = .ok (.iload_n 3, 1) := by decide +kernel
theorem dX2_mix_335 : decode cX2_mix 335 = .ok (.iand, 1) := by decide +kernel
theorem dX2_mix_336 : decode cX2_mix 336 = .ok (.ixor, 1) := by decide +kernel
theorem dX2_mix_337 : decode cX2_mix 337 = .ok (.iadd, 1) := by decide +kernel
theorem dX2_mix_338 : decode cX2_mix 338 = .ok (.istore 11, 2) := by decide +kernel
theorem dX2_mix_340 : decode cX2_mix 340 = .ok (.iload 7, 2) := by decide +kernel
theorem dX2_mix_342 : decode cX2_mix 342 = .ok (.istore 8, 2) := by decide +kernel
theorem dX2_mix_344 : decode cX2_mix 344 = .ok (.iload 6, 2) := by decide +kernel
theorem dX2_mix_346 : decode cX2_mix 346 = .ok (.istore 7, 2) := by decide +kernel
theorem dX2_mix_348 : decode cX2_mix 348 = .ok (.iload 5, 2) := by decide +kernel
theorem dX2_mix_350 : decode cX2_mix 350 = .ok (.istore 6, 2) := by decide +kernel
theorem dX2_mix_352 : decode cX2_mix 352 = .ok (.iload 4, 2) := by decide +kernel
theorem dX2_mix_354 : decode cX2_mix 354 = .ok (.iload 10, 2) := by decide +kernel
theorem dX2_mix_356 : decode cX2_mix 356 = .ok (.iadd, 1) := by decide +kernel
theorem dX2_mix_357 : decode cX2_mix 357 = .ok (.istore 5, 2) := by decide +kernel
theorem dX2_mix_359 : decode cX2_mix 359 = .ok (.iload_n 3, 1) := by decide +kernel
theorem dX2_mix_360 : decode cX2_mix 360 = .ok (.istore 4, 2) := by decide +kernel
theorem dX2_mix_362 : decode cX2_mix 362 = .ok (.iload_n 2, 1) := by decide +kernel
theorem dX2_mix_363 : decode cX2_mix 363 = .ok (.istore_n 3, 1) := by decide +kernel
theorem dX2_mix_364 : decode cX2_mix 364 = .ok (.iload_n 1, 1) := by decide +kernel
theorem dX2_mix_365 : decode cX2_mix 365 = .ok (.istore_n 2, 1) := by decide +kernel
theorem dX2_mix_366 : decode cX2_mix 366 = .ok (.iload 10, 2) := by decide +kernel
theorem dX2_mix_368 : decode cX2_mix 368 = .ok (.iload 11, 2) := by decide +kernel
theorem dX2_mix_370 : decode cX2_mix 370 = .ok (.iadd, 1) := by decide +kernel
theorem dX2_mix_371 : decode cX2_mix 371 = .ok (.istore_n 1, 1) := by decide +kernel
theorem dX2_mix_372 : decode cX2_mix 372 = .ok (.iinc 9 1, 3) := by decide +kernel
theorem dX2_mix_375 : decode cX2_mix 375 = .ok (.goto (-133), 3) := by decide +kernel
theorem dX2_mix_378 : decode cX2_mix 378 = .ok (.aload_n 0, 1) := by decide +kernel
theorem dX2_mix_379 : decode cX2_mix 379 = .ok (.getfield 16, 3) := by decide +kernel
theorem dX2_mix_382 : decode cX2_mix 382 = .ok (.iconst 0, 1) := by decide +kernel
theorem dX2_mix_383 : decode cX2_mix 383 = .ok (.dup2, 1) := by decide +kernel
theorem dX2_mix_384 : decode cX2_mix 384 = .ok (.iaload, 1) := by decide +kernel
theorem dX2_mix_385 : decode cX2_mix 385 = .ok (.iload_n 1, 1) := by decide +kernel
theorem dX2_mix_386 : decode cX2_mix 386 = .ok (.iadd, 1) := by decide +kernel
theorem dX2_mix_387 : decode cX2_mix 387 = .ok (.iastore, 1) := by decide +kernel
theorem dX2_mix_388 : decode cX2_mix 388 = .ok (.aload_n 0, 1) := by decide +kernel
theorem dX2_mix_389 : decode cX2_mix 389 = .ok (.getfield 16, 3) := by decide +kernel
theorem dX2_mix_392 : decode cX2_mix 392 = .ok (.iconst 1, 1) := by decide +kernel
theorem dX2_mix_393 : decode cX2_mix 393 = .ok (.dup2, 1) := by decide +kernel
theorem dX2_mix_394 : decode cX2_mix 394 = .ok (.iaload, 1) := by decide +kernel
theorem dX2_mix_395 : decode cX2_mix 395 = .ok (.iload_n 2, 1) := by decide +kernel
theorem dX2_mix_396 : decode cX2_mix 396 = .ok (.iadd, 1) := by decide +kernel
theorem dX2_mix_397 : decode cX2_mix 397 = .ok (.iastore, 1) := by decide +kernel
theorem dX2_mix_398 : decode cX2_mix 398 = .ok (.aload_n 0, 1) := by decide +kernel
theorem dX2_mix_399 : decode cX2_mix 399 = .ok (.getfield 16, 3) := by decide +kernel
theorem dX2_mix_402 : decode cX2_mix 402 = .ok (.iconst 2, 1) := by decide +kernel
theorem dX2_mix_403 : decode cX2_mix 403 = .ok (.dup2, 1) := by decide +kernel
theorem dX2_mix_404 : decode cX2_mix 404 = .ok (.iaload, 1) := by decide +kernel
theorem dX2_mix_405 : decode cX2_mix 405 = .ok (.iload_n 3, 1) := by decide +kernel
theorem dX2_mix_406 : decode cX2_mix 406 = .ok (.iadd, 1) := by decide +kernel
theorem dX2_mix_407 : decode cX2_mix 407 = .ok (.iastore, 1) := by decide +kernel
theorem dX2_mix_408 : decode cX2_mix 408 = .ok (.aload_n 0, 1) := by decide +kernel
theorem dX2_mix_409 : decode cX2_mix 409 = .ok (.getfield 16, 3) := by decide +kernel
theorem dX2_mix_412 : decode cX2_mix 412 = .ok (.iconst 3, 1) := by decide +kernel
theorem dX2_mix_413 : decode cX2_mix 413 = .ok (.dup2, 1) := by decide +kernel
theorem dX2_mix_414 : decode cX2_mix 414 = .ok (.iaload, 1) := by decide +kernel
theorem dX2_mix_415 : decode cX2_mix 415 = .ok (.iload 4, 2) := by decide +kernel
theorem dX2_mix_417 : decode cX2_mix 417 = .ok (.iadd, 1) := by decide +kernel
theorem dX2_mix_418 : decode cX2_mix 418 = .ok (.iastore, 1) := by decide +kernel
theorem dX2_mix_419 : decode cX2_mix 419 = .ok (.aload_n 0, 1) := by decide +kernel
theorem dX2_mix_420 : decode cX2_mix 420 = .ok (.getfield 16, 3) := by decide +kernel
theorem dX2_mix_423 : decode cX2_mix 423 = .ok (.iconst 4, 1) := by decide +kernel
theorem dX2_mix_424 : decode cX2_mix 424 = .ok (.dup2, 1) := by decide +kernel
theorem dX2_mix_425 : decode cX2_mix 425 = .ok (.iaload, 1) := by decide +kernel
theorem dX2_mix_426 : decode cX2_mix 426 = .ok (.iload 5, 2) := by decide +kernel
theorem dX2_mix_428 : decode cX2_mix 428 = .ok (.iadd, 1) := by decide +kernel
theorem dX2_mix_429 : decode cX2_mix 429 = .ok (.iastore, 1) := by decide +kernel
theorem dX2_mix_430 : decode cX2_mix 430 = .ok (.aload_n 0, 1) := by decide +kernel
theorem dX2_mix_431 : decode cX2_mix 431 = .ok (.getfield 16, 3) := by decide +kernel
theorem dX2_mix_434 : decode cX2_mix 434 = .ok (.iconst 5, 1) := by decide +kernel
theorem dX2_mix_435 : decode cX2_mix 435 = .ok (.dup2, 1) := by decide +kernel
theorem dX2_mix_436 : decode cX2_mix 436 = .ok (.iaload, 1) := by decide +kernel
theorem dX2_mix_437 : decode cX2_mix 437 = .ok (.iload 6, 2) := by decide +kernel
theorem dX2_mix_439 : decode cX2_mix 439 = .ok (.iadd, 1) := by decide +kernel
theorem dX2_mix_440 : decode cX2_mix 440 = .ok (.iastore, 1) := by decide +kernel
theorem dX2_mix_441 : decode cX2_mix 441 = .ok (.aload_n 0, 1) := by decide +kernel
theorem dX2_mix_442 : decode cX2_mix 442 = .ok (.getfield 16, 3) := by decide +kernel
theorem dX2_mix_445 : decode cX2_mix 445 = .ok (.bipush 6, 2) := by decide +kernel
theorem dX2_mix_447 : decode cX2_mix 447 = .ok (.dup2, 1) := by decide +kernel
theorem dX2_mix_448 : decode cX2_mix 448 = .ok (.iaload, 1) := by decide +kernel
theorem dX2_mix_449 : decode cX2_mix 449 = .ok (.iload 7, 2) := by decide +kernel
theorem dX2_mix_451 : decode cX2_mix 451 = .ok (.iadd, 1) := by decide +kernel
theorem dX2_mix_452 : decode cX2_mix 452 = .ok (.iastore, 1) := by decide +kernel
theorem dX2_mix_453 : decode cX2_mix 453 = .ok (.aload_n 0, 1) := by decide +kernel
theorem dX2_mix_454 : decode cX2_mix 454 = .ok (.getfield 16, 3) := by decide +kernel
theorem dX2_mix_457 : decode cX2_mix 457 = .ok (.bipush 7, 2) := by decide +kernel
theorem dX2_mix_459 : decode cX2_mix 459 = .ok (.dup2, 1) := by decide +kernel
theorem dX2_mix_460 : decode cX2_mix 460 = .ok (.iaload, 1) := by decide +kernel
theorem dX2_mix_461 : decode cX2_mix 461 = .ok (.iload 8, 2) := by decide +kernel
theorem dX2_mix_463 : decode cX2_mix 463 = .ok (.iadd, 1) := by decide +kernel
theorem dX2_mix_464 : decode cX2_mix 464 = .ok (.iastore, 1) := by decide +kernel
theorem dX2_mix_465 : decode cX2_mix 465 = .ok (.return_, 1) := by decide +kernel
/-! CoinJudge$Digests.mix()V -/
set_option maxHeartbeats 4000000 in
theorem sX2_mix_0 {G : Gx} {d t : Nat} {h0 : AH} {Φ : Out → AH → Prop} (h : AH) (v0 : Nat) (K : Aw G mX2_mix (d + 1) t h0 Φ 2 [vR v0, vI 0, vU, vU, vU, vU, vU, vU, vU, vU, vU, vU] [] h) : Aw G mX2_mix (d + 1) t h0 Φ 0 [vR v0, vU, vU, vU, vU, vU, vU, vU, vU, vU, vU, vU] [] h := by
  refine r_iconst (pc := 0) (x := 0) dX2_mix_0 rfl ?_
  refine r_istore_n (pc := 1) (lv' := [_, _, _, _, _, _, _, _, _, _, _, _]) dX2_mix_1 (by decide) rfl ?_
  refine r_mask (pc := 2) [true, true, false, false, false, false, false, false, false, false, false, false] rfl ?_
  exact K
theorem eX2_mix {G : Gx} {d : Nat} {Φ : Out → AH → Prop} (h : AH) (v0 : Nat) (K : WF G h → Aw G mX2_mix (d + 1) 0 h Φ 0 [vR v0, vU, vU, vU, vU, vU, vU, vU, vU, vU, vU, vU] [] h) : Cw G mX2_mix (d + 1) 0 [vR v0] h Φ := Cw.of rfl K
set_option maxHeartbeats 4000000 in
theorem sX2_mix_2 {G : Gx} {d t : Nat} {h0 : AH} {Φ : Out → AH → Prop} (h : AH) (v0 : Nat) (v1 : Int32) (K : ((64 ≤ v1 → h.kd v0 = 2 ∧ ∀ r3 : Nat, r3 = (h.r 2002 v0) → h.kd r3 = 100 ∧ vp_in 0 (h.ai r3).length ∧ ∀ u6 : Int32, u6 = ((h.ai r3).getD ((0 : Int32).toNatClampNeg) 0) → vp_in 1 (h.ai r3).length ∧ ∀ u8 : Int32, u8 = ((h.ai r3).getD ((1 : Int32).toNatClampNeg) 0) → vp_in 2 (h.ai r3).length ∧ ∀ u10 : Int32, u10 = ((h.ai r3).getD ((2 : Int32).toNatClampNeg) 0) → vp_in 3 (h.ai r3).length ∧ ∀ u12 : Int32, u12 = ((h.ai r3).getD ((3 : Int32).toNatClampNeg) 0) → vp_in 4 (h.ai r3).length ∧ ∀ u14 : Int32, u14 = ((h.ai r3).getD ((4 : Int32).toNatClampNeg) 0) → vp_in 5 (h.ai r3).length ∧ ∀ u16 : Int32, u16 = ((h.ai r3).getD ((5 : Int32).toNatClampNeg) 0) → vp_in 6 (h.ai r3).length ∧ ∀ u18 : Int32, u18 = ((h.ai r3).getD ((6 : Int32).toNatClampNeg) 0) → vp_in 7 (h.ai r3).length ∧ ∀ u20 : Int32, u20 = ((h.ai r3).getD ((7 : Int32).toNatClampNeg) 0) → Aw G mX2_mix (d + 1) t h0 Φ 242 [vR v0, vI u6, vI u8, vI u10, vI u12, vI u14, vI u16, vI u18, vI u20, vI 0, vU, vU] [] h) ∧ (¬ 64 ≤ v1 → ((16 ≤ v1 → h.kd v0 = 2 ∧ ∀ r23 : Nat, r23 = (h.r 2003 v0) → h.kd r23 = 100 ∧ vp_in (v1 - 15) (h.ai r23).length ∧ ∀ u26 : Int32, u26 = ((h.ai r23).getD ((v1 - 15).toNatClampNeg) 0) → vp_in (v1 - 2) (h.ai r23).length ∧ ∀ u28 : Int32, u28 = ((h.ai r23).getD ((v1 - 2).toNatClampNeg) 0) → vp_in (v1 - 16) (h.ai r23).length ∧ Cw G mJ9_rotateRight d 0 [vI u26, vI 7] h (kI (fun x30 h31 => Cw G mJ9_rotateRight d 0 [vI u26, vI 18] h31 (kI (fun x32 h33 => vp_in (v1 - 7) (h33.ai r23).length ∧ Cw G mJ9_rotateRight d 0 [vI u28, vI 17] h33 (kI (fun x42 h43 => Cw G mJ9_rotateRight d 0 [vI u28, vI 19] h43 (kI (fun x44 h45 => vp_in v1 (h45.ai r23).length ∧ ∀ h49 : AH, h49 = h45.wi r23 ((h45.ai r23).set (v1.toNatClampNeg) (((((h.ai r23).getD ((v1 - 16).toNatClampNeg) 0) + ((x30 ^^^ x32) ^^^ (jushr u26 3))) + ((h33.ai r23).getD ((v1 - 7).toNatClampNeg) 0)) + ((x42 ^^^ x44) ^^^ (jushr u28 10)))) → Aw G mX2_mix (d + 1) t h0 Φ 2 [vR v0, vI (v1 + 1), vU, vU, vU, vU, vU, vU, vU, vU, vU, vU] [] h49) (fun x h => Φ (.inr x) h))) (fun x h => Φ (.inr x) h))) (fun x h => Φ (.inr x) h))) (fun x h => Φ (.inr x) h))) ∧ (¬ 16 ≤ v1 → h.kd v0 = 2 ∧ ∀ r51 : Nat, r51 = (h.r 2003 v0) → ∀ r52 : Nat, r52 = (h.r 2007 v0) → h.kd r52 = 101 ∧ vp_in (4 * v1) (h.ai r52).length ∧ vp_in ((4 * v1) + 1) (h.ai r52).length ∧ vp_in ((4 * v1) + 2) (h.ai r52).length ∧ vp_in ((4 * v1) + 3) (h.ai r52).length ∧ h.kd r51 = 100 ∧ vp_in v1 (h.ai r51).length ∧ ∀ h60 : AH, h60 = h.wi r51 ((h.ai r51).set (v1.toNatClampNeg) ((((jshl (((h.ai r52).getD ((4 * v1).toNatClampNeg) 0) &&& 255) 24) ||| (jshl (((h.ai r52).getD (((4 * v1) + 1).toNatClampNeg) 0) &&& 255) 16)) ||| (jshl (((h.ai r52).getD (((4 * v1) + 2).toNatClampNeg) 0) &&& 255) 8)) ||| (((h.ai r52).getD (((4 * v1) + 3).toNatClampNeg) 0) &&& 255))) → Aw G mX2_mix (d + 1) t h0 Φ 2 [vR v0, vI (v1 + 1), vU, vU, vU, vU, vU, vU, vU, vU, vU, vU] [] h60))))) : Aw G mX2_mix (d + 1) t h0 Φ 2 [vR v0, vI v1, vU, vU, vU, vU, vU, vU, vU, vU, vU, vU] [] h := by
  refine r_iload_n (pc := 2) dX2_mix_2 rfl ?_
  refine r_bipush (pc := 3) (x := 64) dX2_mix_3 rfl ?_
  refine r_icmp_ge (pc := 5) (tgt := 176) dX2_mix_5 rfl (fun c1 => ?_) (fun c1 => ?_)
  · have K := K.1 c1
    refine r_aload_n (pc := 176) dX2_mix_176 rfl ?_
    obtain ⟨hk2, K⟩ := K
    have K := K _ rfl
    refine r_getr' (pc := 177) (T := TX2) 2 2 rfl hk2 (Or.inl q239) dX2_mix_177 kc2 g2002 ?_
    refine r_iconst (pc := 180) (x := 0) dX2_mix_180 rfl ?_
    obtain ⟨hk4, K⟩ := K
    obtain ⟨hi5, K⟩ := K
    refine r_iaload (pc := 181) hk4 hi5 dX2_mix_181 ?_
    have K := K _ rfl
    refine r_istore_n (pc := 182) (lv' := [_, _, _, _, _, _, _, _, _, _, _, _]) dX2_mix_182 (by decide) rfl ?_
    refine r_aload_n (pc := 183) dX2_mix_183 rfl ?_
    refine r_getr' (pc := 184) (T := TX2) 2 2 rfl hk2 (Or.inl q239) dX2_mix_184 kc2 g2002 ?_
    refine r_iconst (pc := 187) (x := 1) dX2_mix_187 rfl ?_
    obtain ⟨hi7, K⟩ := K
    refine r_iaload (pc := 188) hk4 hi7 dX2_mix_188 ?_
    have K := K _ rfl
    refine r_istore_n (pc := 189) (lv' := [_, _, _, _, _, _, _, _, _, _, _, _]) dX2_mix_189 (by decide) rfl ?_
    refine r_aload_n (pc := 190) dX2_mix_190 rfl ?_
    refine r_getr' (pc := 191) (T := TX2) 2 2 rfl hk2 (Or.inl q239) dX2_mix_191 kc2 g2002 ?_
    refine r_iconst (pc := 194) (x := 2) dX2_mix_194 rfl ?_
    obtain ⟨hi9, K⟩ := K
    refine r_iaload (pc := 195) hk4 hi9 dX2_mix_195 ?_
    have K := K _ rfl
    refine r_istore_n (pc := 196) (lv' := [_, _, _, _, _, _, _, _, _, _, _, _]) dX2_mix_196 (by decide) rfl ?_
    refine r_aload_n (pc := 197) dX2_mix_197 rfl ?_
    refine r_getr' (pc := 198) (T := TX2) 2 2 rfl hk2 (Or.inl q239) dX2_mix_198 kc2 g2002 ?_
    refine r_iconst (pc := 201) (x := 3) dX2_mix_201 rfl ?_
    obtain ⟨hi11, K⟩ := K
    refine r_iaload (pc := 202) hk4 hi11 dX2_mix_202 ?_
    have K := K _ rfl
    refine r_istore (pc := 203) (lv' := [_, _, _, _, _, _, _, _, _, _, _, _]) dX2_mix_203 (by decide) rfl ?_
    refine r_aload_n (pc := 205) dX2_mix_205 rfl ?_
    refine r_getr' (pc := 206) (T := TX2) 2 2 rfl hk2 (Or.inl q239) dX2_mix_206 kc2 g2002 ?_
    refine r_iconst (pc := 209) (x := 4) dX2_mix_209 rfl ?_
    obtain ⟨hi13, K⟩ := K
    refine r_iaload (pc := 210) hk4 hi13 dX2_mix_210 ?_
    have K := K _ rfl
    refine r_istore (pc := 211) (lv' := [_, _, _, _, _, _, _, _, _, _, _, _]) dX2_mix_211 (by decide) rfl ?_
    refine r_aload_n (pc := 213) dX2_mix_213 rfl ?_
    refine r_getr' (pc := 214) (T := TX2) 2 2 rfl hk2 (Or.inl q239) dX2_mix_214 kc2 g2002 ?_
    refine r_iconst (pc := 217) (x := 5) dX2_mix_217 rfl ?_
    obtain ⟨hi15, K⟩ := K
    refine r_iaload (pc := 218) hk4 hi15 dX2_mix_218 ?_
    have K := K _ rfl
    refine r_istore (pc := 219) (lv' := [_, _, _, _, _, _, _, _, _, _, _, _]) dX2_mix_219 (by decide) rfl ?_
    refine r_aload_n (pc := 221) dX2_mix_221 rfl ?_
    refine r_getr' (pc := 222) (T := TX2) 2 2 rfl hk2 (Or.inl q239) dX2_mix_222 kc2 g2002 ?_
    refine r_bipush (pc := 225) (x := 6) dX2_mix_225 rfl ?_
    obtain ⟨hi17, K⟩ := K
    refine r_iaload (pc := 227) hk4 hi17 dX2_mix_227 ?_
    have K := K _ rfl
    refine r_istore (pc := 228) (lv' := [_, _, _, _, _, _, _, _, _, _, _, _]) dX2_mix_228 (by decide) rfl ?_
    refine r_aload_n (pc := 230) dX2_mix_230 rfl ?_
    refine r_getr' (pc := 231) (T := TX2) 2 2 rfl hk2 (Or.inl q239) dX2_mix_231 kc2 g2002 ?_
    refine r_bipush (pc := 234) (x := 7) dX2_mix_234 rfl ?_
    obtain ⟨hi19, K⟩ := K
    refine r_iaload (pc := 236) hk4 hi19 dX2_mix_236 ?_
    have K := K _ rfl
    refine r_istore (pc := 237) (lv' := [_, _, _, _, _, _, _, _, _, _, _, _]) dX2_mix_237 (by decide) rfl ?_
    refine r_iconst (pc := 239) (x := 0) dX2_mix_239 rfl ?_
    refine r_istore (pc := 240) (lv' := [_, _, _, _, _, _, _, _, _, _, _, _]) dX2_mix_240 (by decide) rfl ?_
    refine r_mask (pc := 242) [true, true, true, true, true, true, true, true, true, true, false, false] rfl ?_
    exact K
  · have K := K.2 c1
    refine r_iload_n (pc := 8) dX2_mix_8 rfl ?_
    refine r_bipush (pc := 9) (x := 16) dX2_mix_9 rfl ?_
    refine r_icmp_ge (pc := 11) (tgt := 89) dX2_mix_11 rfl (fun c21 => ?_) (fun c21 => ?_)
    · have K := K.1 c21
      refine r_aload_n (pc := 89) dX2_mix_89 rfl ?_
      obtain ⟨hk22, K⟩ := K
      have K := K _ rfl
      refine r_getr' (pc := 90) (T := TX2) 2 3 rfl hk22 (Or.inl q240) dX2_mix_90 kc2 g2003 ?_
      refine r_iload_n (pc := 93) dX2_mix_93 rfl ?_
      refine r_bipush (pc := 94) (x := 15) dX2_mix_94 rfl ?_
      refine r_isub (pc := 96) dX2_mix_96 ?_
      obtain ⟨hk24, K⟩ := K
      obtain ⟨hi25, K⟩ := K
      refine r_iaload (pc := 97) hk24 hi25 dX2_mix_97 ?_
      have K := K _ rfl
      refine r_istore_n (pc := 98) (lv' := [_, _, _, _, _, _, _, _, _, _, _, _]) dX2_mix_98 (by decide) rfl ?_
      refine r_aload_n (pc := 99) dX2_mix_99 rfl ?_
      refine r_getr' (pc := 100) (T := TX2) 2 3 rfl hk22 (Or.inl q240) dX2_mix_100 kc2 g2003 ?_
      refine r_iload_n (pc := 103) dX2_mix_103 rfl ?_
      refine r_iconst (pc := 104) (x := 2) dX2_mix_104 rfl ?_
      refine r_isub (pc := 105) dX2_mix_105 ?_
      obtain ⟨hi27, K⟩ := K
      refine r_iaload (pc := 106) hk24 hi27 dX2_mix_106 ?_
      have K := K _ rfl
      refine r_istore_n (pc := 107) (lv' := [_, _, _, _, _, _, _, _, _, _, _, _]) dX2_mix_107 (by decide) rfl ?_
      refine r_aload_n (pc := 108) dX2_mix_108 rfl ?_
      refine r_getr' (pc := 109) (T := TX2) 2 3 rfl hk22 (Or.inl q240) dX2_mix_109 kc2 g2003 ?_
      refine r_iload_n (pc := 112) dX2_mix_112 rfl ?_
      refine r_aload_n (pc := 113) dX2_mix_113 rfl ?_
      refine r_getr' (pc := 114) (T := TX2) 2 3 rfl hk22 (Or.inl q240) dX2_mix_114 kc2 g2003 ?_
      refine r_iload_n (pc := 117) dX2_mix_117 rfl ?_
      refine r_bipush (pc := 118) (x := 16) dX2_mix_118 rfl ?_
      refine r_isub (pc := 120) dX2_mix_120 ?_
      obtain ⟨hi29, K⟩ := K
      refine r_iaload (pc := 121) hk24 hi29 dX2_mix_121 ?_
      refine r_iload_n (pc := 122) dX2_mix_122 rfl ?_
      refine r_bipush (pc := 123) (x := 7) dX2_mix_123 rfl ?_
      refine r_callS_I (pc := 125) (Y := mJ9_rotateRight) (vs := [_, _]) (st := [_, _, _]) q921 q922 q173 dX2_mix_125 rfl cd_J9_rotateRight (cOk_of pf_J9_rotateRight rfl) rfl fp_X2_mix_J9_rotateRight K (fun x30 h31 eh31 wh31 K => ?_) (fun x h1 _ _ e => Tw.out rfl e)
      refine r_iload_n (pc := 128) dX2_mix_128 rfl ?_
      refine r_bipush (pc := 129) (x := 18) dX2_mix_129 rfl ?_
      refine r_callS_I (pc := 131) (Y := mJ9_rotateRight) (vs := [_, _]) (st := [_, _, _, _]) q921 q922 q173 dX2_mix_131 rfl cd_J9_rotateRight (cOk_of pf_J9_rotateRight rfl) rfl fp_X2_mix_J9_rotateRight K (fun x32 h33 eh33 wh33 K => ?_) (fun x h1 _ _ e => Tw.out rfl e)
      refine r_ixor (pc := 134) dX2_mix_134 ?_
      refine r_iload_n (pc := 135) dX2_mix_135 rfl ?_
      refine r_iconst (pc := 136) (x := 3) dX2_mix_136 rfl ?_
      refine r_jushr (pc := 137) dX2_mix_137 ?_
      refine r_ixor (pc := 138) dX2_mix_138 ?_
      refine r_iadd (pc := 139) dX2_mix_139 ?_
      refine r_aload_n (pc := 140) dX2_mix_140 rfl ?_
      have hk34 := kd_ext eh31 hk22 (nz rfl)
      have hk35 := kd_ext eh33 hk34 (nz rfl)
      have hv36 := fr_self (key := 2003) hk22
      have hv37 := (fr_ext (key := 2003) eh31 hk22 (nz rfl) (ne0 wh31 hk34 (nz rfl)) (nm rfl)).trans hv36
      have hv38 := (fr_ext (key := 2003) eh33 hk34 (nz rfl) (ne0 wh33 hk35 (nz rfl)) (nm rfl)).trans hv37
      refine r_getr' (pc := 141) (T := TX2) 2 3 hv38 hk35 (Or.inl q240) dX2_mix_141 kc2 g2003 ?_
      refine r_iload_n (pc := 144) dX2_mix_144 rfl ?_
      refine r_bipush (pc := 145) (x := 7) dX2_mix_145 rfl ?_
      refine r_isub (pc := 147) dX2_mix_147 ?_
      have hk39 := kd_ext eh31 hk24 (nz rfl)
      have hk40 := kd_ext eh33 hk39 (nz rfl)
      obtain ⟨hi41, K⟩ := K
      refine r_iaload (pc := 148) hk40 hi41 dX2_mix_148 ?_
      refine r_iadd (pc := 149) dX2_mix_149 ?_
      refine r_iload_n (pc := 150) dX2_mix_150 rfl ?_
      refine r_bipush (pc := 151) (x := 17) dX2_mix_151 rfl ?_
      refine r_callS_I (pc := 153) (Y := mJ9_rotateRight) (vs := [_, _]) (st := [_, _, _]) q921 q922 q173 dX2_mix_153 rfl cd_J9_rotateRight (cOk_of pf_J9_rotateRight rfl) rfl fp_X2_mix_J9_rotateRight K (fun x42 h43 eh43 wh43 K => ?_) (fun x h1 _ _ e => Tw.out rfl e)
      refine r_iload_n (pc := 156) dX2_mix_156 rfl ?_
      refine r_bipush (pc := 157) (x := 19) dX2_mix_157 rfl ?_
      refine r_callS_I (pc := 159) (Y := mJ9_rotateRight) (vs := [_, _]) (st := [_, _, _, _]) q921 q922 q173 dX2_mix_159 rfl cd_J9_rotateRight (cOk_of pf_J9_rotateRight rfl) rfl fp_X2_mix_J9_rotateRight K (fun x44 h45 eh45 wh45 K => ?_) (fun x h1 _ _ e => Tw.out rfl e)
      refine r_ixor (pc := 162) dX2_mix_162 ?_
      refine r_iload_n (pc := 163) dX2_mix_163 rfl ?_
      refine r_bipush (pc := 164) (x := 10) dX2_mix_164 rfl ?_
      refine r_jushr (pc := 166) dX2_mix_166 ?_
      refine r_ixor (pc := 167) dX2_mix_167 ?_
      refine r_iadd (pc := 168) dX2_mix_168 ?_
      have hk46 := kd_ext eh43 hk40 (nz rfl)
      have hk47 := kd_ext eh45 hk46 (nz rfl)
      obtain ⟨hi48, K⟩ := K
      refine r_iastore (pc := 169) hk47 hi48 (Or.inl (em rfl)) dX2_mix_169 ?_
      refine r_nameH (fun h49 eh49 => ?_)
      have K := K h49 eh49
      refine r_iinc (pc := 170) (lv' := [_, _, _, _, _, _, _, _, _, _, _, _]) dX2_mix_170 rfl rfl (by decide) rfl ?_
      refine r_goto (pc := 173) (tgt := 2) dX2_mix_173 rfl ?_
      refine r_mask (pc := 2) [true, true, false, false, false, false, false, false, false, false, false, false] rfl ?_
      exact K
    · have K := K.2 c21
      refine r_aload_n (pc := 14) dX2_mix_14 rfl ?_
      obtain ⟨hk50, K⟩ := K
      have K := K _ rfl
      refine r_getr' (pc := 15) (T := TX2) 2 3 rfl hk50 (Or.inl q240) dX2_mix_15 kc2 g2003 ?_
      refine r_iload_n (pc := 18) dX2_mix_18 rfl ?_
      refine r_aload_n (pc := 19) dX2_mix_19 rfl ?_
      have K := K _ rfl
      refine r_getr' (pc := 20) (T := TX2) 2 7 rfl hk50 (Or.inl q244) dX2_mix_20 kc2 g2007 ?_
      refine r_iconst (pc := 23) (x := 4) dX2_mix_23 rfl ?_
      refine r_iload_n (pc := 24) dX2_mix_24 rfl ?_
      refine r_imul (pc := 25) dX2_mix_25 ?_
      obtain ⟨hk53, K⟩ := K
      obtain ⟨hi54, K⟩ := K
      refine r_baload (pc := 26) hk53 hi54 dX2_mix_26 ?_
      refine r_sipush (pc := 27) (x := 255) dX2_mix_27 rfl ?_
      refine r_iand (pc := 30) dX2_mix_30 ?_
      refine r_bipush (pc := 31) (x := 24) dX2_mix_31 rfl ?_
      refine r_jshl (pc := 33) dX2_mix_33 ?_
      refine r_aload_n (pc := 34) dX2_mix_34 rfl ?_
      refine r_getr' (pc := 35) (T := TX2) 2 7 rfl hk50 (Or.inl q244) dX2_mix_35 kc2 g2007 ?_
      refine r_iconst (pc := 38) (x := 4) dX2_mix_38 rfl ?_
      refine r_iload_n (pc := 39) dX2_mix_39 rfl ?_
      refine r_imul (pc := 40) dX2_mix_40 ?_
      refine r_iconst (pc := 41) (x := 1) dX2_mix_41 rfl ?_
      refine r_iadd (pc := 42) dX2_mix_42 ?_
      obtain ⟨hi55, K⟩ := K
      refine r_baload (pc := 43) hk53 hi55 dX2_mix_43 ?_
      refine r_sipush (pc := 44) (x := 255) dX2_mix_44 rfl ?_
      refine r_iand (pc := 47) dX2_mix_47 ?_
      refine r_bipush (pc := 48) (x := 16) dX2_mix_48 rfl ?_
      refine r_jshl (pc := 50) dX2_mix_50 ?_
      refine r_ior (pc := 51) dX2_mix_51 ?_
      refine r_aload_n (pc := 52) dX2_mix_52 rfl ?_
      refine r_getr' (pc := 53) (T := TX2) 2 7 rfl hk50 (Or.inl q244) dX2_mix_53 kc2 g2007 ?_
      refine r_iconst (pc := 56) (x := 4) dX2_mix_56 rfl ?_
      refine r_iload_n (pc := 57) dX2_mix_57 rfl ?_
      refine r_imul (pc := 58) dX2_mix_58 ?_
      refine r_iconst (pc := 59) (x := 2) dX2_mix_59 rfl ?_
      refine r_iadd (pc := 60) dX2_mix_60 ?_
      obtain ⟨hi56, K⟩ := K
      refine r_baload (pc := 61) hk53 hi56 dX2_mix_61 ?_
      refine r_sipush (pc := 62) (x := 255) dX2_mix_62 rfl ?_
      refine r_iand (pc := 65) dX2_mix_65 ?_
      refine r_bipush (pc := 66) (x := 8) dX2_mix_66 rfl ?_
      refine r_jshl (pc := 68) dX2_mix_68 ?_
      refine r_ior (pc := 69) dX2_mix_69 ?_
      refine r_aload_n (pc := 70) dX2_mix_70 rfl ?_
      refine r_getr' (pc := 71) (T := TX2) 2 7 rfl hk50 (Or.inl q244) dX2_mix_71 kc2 g2007 ?_
      refine r_iconst (pc := 74) (x := 4) dX2_mix_74 rfl ?_
      refine r_iload_n (pc := 75) dX2_mix_75 rfl ?_
      refine r_imul (pc := 76) dX2_mix_76 ?_
      refine r_iconst (pc := 77) (x := 3) dX2_mix_77 rfl ?_
      refine r_iadd (pc := 78) dX2_mix_78 ?_
      obtain ⟨hi57, K⟩ := K
      refine r_baload (pc := 79) hk53 hi57 dX2_mix_79 ?_
      refine r_sipush (pc := 80) (x := 255) dX2_mix_80 rfl ?_
      refine r_iand (pc := 83) dX2_mix_83 ?_
      refine r_ior (pc := 84) dX2_mix_84 ?_
      obtain ⟨hk58, K⟩ := K
      obtain ⟨hi59, K⟩ := K
      refine r_iastore (pc := 85) hk58 hi59 (Or.inl (em rfl)) dX2_mix_85 ?_
      refine r_nameH (fun h60 eh60 => ?_)
      have K := K h60 eh60
      refine r_goto (pc := 86) (tgt := 170) dX2_mix_86 rfl ?_
      refine r_iinc (pc := 170) (lv' := [_, _, _, _, _, _, _, _, _, _, _, _]) dX2_mix_170 rfl rfl (by decide) rfl ?_
      refine r_goto (pc := 173) (tgt := 2) dX2_mix_173 rfl ?_
      refine r_mask (pc := 2) [true, true, false, false, false, false, false, false, false, false, false, false] rfl ?_
      exact K
set_option maxHeartbeats 4000000 in
theorem sX2_mix_242 {G : Gx} {d t : Nat} {h0 : AH} {Φ : Out → AH → Prop} (h : AH) (v0 : Nat) (v1 : Int32) (v2 : Int32) (v3 : Int32) (v4 : Int32) (v5 : Int32) (v6 : Int32) (v7 : Int32) (v8 : Int32) (v9 : Int32) (K : ((64 ≤ v9 → h.kd v0 = 2 ∧ ∀ r3 : Nat, r3 = (h.r 2002 v0) → h.kd r3 = 100 ∧ vp_in 0 (h.ai r3).length ∧ vp_in 0 (h.ai r3).length ∧ ∀ h7 : AH, h7 = h.wi r3 ((h.ai r3).set ((0 : Int32).toNatClampNeg) (((h.ai r3).getD ((0 : Int32).toNatClampNeg) 0) + v1)) → vp_in 1 (h7.ai r3).length ∧ vp_in 1 (h7.ai r3).length ∧ ∀ h14 : AH, h14 = h7.wi r3 ((h7.ai r3).set ((1 : Int32).toNatClampNeg) (((h7.ai r3).getD ((1 : Int32).toNatClampNeg) 0) + v2)) → vp_in 2 (h14.ai r3).length ∧ vp_in 2 (h14.ai r3).length ∧ ∀ h20 : AH, h20 = h14.wi r3 ((h14.ai r3).set ((2 : Int32).toNatClampNeg) (((h14.ai r3).getD ((2 : Int32).toNatClampNeg) 0) + v3)) → vp_in 3 (h20.ai r3).length ∧ vp_in 3 (h20.ai r3).length ∧ ∀ h26 : AH, h26 = h20.wi r3 ((h20.ai r3).set ((3 : Int32).toNatClampNeg) (((h20.ai r3).getD ((3 : Int32).toNatClampNeg) 0) + v4)) → vp_in 4 (h26.ai r3).length ∧ vp_in 4 (h26.ai r3).length ∧ ∀ h32 : AH, h32 = h26.wi r3 ((h26.ai r3).set ((4 : Int32).toNatClampNeg) (((h26.ai r3).getD ((4 : Int32).toNatClampNeg) 0) + v5)) → vp_in 5 (h32.ai r3).length ∧ vp_in 5 (h32.ai r3).length ∧ ∀ h38 : AH, h38 = h32.wi r3 ((h32.ai r3).set ((5 : Int32).toNatClampNeg) (((h32.ai r3).getD ((5 : Int32).toNatClampNeg) 0) + v6)) → vp_in 6 (h38.ai r3).length ∧ vp_in 6 (h38.ai r3).length ∧ ∀ h44 : AH, h44 = h38.wi r3 ((h38.ai r3).set ((6 : Int32).toNatClampNeg) (((h38.ai r3).getD ((6 : Int32).toNatClampNeg) 0) + v7)) → vp_in 7 (h44.ai r3).length ∧ vp_in 7 (h44.ai r3).length ∧ ∀ h50 : AH, h50 = h44.wi r3 ((h44.ai r3).set ((7 : Int32).toNatClampNeg) (((h44.ai r3).getD ((7 : Int32).toNatClampNeg) 0) + v8)) → Φ (.inl none) h50) ∧ (¬ 64 ≤ v9 → Cw G mJ9_rotateRight d 0 [vI v5, vI 6] h (kI (fun x51 h52 => Cw G mJ9_rotateRight d 0 [vI v5, vI 11] h52 (kI (fun x53 h54 => Cw G mJ9_rotateRight d 0 [vI v5, vI 25] h54 (kI (fun x55 h56 => h56.kd v0 = 2 ∧ ∀ r58 : Nat, r58 = (h56.r 2000 v0) → h56.kd r58 = 100 ∧ vp_in v9 (h56.ai r58).length ∧ ∀ r61 : Nat, r61 = (h56.r 2003 v0) → h56.kd r61 = 100 ∧ vp_in v9 (h56.ai r61).length ∧ ∀ u64 : Int32, u64 = ((((v8 + ((x51 ^^^ x53) ^^^ x55)) + ((v5 &&& v6) ^^^ ((v5 ^^^ (-1)) &&& v7))) + ((h56.ai r58).getD (v9.toNatClampNeg) 0)) + ((h56.ai r61).getD (v9.toNatClampNeg) 0)) → Cw G mJ9_rotateRight d 0 [vI v1, vI 2] h56 (kI (fun x65 h66 => Cw G mJ9_rotateRight d 0 [vI v1, vI 13] h66 (kI (fun x67 h68 => Cw G mJ9_rotateRight d 0 [vI v1, vI 22] h68 (kI (fun x69 h70 => ∀ u71 : Int32, u71 = (((x65 ^^^ x67) ^^^ x69) + (((v1 &&& v2) ^^^ (v1 &&& v3)) ^^^ (v2 &&& v3))) → Aw G mX2_mix (d + 1) t h0 Φ 242 [vR v0, vI (u64 + u71), vI v1, vI v2, vI v3, vI (v4 + u64), vI v5, vI v6, vI v7, vI (v9 + 1), vU, vU] [] h70) (fun x h => Φ (.inr x) h))) (fun x h => Φ (.inr x) h))) (fun x h => Φ (.inr x) h))) (fun x h => Φ (.inr x) h))) (fun x h => Φ (.inr x) h))) (fun x h => Φ (.inr x) h))))) : Aw G mX2_mix (d + 1) t h0 Φ 242 [vR v0, vI v1, vI v2, vI v3, vI v4, vI v5, vI v6, vI v7, vI v8, vI v9, vU, vU] [] h := by
  refine r_iload (pc := 242) dX2_mix_242 rfl ?_
  refine r_bipush (pc := 244) (x := 64) dX2_mix_244 rfl ?_
  refine r_icmp_ge (pc := 246) (tgt := 378) dX2_mix_246 rfl (fun c1 => ?_) (fun c1 => ?_)
  · have K := K.1 c1
    refine r_aload_n (pc := 378) dX2_mix_378 rfl ?_
    obtain ⟨hk2, K⟩ := K
    have K := K _ rfl
    refine r_getr' (pc := 379) (T := TX2) 2 2 rfl hk2 (Or.inl q239) dX2_mix_379 kc2 g2002 ?_
    refine r_iconst (pc := 382) (x := 0) dX2_mix_382 rfl ?_
    refine r_dup2 (pc := 383) rfl rfl dX2_mix_383 ?_
    obtain ⟨hk4, K⟩ := K
    obtain ⟨hi5, K⟩ := K
    refine r_iaload (pc := 384) hk4 hi5 dX2_mix_384 ?_
    refine r_iload_n (pc := 385) dX2_mix_385 rfl ?_
    refine r_iadd (pc := 386) dX2_mix_386 ?_
    obtain ⟨hi6, K⟩ := K
    refine r_iastore (pc := 387) hk4 hi6 (Or.inl (em rfl)) dX2_mix_387 ?_
    refine r_nameH (fun h7 eh7 => ?_)
    have K := K h7 eh7
    refine r_aload_n (pc := 388) dX2_mix_388 rfl ?_
    have hk8 := kd_wi eh7 hk2
    have hv9 := fr_self (key := 2002) hk2
    have hv10 := fr_wi (key := 2002) eh7 hv9
    refine r_getr' (pc := 389) (T := TX2) 2 2 hv10 hk8 (Or.inl q239) dX2_mix_389 kc2 g2002 ?_
    refine r_iconst (pc := 392) (x := 1) dX2_mix_392 rfl ?_
    refine r_dup2 (pc := 393) rfl rfl dX2_mix_393 ?_
    have hk11 := kd_wi eh7 hk4
    obtain ⟨hi12, K⟩ := K
    refine r_iaload (pc := 394) hk11 hi12 dX2_mix_394 ?_
    refine r_iload_n (pc := 395) dX2_mix_395 rfl ?_
    refine r_iadd (pc := 396) dX2_mix_396 ?_
    obtain ⟨hi13, K⟩ := K
    refine r_iastore (pc := 397) hk11 hi13 (Or.inl (em rfl)) dX2_mix_397 ?_
    refine r_nameH (fun h14 eh14 => ?_)
    have K := K h14 eh14
    refine r_aload_n (pc := 398) dX2_mix_398 rfl ?_
    have hk15 := kd_wi eh14 hk8
    have hv16 := fr_wi (key := 2002) eh14 hv10
    refine r_getr' (pc := 399) (T := TX2) 2 2 hv16 hk15 (Or.inl q239) dX2_mix_399 kc2 g2002 ?_
    refine r_iconst (pc := 402) (x := 2) dX2_mix_402 rfl ?_
    refine r_dup2 (pc := 403) rfl rfl dX2_mix_403 ?_
    have hk17 := kd_wi eh14 hk11
    obtain ⟨hi18, K⟩ := K
    refine r_iaload (pc := 404) hk17 hi18 dX2_mix_404 ?_
    refine r_iload_n (pc := 405) dX2_mix_405 rfl ?_
    refine r_iadd (pc := 406) dX2_mix_406 ?_
    obtain ⟨hi19, K⟩ := K
    refine r_iastore (pc := 407) hk17 hi19 (Or.inl (em rfl)) dX2_mix_407 ?_
    refine r_nameH (fun h20 eh20 => ?_)
    have K := K h20 eh20
    refine r_aload_n (pc := 408) dX2_mix_408 rfl ?_
    have hk21 := kd_wi eh20 hk15
    have hv22 := fr_wi (key := 2002) eh20 hv16
    refine r_getr' (pc := 409) (T := TX2) 2 2 hv22 hk21 (Or.inl q239) dX2_mix_409 kc2 g2002 ?_
    refine r_iconst (pc := 412) (x := 3) dX2_mix_412 rfl ?_
    refine r_dup2 (pc := 413) rfl rfl dX2_mix_413 ?_
    have hk23 := kd_wi eh20 hk17
    obtain ⟨hi24, K⟩ := K
    refine r_iaload (pc := 414) hk23 hi24 dX2_mix_414 ?_
    refine r_iload (pc := 415) dX2_mix_415 rfl ?_
    refine r_iadd (pc := 417) dX2_mix_417 ?_
    obtain ⟨hi25, K⟩ := K
    refine r_iastore (pc := 418) hk23 hi25 (Or.inl (em rfl)) dX2_mix_418 ?_
    refine r_nameH (fun h26 eh26 => ?_)
    have K := K h26 eh26
    refine r_aload_n (pc := 419) dX2_mix_419 rfl ?_
    have hk27 := kd_wi eh26 hk21
    have hv28 := fr_wi (key := 2002) eh26 hv22
    refine r_getr' (pc := 420) (T := TX2) 2 2 hv28 hk27 (Or.inl q239) dX2_mix_420 kc2 g2002 ?_
    refine r_iconst (pc := 423) (x := 4) dX2_mix_423 rfl ?_
    refine r_dup2 (pc := 424) rfl rfl dX2_mix_424 ?_
    have hk29 := kd_wi eh26 hk23
    obtain ⟨hi30, K⟩ := K
    refine r_iaload (pc := 425) hk29 hi30 dX2_mix_425 ?_
    refine r_iload (pc := 426) dX2_mix_426 rfl ?_
    refine r_iadd (pc := 428) dX2_mix_428 ?_
    obtain ⟨hi31, K⟩ := K
    refine r_iastore (pc := 429) hk29 hi31 (Or.inl (em rfl)) dX2_mix_429 ?_
    refine r_nameH (fun h32 eh32 => ?_)
    have K := K h32 eh32
    refine r_aload_n (pc := 430) dX2_mix_430 rfl ?_
    have hk33 := kd_wi eh32 hk27
    have hv34 := fr_wi (key := 2002) eh32 hv28
    refine r_getr' (pc := 431) (T := TX2) 2 2 hv34 hk33 (Or.inl q239) dX2_mix_431 kc2 g2002 ?_
    refine r_iconst (pc := 434) (x := 5) dX2_mix_434 rfl ?_
    refine r_dup2 (pc := 435) rfl rfl dX2_mix_435 ?_
    have hk35 := kd_wi eh32 hk29
    obtain ⟨hi36, K⟩ := K
    refine r_iaload (pc := 436) hk35 hi36 dX2_mix_436 ?_
    refine r_iload (pc := 437) dX2_mix_437 rfl ?_
    refine r_iadd (pc := 439) dX2_mix_439 ?_
    obtain ⟨hi37, K⟩ := K
    refine r_iastore (pc := 440) hk35 hi37 (Or.inl (em rfl)) dX2_mix_440 ?_
    refine r_nameH (fun h38 eh38 => ?_)
    have K := K h38 eh38
    refine r_aload_n (pc := 441) dX2_mix_441 rfl ?_
    have hk39 := kd_wi eh38 hk33
    have hv40 := fr_wi (key := 2002) eh38 hv34
    refine r_getr' (pc := 442) (T := TX2) 2 2 hv40 hk39 (Or.inl q239) dX2_mix_442 kc2 g2002 ?_
    refine r_bipush (pc := 445) (x := 6) dX2_mix_445 rfl ?_
    refine r_dup2 (pc := 447) rfl rfl dX2_mix_447 ?_
    have hk41 := kd_wi eh38 hk35
    obtain ⟨hi42, K⟩ := K
    refine r_iaload (pc := 448) hk41 hi42 dX2_mix_448 ?_
    refine r_iload (pc := 449) dX2_mix_449 rfl ?_
    refine r_iadd (pc := 451) dX2_mix_451 ?_
    obtain ⟨hi43, K⟩ := K
    refine r_iastore (pc := 452) hk41 hi43 (Or.inl (em rfl)) dX2_mix_452 ?_
    refine r_nameH (fun h44 eh44 => ?_)
    have K := K h44 eh44
    refine r_aload_n (pc := 453) dX2_mix_453 rfl ?_
    have hk45 := kd_wi eh44 hk39
    have hv46 := fr_wi (key := 2002) eh44 hv40
    refine r_getr' (pc := 454) (T := TX2) 2 2 hv46 hk45 (Or.inl q239) dX2_mix_454 kc2 g2002 ?_
    refine r_bipush (pc := 457) (x := 7) dX2_mix_457 rfl ?_
    refine r_dup2 (pc := 459) rfl rfl dX2_mix_459 ?_
    have hk47 := kd_wi eh44 hk41
    obtain ⟨hi48, K⟩ := K
    refine r_iaload (pc := 460) hk47 hi48 dX2_mix_460 ?_
    refine r_iload (pc := 461) dX2_mix_461 rfl ?_
    refine r_iadd (pc := 463) dX2_mix_463 ?_
    obtain ⟨hi49, K⟩ := K
    refine r_iastore (pc := 464) hk47 hi49 (Or.inl (em rfl)) dX2_mix_464 ?_
    refine r_nameH (fun h50 eh50 => ?_)
    have K := K h50 eh50
    exact r_vret (pc := 465) rfl dX2_mix_465 K
  · have K := K.2 c1
    refine r_iload (pc := 249) dX2_mix_249 rfl ?_
    refine r_iload (pc := 251) dX2_mix_251 rfl ?_
    refine r_bipush (pc := 253) (x := 6) dX2_mix_253 rfl ?_
    refine r_callS_I (pc := 255) (Y := mJ9_rotateRight) (vs := [_, _]) (st := [_]) q921 q922 q173 dX2_mix_255 rfl cd_J9_rotateRight (cOk_of pf_J9_rotateRight rfl) rfl fp_X2_mix_J9_rotateRight K (fun x51 h52 eh52 wh52 K => ?_) (fun x h1 _ _ e => Tw.out rfl e)
    refine r_iload (pc := 258) dX2_mix_258 rfl ?_
    refine r_bipush (pc := 260) (x := 11) dX2_mix_260 rfl ?_
    refine r_callS_I (pc := 262) (Y := mJ9_rotateRight) (vs := [_, _]) (st := [_, _]) q921 q922 q173 dX2_mix_262 rfl cd_J9_rotateRight (cOk_of pf_J9_rotateRight rfl) rfl fp_X2_mix_J9_rotateRight K (fun x53 h54 eh54 wh54 K => ?_) (fun x h1 _ _ e => Tw.out rfl e)
    refine r_ixor (pc := 265) dX2_mix_265 ?_
    refine r_iload (pc := 266) dX2_mix_266 rfl ?_
    refine r_bipush (pc := 268) (x := 25) dX2_mix_268 rfl ?_
    refine r_callS_I (pc := 270) (Y := mJ9_rotateRight) (vs := [_, _]) (st := [_, _]) q921 q922 q173 dX2_mix_270 rfl cd_J9_rotateRight (cOk_of pf_J9_rotateRight rfl) rfl fp_X2_mix_J9_rotateRight K (fun x55 h56 eh56 wh56 K => ?_) (fun x h1 _ _ e => Tw.out rfl e)
    refine r_ixor (pc := 273) dX2_mix_273 ?_
    refine r_iadd (pc := 274) dX2_mix_274 ?_
    refine r_iload (pc := 275) dX2_mix_275 rfl ?_
    refine r_iload (pc := 277) dX2_mix_277 rfl ?_
    refine r_iand (pc := 279) dX2_mix_279 ?_
    refine r_iload (pc := 280) dX2_mix_280 rfl ?_
    refine r_iconst (pc := 282) (x := (-1)) dX2_mix_282 rfl ?_
    refine r_ixor (pc := 283) dX2_mix_283 ?_
    refine r_iload (pc := 284) dX2_mix_284 rfl ?_
    refine r_iand (pc := 286) dX2_mix_286 ?_
    refine r_ixor (pc := 287) dX2_mix_287 ?_
    refine r_iadd (pc := 288) dX2_mix_288 ?_
    refine r_aload_n (pc := 289) dX2_mix_289 rfl ?_
    obtain ⟨hk57, K⟩ := K
    have K := K _ rfl
    refine r_getr' (pc := 290) (T := TX2) 2 0 rfl hk57 (Or.inl q237) dX2_mix_290 kc2 g2000 ?_
    refine r_iload (pc := 293) dX2_mix_293 rfl ?_
    obtain ⟨hk59, K⟩ := K
    obtain ⟨hi60, K⟩ := K
    refine r_iaload (pc := 295) hk59 hi60 dX2_mix_295 ?_
    refine r_iadd (pc := 296) dX2_mix_296 ?_
    refine r_aload_n (pc := 297) dX2_mix_297 rfl ?_
    have K := K _ rfl
    refine r_getr' (pc := 298) (T := TX2) 2 3 rfl hk57 (Or.inl q240) dX2_mix_298 kc2 g2003 ?_
    refine r_iload (pc := 301) dX2_mix_301 rfl ?_
    obtain ⟨hk62, K⟩ := K
    obtain ⟨hi63, K⟩ := K
    refine r_iaload (pc := 303) hk62 hi63 dX2_mix_303 ?_
    refine r_iadd (pc := 304) dX2_mix_304 ?_
    have K := K _ rfl
    refine r_istore (pc := 305) (lv' := [_, _, _, _, _, _, _, _, _, _, _, _]) dX2_mix_305 (by decide) rfl ?_
    refine r_iload_n (pc := 307) dX2_mix_307 rfl ?_
    refine r_iconst (pc := 308) (x := 2) dX2_mix_308 rfl ?_
    refine r_callS_I (pc := 309) (Y := mJ9_rotateRight) (vs := [_, _]) (st := []) q921 q922 q173 dX2_mix_309 rfl cd_J9_rotateRight (cOk_of pf_J9_rotateRight rfl) rfl fp_X2_mix_J9_rotateRight K (fun x65 h66 eh66 wh66 K => ?_) (fun x h1 _ _ e => Tw.out rfl e)
    refine r_iload_n (pc := 312) dX2_mix_312 rfl ?_
    refine r_bipush (pc := 313) (x := 13) dX2_mix_313 rfl ?_
    refine r_callS_I (pc := 315) (Y := mJ9_rotateRight) (vs := [_, _]) (st := [_]) q921 q922 q173 dX2_mix_315 rfl cd_J9_rotateRight (cOk_of pf_J9_rotateRight rfl) rfl fp_X2_mix_J9_rotateRight K (fun x67 h68 eh68 wh68 K => ?_) (fun x h1 _ _ e => Tw.out rfl e)
    refine r_ixor (pc := 318) dX2_mix_318 ?_
    refine r_iload_n (pc := 319) dX2_mix_319 rfl ?_
    refine r_bipush (pc := 320) (x := 22) dX2_mix_320 rfl ?_
    refine r_callS_I (pc := 322) (Y := mJ9_rotateRight) (vs := [_, _]) (st := [_]) q921 q922 q173 dX2_mix_322 rfl cd_J9_rotateRight (cOk_of pf_J9_rotateRight rfl) rfl fp_X2_mix_J9_rotateRight K (fun x69 h70 eh70 wh70 K => ?_) (fun x h1 _ _ e => Tw.out rfl e)
    refine r_ixor (pc := 325) dX2_mix_325 ?_
    refine r_iload_n (pc := 326) dX2_mix_326 rfl ?_
    refine r_iload_n (pc := 327) dX2_mix_327 rfl ?_
    refine r_iand (pc := 328) dX2_mix_328 ?_
    refine r_iload_n (pc := 329) dX2_mix_329 rfl ?_
    refine r_iload_n (pc := 330) dX2_mix_330 rfl ?_
    refine r_iand (pc := 331) dX2_mix_331 ?_
    refine r_ixor (pc := 332) dX2_mix_332 ?_
    refine r_iload_n (pc := 333) dX2_mix_333 rfl ?_
    refine r_iload_n (pc := 334) dX2_mix_334 rfl ?_
    refine r_iand (pc := 335) dX2_mix_335 ?_
    refine r_ixor (pc := 336) dX2_mix_336 ?_
    refine r_iadd (pc := 337) dX2_mix_337 ?_
    have K := K _ rfl
    refine r_istore (pc := 338) (lv' := [_, _, _, _, _, _, _, _, _, _, _, _]) dX2_mix_338 (by decide) rfl ?_
    refine r_iload (pc := 340) dX2_mix_340 rfl ?_
    refine r_istore (pc := 342) (lv' := [_, _, _, _, _, _, _, _, _, _, _, _]) dX2_mix_342 (by decide) rfl ?_
    refine r_iload (pc := 344) dX2_mix_344 rfl ?_
    refine r_istore (pc := 346) (lv' := [_, _, _, _, _, _, _, _, _, _, _, _]) dX2_mix_346 (by decide) rfl ?_
    refine r_iload (pc := 348) dX2_mix_348 rfl ?_
    refine r_istore (pc := 350) (lv' := [_, _, _, _, _, _, _, _, _, _, _, _]) dX2_mix_350 (by decide) rfl ?_
    refine r_iload (pc := 352) dX2_mix_352 rfl ?_
    refine r_iload (pc := 354) dX2_mix_354 rfl ?_
    refine r_iadd (pc := 356) dX2_mix_356 ?_
    refine r_istore (pc := 357) (lv' := [_, _, _, _, _, _, _, _, _, _, _, _]) dX2_mix_357 (by decide) rfl ?_
    refine r_iload_n (pc := 359) dX2_mix_359 rfl ?_
    refine r_istore (pc := 360) (lv' := [_, _, _, _, _, _, _, _, _, _, _, _]) dX2_mix_360 (by decide) rfl ?_
    refine r_iload_n (pc := 362) dX2_mix_362 rfl ?_
    refine r_istore_n (pc := 363) (lv' := [_, _, _, _, _, _, _, _, _, _, _, _]) dX2_mix_363 (by decide) rfl ?_
    refine r_iload_n (pc := 364) dX2_mix_364 rfl ?_
    refine r_istore_n (pc := 365) (lv' := [_, _, _, _, _, _, _, _, _, _, _, _]) dX2_mix_365 (by decide) rfl ?_
    refine r_iload (pc := 366) dX2_mix_366 rfl ?_
    refine r_iload (pc := 368) dX2_mix_368 rfl ?_
    refine r_iadd (pc := 370) dX2_mix_370 ?_
    refine r_istore_n (pc := 371) (lv' := [_, _, _, _, _, _, _, _, _, _, _, _]) dX2_mix_371 (by decide) rfl ?_
    refine r_iinc (pc := 372) (lv' := [_, _, _, _, _, _, _, _, _, _, _, _]) dX2_mix_372 rfl rfl (by decide) rfl ?_
    refine r_goto (pc := 375) (tgt := 242) dX2_mix_375 rfl ?_
    refine r_mask (pc := 242) [true, true, true, true, true, true, true, true, true, true, false, false] rfl ?_
    exact K
theorem dX2_step_0 : decode cX2_step 0 = .ok (.aload_n 0, 1) := by decide +kernel
theorem dX2_step_1 : decode cX2_step 1 = .ok (.iconst 0, 1) := by decide +kernel
theorem dX2_step_2 : decode cX2_step 2 = .ok (.iaload, 1) := by decide +kernel
theorem dX2_step_3 : decode cX2_step 3 = .ok (.iload_n 1, 1) := by decide +kernel
theorem dX2_step_4 : decode cX2_step 4 = .ok (.iadd, 1) := by decide +kernel
theorem dX2_step_5 : decode cX2_step 5 = .ok (.iload_n 2, 1) := by decide +kernel
theorem dX2_step_6 : decode cX2_step 6 = .ok (.invokestatic 97, 3) := by decide +kernel
theorem dX2_step_9 : decode cX2_step 9 = .ok (.aload_n 0, 1) := by decide +kernel
theorem dX2_step_10 : decode cX2_step 10 = .ok (.iconst 4, 1) := by decide +kernel
theorem dX2_step_11 : decode cX2_step 11 = .ok (.iaload, 1) := by decide +kernel
theorem dX2_step_12 : decode cX2_step 12 = .ok (.iadd, 1) := by decide +kernel
theorem dX2_step_13 : decode cX2_step 13 = .ok (.istore_n 3, 1) := by decide +kernel
theorem dX2_step_14 : decode cX2_step 14 = .ok (.aload_n 0, 1) := by decide +kernel
theorem dX2_step_15 : decode cX2_step 15 = .ok (.iconst 0, 1) := by decide +kernel
theorem dX2_step_16 : decode cX2_step 16 = .ok (.aload_n 0, 1) := by decide +kernel
theorem dX2_step_17 : decode cX2_step 17 = .ok (.iconst 4, 1) := by decide +kernel
theorem dX2_step_18 : decode cX2_step 18 = .ok (.iaload, 1) := by decide +kernel
theorem dX2_step_19 : decode cX2_step 19 = .ok (.iastore, 1) := by decide +kernel
theorem dX2_step_20 : decode cX2_step 20 = .ok (.aload_n 0, 1) := by decide +kernel
theorem dX2_step_21 : decode cX2_step 21 = .ok (.iconst 4, 1) := by decide +kernel
theorem dX2_step_22 : decode cX2_step 22 = .ok (.aload_n 0, 1) := by decide +kernel
theorem dX2_step_23 : decode cX2_step 23 = .ok (.iconst 3, 1) := by decide +kernel
theorem dX2_step_24 : decode cX2_step 24 = .ok (.iaload, 1) := by decide +kernel
theorem dX2_step_25 : decode cX2_step 25 = .ok (.iastore, 1) := by decide +kernel
theorem dX2_step_26 : decode cX2_step 26 = .ok (.aload_n 0, 1) := by decide +kernel
theorem dX2_step_27 : decode cX2_step 27 = .ok (.iconst 3, 1) := by decide +kernel
theorem dX2_step_28 : decode cX2_step 28 = .ok (.aload_n 0, 1) := by decide +kernel
theorem dX2_step_29 : decode cX2_step 29 = .ok (.iconst 2, 1) := by decide +kernel
theorem dX2_step_30 : decode cX2_step 30 = .ok (.iaload, 1) := by decide +kernel
theorem dX2_step_31 : decode cX2_step 31 = .ok (.bipush 10, 2) := by decide +kernel
theorem dX2_step_33 : decode cX2_step 33 = .ok (.invokestatic 97, 3) := by decide +kernel
theorem dX2_step_36 : decode cX2_step 36 = .ok (.iastore, 1) := by decide +kernel
theorem dX2_step_37 : decode cX2_step 37 = .ok (.aload_n 0, 1) := by decide +kernel
theorem dX2_step_38 : decode cX2_step 38 = .ok (.iconst 2, 1) := by decide +kernel
theorem dX2_step_39 : decode cX2_step 39 = .ok (.aload_n 0, 1) := by decide +kernel
theorem dX2_step_40 : decode cX2_step 40 = .ok (.iconst 1, 1) := by decide +kernel
theorem dX2_step_41 : decode cX2_step 41 = .ok (.iaload, 1) := by decide +kernel
theorem dX2_step_42 : decode cX2_step 42 = .ok (.iastore, 1) := by decide +kernel
theorem dX2_step_43 : decode cX2_step 43 = .ok (.aload_n 0, 1) := by decide +kernel
theorem dX2_step_44 : decode cX2_step 44 = .ok (.iconst 1, 1) := by decide +kernel
theorem dX2_step_45 : decode cX2_step 45 = .ok (.iload_n 3, 1) := by decide +kernel
theorem dX2_step_46 : decode cX2_step 46 = .ok (.iastore, 1) := by decide +kernel
theorem dX2_step_47 : decode cX2_step 47 = .ok (.return_, 1) := by decide +kernel
/-! CoinJudge$Digests.step([III)V -/
set_option maxHeartbeats 4000000 in
theorem sX2_step_0 {G : Gx} {d t : Nat} {h0 : AH} {Φ : Out → AH → Prop} (h : AH) (v0 : Nat) (v1 : Int32) (v2 : Int32) (K : h.kd v0 = 100 ∧ vp_in 0 (h.ai v0).length ∧ Cw G mJ9_rotateLeft d 0 [vI (((h.ai v0).getD ((0 : Int32).toNatClampNeg) 0) + v1), vI v2] h (kI (fun x3 h4 => vp_in 4 (h4.ai v0).length ∧ ∀ u7 : Int32, u7 = (x3 + ((h4.ai v0).getD ((4 : Int32).toNatClampNeg) 0)) → vp_in 4 (h4.ai v0).length ∧ vp_in 0 (h4.ai v0).length ∧ ∀ h10 : AH, h10 = h4.wi v0 ((h4.ai v0).set ((0 : Int32).toNatClampNeg) ((h4.ai v0).getD ((4 : Int32).toNatClampNeg) 0)) → vp_in 3 (h10.ai v0).length ∧ vp_in 4 (h10.ai v0).length ∧ ∀ h14 : AH, h14 = h10.wi v0 ((h10.ai v0).set ((4 : Int32).toNatClampNeg) ((h10.ai v0).getD ((3 : Int32).toNatClampNeg) 0)) → vp_in 2 (h14.ai v0).length ∧ Cw G mJ9_rotateLeft d 0 [vI ((h14.ai v0).getD ((2 : Int32).toNatClampNeg) 0), vI 10] h14 (kI (fun x17 h18 => vp_in 3 (h18.ai v0).length ∧ ∀ h21 : AH, h21 = h18.wi v0 ((h18.ai v0).set ((3 : Int32).toNatClampNeg) x17) → vp_in 1 (h21.ai v0).length ∧ vp_in 2 (h21.ai v0).length ∧ ∀ h25 : AH, h25 = h21.wi v0 ((h21.ai v0).set ((2 : Int32).toNatClampNeg) ((h21.ai v0).getD ((1 : Int32).toNatClampNeg) 0)) → vp_in 1 (h25.ai v0).length ∧ ∀ h28 : AH, h28 = h25.wi v0 ((h25.ai v0).set ((1 : Int32).toNatClampNeg) u7) → Φ (.inl none) h28) (fun x h => Φ (.inr x) h))) (fun x h => Φ (.inr x) h))) : Aw G mX2_step (d + 1) t h0 Φ 0 [vR v0, vI v1, vI v2, vU] [] h := by
  refine r_aload_n (pc := 0) dX2_step_0 rfl ?_
  refine r_iconst (pc := 1) (x := 0) dX2_step_1 rfl ?_
  obtain ⟨hk1, K⟩ := K
  obtain ⟨hi2, K⟩ := K
  refine r_iaload (pc := 2) hk1 hi2 dX2_step_2 ?_
  refine r_iload_n (pc := 3) dX2_step_3 rfl ?_
  refine r_iadd (pc := 4) dX2_step_4 ?_
  refine r_iload_n (pc := 5) dX2_step_5 rfl ?_
  refine r_callS_I (pc := 6) (Y := mJ9_rotateLeft) (vs := [_, _]) (st := []) q914 q915 q173 dX2_step_6 rfl cd_J9_rotateLeft (cOk_of pf_J9_rotateLeft rfl) rfl fp_X2_step_J9_rotateLeft K (fun x3 h4 eh4 wh4 K => ?_) (fun x h1 _ _ e => Tw.out rfl e)
  refine r_aload_n (pc := 9) dX2_step_9 rfl ?_
  refine r_iconst (pc := 10) (x := 4) dX2_step_10 rfl ?_
  have hk5 := kd_ext eh4 hk1 (nz rfl)
  obtain ⟨hi6, K⟩ := K
  refine r_iaload (pc := 11) hk5 hi6 dX2_step_11 ?_
  refine r_iadd (pc := 12) dX2_step_12 ?_
  have K := K _ rfl
  refine r_istore_n (pc := 13) (lv' := [_, _, _, _]) dX2_step_13 (by decide) rfl ?_
  refine r_aload_n (pc := 14) dX2_step_14 rfl ?_
  refine r_iconst (pc := 15) (x := 0) dX2_step_15 rfl ?_
  refine r_aload_n (pc := 16) dX2_step_16 rfl ?_
  refine r_iconst (pc := 17) (x := 4) dX2_step_17 rfl ?_
  obtain ⟨hi8, K⟩ := K
  refine r_iaload (pc := 18) hk5 hi8 dX2_step_18 ?_
  obtain ⟨hi9, K⟩ := K
  refine r_iastore (pc := 19) hk5 hi9 (Or.inl (em rfl)) dX2_step_19 ?_
  refine r_nameH (fun h10 eh10 => ?_)
  have K := K h10 eh10
  refine r_aload_n (pc := 20) dX2_step_20 rfl ?_
  refine r_iconst (pc := 21) (x := 4) dX2_step_21 rfl ?_
  refine r_aload_n (pc := 22) dX2_step_22 rfl ?_
  refine r_iconst (pc := 23) (x := 3) dX2_step_23 rfl ?_
  have hk11 := kd_wi eh10 hk5
  obtain ⟨hi12, K⟩ := K
  refine r_iaload (pc := 24) hk11 hi12 dX2_step_24 ?_
  obtain ⟨hi13, K⟩ := K
  refine r_iastore (pc := 25) hk11 hi13 (Or.inl (em rfl)) dX2_step_25 ?_
  refine r_nameH (fun h14 eh14 => ?_)
  have K := K h14 eh14
  refine r_aload_n (pc := 26) dX2_step_26 rfl ?_
  refine r_iconst (pc := 27) (x := 3) dX2_step_27 rfl ?_
  refine r_aload_n (pc := 28) dX2_step_28 rfl ?_
  refine r_iconst (pc := 29) (x := 2) dX2_step_29 rfl ?_
  have hk15 := kd_wi eh14 hk11
  obtain ⟨hi16, K⟩ := K
  refine r_iaload (pc := 30) hk15 hi16 dX2_step_30 ?_
  refine r_bipush (pc := 31) (x := 10) dX2_step_31 rfl ?_
  refine r_callS_I (pc := 33) (Y := mJ9_rotateLeft) (vs := [_, _]) (st := [_, _]) q914 q915 q173 dX2_step_33 rfl cd_J9_rotateLeft (cOk_of pf_J9_rotateLeft rfl) rfl fp_X2_step_J9_rotateLeft K (fun x17 h18 eh18 wh18 K => ?_) (fun x h1 _ _ e => Tw.out rfl e)
  have hk19 := kd_ext eh18 hk15 (nz rfl)
  obtain ⟨hi20, K⟩ := K
  refine r_iastore (pc := 36) hk19 hi20 (Or.inl (em rfl)) dX2_step_36 ?_
  refine r_nameH (fun h21 eh21 => ?_)
  have K := K h21 eh21
  refine r_aload_n (pc := 37) dX2_step_37 rfl ?_
  refine r_iconst (pc := 38) (x := 2) dX2_step_38 rfl ?_
  refine r_aload_n (pc := 39) dX2_step_39 rfl ?_
  refine r_iconst (pc := 40) (x := 1) dX2_step_40 rfl ?_
  have hk22 := kd_wi eh21 hk19
  obtain ⟨hi23, K⟩ := K
  refine r_iaload (pc := 41) hk22 hi23 dX2_step_41 ?_
  obtain ⟨hi24, K⟩ := K
  refine r_iastore (pc := 42) hk22 hi24 (Or.inl (em rfl)) dX2_step_42 ?_
  refine r_nameH (fun h25 eh25 => ?_)
  have K := K h25 eh25
  refine r_aload_n (pc := 43) dX2_step_43 rfl ?_
  refine r_iconst (pc := 44) (x := 1) dX2_step_44 rfl ?_
  refine r_iload_n (pc := 45) dX2_step_45 rfl ?_
  have hk26 := kd_wi eh25 hk22
  obtain ⟨hi27, K⟩ := K
  refine r_iastore (pc := 46) hk26 hi27 (Or.inl (em rfl)) dX2_step_46 ?_
  refine r_nameH (fun h28 eh28 => ?_)
  have K := K h28 eh28
  exact r_vret (pc := 47) rfl dX2_step_47 K
theorem eX2_step {G : Gx} {d : Nat} {Φ : Out → AH → Prop} (h : AH) (v0 : Nat) (v1 : Int32) (v2 : Int32) (K : WF G h → Aw G mX2_step (d + 1) 0 h Φ 0 [vR v0, vI v1, vI v2, vU] [] h) : Cw G mX2_step (d + 1) 0 [vR v0, vI v1, vI v2] h Φ := Cw.of rfl K
theorem dX2_turned_0 : decode cX2_turned 0 = .ok (.iload_n 0, 1) := by decide +kernel
theorem dX2_turned_1 : decode cX2_turned 1 = .ok (.tableswitch 65 0 3 #[31, 37, 47, 55], 31) := by decide +kernel
theorem dX2_turned_32 : decode cX2_turned 32 = .ok (.iload_n 1, 1) := by decide +kernel
theorem dX2_turned_33 : decode cX2_turned 33 = .ok (.iload_n 2, 1) := by decide +kernel
theorem dX2_turned_34 : decode cX2_turned 34 = .ok (.ixor, 1) := by decide +kernel
theorem dX2_turned_35 : decode cX2_turned 35 = .ok (.iload_n 3, 1) := by decide +kernel
theorem dX2_turned_36 : decode cX2_turned 36 = .ok (.ixor, 1) := by decide +kernel
theorem dX2_turned_37 : decode cX2_turned 37 = .ok (.ireturn, 1) := by decide +kernel
theorem dX2_turned_38 : decode cX2_turned 38 = .ok (.iload_n 1, 1) := by decide +kernel
theorem dX2_turned_39 : decode cX2_turned 39 = .ok (.iload_n 2, 1) := by decide +kernel
theorem dX2_turned_40 : decode cX2_turned 40 = .ok (.iand, 1) := by decide +kernel
theorem dX2_turned_41 : decode cX2_turned 41 = .ok (.iload_n 1, 1) := by decide +kernel
theorem dX2_turned_42 : decode cX2_turned 42 = .ok (.iconst (-1), 1) := by decide +kernel
theorem dX2_turned_43 : decode cX2_turned 43 = .ok (.ixor, 1) := by decide +kernel
theorem dX2_turned_44 : decode cX2_turned 44 = .ok (.iload_n 3, 1) := by decide +kernel
theorem dX2_turned_45 : decode cX2_turned 45 = .ok (.iand, 1) := by decide +kernel
theorem dX2_turned_46 : decode cX2_turned 46 = .ok (.ior, 1) := by decide +kernel
theorem dX2_turned_47 : decode cX2_turned 47 = .ok (.ireturn, 1) := by decide +kernel
theorem dX2_turned_48 : decode cX2_turned 48 = .ok (.iload_n 1, 1) := by decide +kernel
theorem dX2_turned_49 : decode cX2_turned 49 = .ok (.iload_n 2, 1) := by decide +kernel
theorem dX2_turned_50 : decode cX2_turned 50 = .ok (.iconst (-1), 1) := by decide +kernel
theorem dX2_turned_51 : decode cX2_turned 51 = .ok (.ixor, 1) := by decide +kernel
theorem dX2_turned_52 : decode cX2_turned 52 = .ok (.ior, 1) := by decide +kernel
theorem dX2_turned_53 : decode cX2_turned 53 = .ok (.iload_n 3, 1) := by decide +kernel
theorem dX2_turned_54 : decode cX2_turned 54 = .ok (.ixor, 1) := by decide +kernel
theorem dX2_turned_55 : decode cX2_turned 55 = .ok (.ireturn, 1) := by decide +kernel
theorem dX2_turned_56 : decode cX2_turned 56 = .ok (.iload_n 1, 1) := by decide +kernel
theorem dX2_turned_57 : decode cX2_turned 57 = .ok (.iload_n 3, 1) := by decide +kernel
theorem dX2_turned_58 : decode cX2_turned 58 = .ok (.iand, 1) := by decide +kernel
theorem dX2_turned_59 : decode cX2_turned 59 = .ok (.iload_n 2, 1) := by decide +kernel
theorem dX2_turned_60 : decode cX2_turned 60 = .ok (.iload_n 3, 1) := by decide +kernel
theorem dX2_turned_61 : decode cX2_turned 61 = .ok (.iconst (-1), 1) := by decide +kernel
theorem dX2_turned_62 : decode cX2_turned 62 = .ok (.ixor, 1) := by decide +kernel
theorem dX2_turned_63 : decode cX2_turned 63 = .ok (.iand, 1) := by decide +kernel
theorem dX2_turned_64 : decode cX2_turned 64 = .ok (.ior, 1) := by decide +kernel
theorem dX2_turned_65 : decode cX2_turned 65 = .ok (.ireturn, 1) := by decide +kernel
theorem dX2_turned_66 : decode cX2_turned 66 = .ok (.iload_n 1, 1) := by decide +kernel
theorem dX2_turned_67 : decode cX2_turned 67 = .ok (.iload_n 2, 1) := by decide +kernel
theorem dX2_turned_68 : decode cX2_turned 68 = .ok (.iload_n 3, 1) := by decide +kernel
theorem dX2_turned_69 : decode cX2_turned 69 = .ok (.iconst (-1), 1) := by decide +kernel
theorem dX2_turned_70 : decode cX2_turned 70 = .ok (.ixor, 1) := by decide +kernel
theorem dX2_turned_71 : decode cX2_turned 71 = .ok (.ior, 1) := by decide +kernel
theorem dX2_turned_72 : decode cX2_turned 72 = .ok (.ixor, 1) := by decide +kernel
theorem dX2_turned_73 : decode cX2_turned 73 = .ok (.ireturn, 1) := by decide +kernel
/-! CoinJudge$Digests.turned(IIII)I -/
set_option maxHeartbeats 4000000 in
theorem sX2_turned_0 {G : Gx} {d t : Nat} {h0 : AH} {Φ : Out → AH → Prop} (h : AH) (v0 : Int32) (v1 : Int32) (v2 : Int32) (v3 : Int32) (K : ((v0 = 0 → Φ (.inl (some (vI ((v1 ^^^ v2) ^^^ v3)))) h) ∧ (v0 = 1 → Φ (.inl (some (vI ((v1 &&& v2) ||| ((v1 ^^^ (-1)) &&& v3))))) h) ∧ (v0 = 2 → Φ (.inl (some (vI ((v1 ||| (v2 ^^^ (-1))) ^^^ v3)))) h) ∧ (v0 = 3 → Φ (.inl (some (vI ((v1 &&& v3) ||| (v2 &&& (v3 ^^^ (-1))))))) h) ∧ (¬ v0 = 0 ∧ ¬ v0 = 1 ∧ ¬ v0 = 2 ∧ ¬ v0 = 3 → Φ (.inl (some (vI (v1 ^^^ (v2 ||| (v3 ^^^ (-1))))))) h))) : Aw G mX2_turned (d + 1) t h0 Φ 0 [vI v0, vI v1, vI v2, vI v3] [] h := by
  refine r_iload_n (pc := 0) dX2_turned_0 rfl ?_
  have K6 := K
  by_cases c1 : v0 = 0
  · have K := K6.1 c1
    refine r_tableIn (pc := 1) (tgt := 32) dX2_turned_1 (by rw [c1]; decide) (by rw [c1]; decide) (by rw [c1]; rfl) rfl ?_
    refine r_iload_n (pc := 32) dX2_turned_32 rfl ?_
    refine r_iload_n (pc := 33) dX2_turned_33 rfl ?_
    refine r_ixor (pc := 34) dX2_turned_34 ?_
    refine r_iload_n (pc := 35) dX2_turned_35 rfl ?_
    refine r_ixor (pc := 36) dX2_turned_36 ?_
    exact r_iret (pc := 37) rfl rfl dX2_turned_37 K
  · by_cases c2 : v0 = 1
    · have K := K6.2.1 c2
      refine r_tableIn (pc := 1) (tgt := 38) dX2_turned_1 (by rw [c2]; decide) (by rw [c2]; decide) (by rw [c2]; rfl) rfl ?_
      refine r_iload_n (pc := 38) dX2_turned_38 rfl ?_
      refine r_iload_n (pc := 39) dX2_turned_39 rfl ?_
      refine r_iand (pc := 40) dX2_turned_40 ?_
      refine r_iload_n (pc := 41) dX2_turned_41 rfl ?_
      refine r_iconst (pc := 42) (x := (-1)) dX2_turned_42 rfl ?_
      refine r_ixor (pc := 43) dX2_turned_43 ?_
      refine r_iload_n (pc := 44) dX2_turned_44 rfl ?_
      refine r_iand (pc := 45) dX2_turned_45 ?_
      refine r_ior (pc := 46) dX2_turned_46 ?_
      exact r_iret (pc := 47) rfl rfl dX2_turned_47 K
    · by_cases c3 : v0 = 2
      · have K := K6.2.2.1 c3
        refine r_tableIn (pc := 1) (tgt := 48) dX2_turned_1 (by rw [c3]; decide) (by rw [c3]; decide) (by rw [c3]; rfl) rfl ?_
        refine r_iload_n (pc := 48) dX2_turned_48 rfl ?_
        refine r_iload_n (pc := 49) dX2_turned_49 rfl ?_
        refine r_iconst (pc := 50) (x := (-1)) dX2_turned_50 rfl ?_
        refine r_ixor (pc := 51) dX2_turned_51 ?_
        refine r_ior (pc := 52) dX2_turned_52 ?_
        refine r_iload_n (pc := 53) dX2_turned_53 rfl ?_
        refine r_ixor (pc := 54) dX2_turned_54 ?_
        exact r_iret (pc := 55) rfl rfl dX2_turned_55 K
      · by_cases c4 : v0 = 3
        · have K := K6.2.2.2.1 c4
          refine r_tableIn (pc := 1) (tgt := 56) dX2_turned_1 (by rw [c4]; decide) (by rw [c4]; decide) (by rw [c4]; rfl) rfl ?_
          refine r_iload_n (pc := 56) dX2_turned_56 rfl ?_
          refine r_iload_n (pc := 57) dX2_turned_57 rfl ?_
          refine r_iand (pc := 58) dX2_turned_58 ?_
          refine r_iload_n (pc := 59) dX2_turned_59 rfl ?_
          refine r_iload_n (pc := 60) dX2_turned_60 rfl ?_
          refine r_iconst (pc := 61) (x := (-1)) dX2_turned_61 rfl ?_
          refine r_ixor (pc := 62) dX2_turned_62 ?_
          refine r_iand (pc := 63) dX2_turned_63 ?_
          refine r_ior (pc := 64) dX2_turned_64 ?_
          exact r_iret (pc := 65) rfl rfl dX2_turned_65 K
        · have K := K6.2.2.2.2 ⟨c1, c2, c3, c4⟩
          refine r_tableOut (pc := 1) (tgt := 66) dX2_turned_1 (sw_out (x := _) (lo := 0) (n := 4) (by decide) ?_) rfl ?_
          · intro i hi
            match i, hi with
            | 0, _ => exact c1
            | 1, _ => exact c2
            | 2, _ => exact c3
            | 3, _ => exact c4
          · refine r_iload_n (pc := 66) dX2_turned_66 rfl ?_
            refine r_iload_n (pc := 67) dX2_turned_67 rfl ?_
            refine r_iload_n (pc := 68) dX2_turned_68 rfl ?_
            refine r_iconst (pc := 69) (x := (-1)) dX2_turned_69 rfl ?_
            refine r_ixor (pc := 70) dX2_turned_70 ?_
            refine r_ior (pc := 71) dX2_turned_71 ?_
            refine r_ixor (pc := 72) dX2_turned_72 ?_
            exact r_iret (pc := 73) rfl rfl dX2_turned_73 K
theorem eX2_turned {G : Gx} {d : Nat} {Φ : Out → AH → Prop} (h : AH) (v0 : Int32) (v1 : Int32) (v2 : Int32) (v3 : Int32) (K : WF G h → Aw G mX2_turned (d + 1) 0 h Φ 0 [vI v0, vI v1, vI v2, vI v3] [] h) : Cw G mX2_turned (d + 1) 0 [vI v0, vI v1, vI v2, vI v3] h Φ := Cw.of rfl K
theorem dX2_mixRipe_0 : decode cX2_mixRipe 0 = .ok (.iconst 0, 1) := by decide +kernel
theorem dX2_mixRipe_1 : decode cX2_mixRipe 1 = .ok (.istore_n 1, 1) := by decide +kernel
theorem dX2_mixRipe_2 : decode cX2_mixRipe 2 = .ok (.iload_n 1, 1) := by decide +kernel
theorem dX2_mixRipe_3 : decode cX2_mixRipe 3 = .ok (.bipush 16, 2) := by decide +kernel
theorem dX2_mixRipe_5 : decode cX2_mixRipe 5 = .ok (.if_icmp .ge 81, 3) := by decide +kernel
theorem dX2_mixRipe_8 : decode cX2_mixRipe 8 = .ok (.aload_n 0, 1) := by decide +kernel
theorem dX2_mixRipe_9 : decode cX2_mixRipe 9 = .ok (.getfield 19, 3) := by decide +kernel
theorem dX2_mixRipe_12 : decode cX2_mixRipe 12 = .ok (.iload_n 1, 1) := by decide +kernel
theorem dX2_mixRipe_13 : decode cX2_mixRipe 13 = .ok (.aload_n 0, 1) := by decide +kernel
theorem dX2_mixRipe_14 : decode cX2_mixRipe 14 = .ok (.getfield 31, 3) := by decide +kernel
theorem dX2_mixRipe_17 : decode cX2_mixRipe 17 = .ok (.iconst 4, 1) := by decide +kernel
theorem dX2_mixRipe_18 : decode cX2_mixRipe 18 = .ok (.iload_n 1, 1) := by decide +kernel
theorem dX2_mixRipe_19 : decode cX2_mixRipe 19 = .ok (.imul, 1) := by decide +kernel
theorem dX2_mixRipe_20 : decode cX2_mixRipe 20 = .ok (.baload, 1) := by decide +kernel
theorem dX2_mixRipe_21 : decode cX2_mixRipe 21 = .ok (.sipush 255, 3) := by decide +kernel
theorem dX2_mixRipe_24 : decode cX2_mixRipe 24 = .ok (.iand, 1) := by decide +kernel
theorem dX2_mixRipe_25 : decode cX2_mixRipe 25 = .ok (.aload_n 0, 1) := by decide +kernel
theorem dX2_mixRipe_26 : decode cX2_mixRipe 26 = .ok (.getfield 31, 3) := by decide +kernel
theorem dX2_mixRipe_29 : decode cX2_mixRipe 29 = .ok (.iconst 4, 1) := by decide +kernel
theorem dX2_mixRipe_30 : decode cX2_mixRipe 30 = .ok (.iload_n 1, 1) := by decide +kernel
theorem dX2_mixRipe_31 : decode cX2_mixRipe 31 = .ok (.imul, 1) := by decide +kernel
theorem dX2_mixRipe_32 : decode cX2_mixRipe 32 = .ok (.iconst 1, 1) := by decide +kernel
theorem dX2_mixRipe_33 : decode cX2_mixRipe 33 = .ok (.iadd, 1) := by decide +kernel
theorem dX2_mixRipe_34 : decode cX2_mixRipe 34 = .ok (.baload, 1) := by decide +kernel
theorem dX2_mixRipe_35 : decode cX2_mixRipe 35 = .ok (.sipush 255, 3) := by decide +kernel
theorem dX2_mixRipe_38 : decode cX2_mixRipe 38 = .ok (.iand, 1) := by decide +kernel
theorem dX2_mixRipe_39 : decode cX2_mixRipe 39 = .ok (.bipush 8, 2) := by decide +kernel
theorem dX2_mixRipe_41 : decode cX2_mixRipe 41 = .ok (.ishl, 1) := by decide +kernel
theorem dX2_mixRipe_42 : decode cX2_mixRipe 42 = .ok (.ior, 1) := by decide +kernel
theorem dX2_mixRipe_43 : decode cX2_mixRipe 43 = .ok (.aload_n 0, 1) := by decide +kernel
theorem dX2_mixRipe_44 : decode cX2_mixRipe 44 = .ok (.getfield 31, 3) := by decide +kernel
theorem dX2_mixRipe_47 : decode cX2_mixRipe 47 = .ok (.iconst 4, 1) := by decide +kernel
theorem dX2_mixRipe_48 : decode cX2_mixRipe 48 = .ok (.iload_n 1, 1) := by decide +kernel
theorem dX2_mixRipe_49 : decode cX2_mixRipe 49 = .ok (.imul, 1) := by decide +kernel
theorem dX2_mixRipe_50 : decode cX2_mixRipe 50 = .ok (.iconst 2, 1) := by decide +kernel
theorem dX2_mixRipe_51 : decode cX2_mixRipe 51 = .ok (.iadd, 1) := by decide +kernel
theorem dX2_mixRipe_52 : decode cX2_mixRipe 52 = .ok (.baload, 1) := by decide +kernel
theorem dX2_mixRipe_53 : decode cX2_mixRipe 53 = .ok (.sipush 255, 3) := by decide +kernel
theorem dX2_mixRipe_56 : decode cX2_mixRipe 56 = .ok (.iand, 1) := by decide +kernel
theorem dX2_mixRipe_57 : decode cX2_mixRipe 57 = .ok (.bipush 16, 2) := by decide +kernel
theorem dX2_mixRipe_59 : decode cX2_mixRipe 59 = .ok (.ishl, 1) := by decide +kernel
theorem dX2_mixRipe_60 : decode cX2_mixRipe 60 = .ok (.ior, 1) := by decide +kernel
theorem dX2_mixRipe_61 : decode cX2_mixRipe 61 = .ok (.aload_n 0, 1) := by decide +kernel
theorem dX2_mixRipe_62 : decode cX2_mixRipe 62 = .ok (.getfield 31, 3) := by decide +kernel
theorem dX2_mixRipe_65 : decode cX2_mixRipe 65 = .ok (.iconst 4, 1) := by decide +kernel
theorem dX2_mixRipe_66 : decode cX2_mixRipe 66 = .ok (.iload_n 1, 1) := by decide +kernel
theorem dX2_mixRipe_67 : decode cX2_mixRipe 67 = .ok (.imul, 1) := by decide +kernel
theorem dX2_mixRipe_68 : decode cX2_mixRipe 68 = .ok (.iconst 3, 1) := by decide +kernel
theorem dX2_mixRipe_69 : decode cX2_mixRipe 69 = .ok (.iadd, 1) := by decide +kernel
theorem dX2_mixRipe_70 : decode cX2_mixRipe 70 = .ok (.baload, 1) := by decide +kernel
theorem dX2_mixRipe_71 : decode cX2_mixRipe 71 = .ok (.sipush 255, 3) := by decide +kernel
theorem dX2_mixRipe_74 : decode cX2_mixRipe 74 = .ok (.iand, 1) := by decide +kernel
theorem dX2_mixRipe_75 : decode cX2_mixRipe 75 = .ok (.bipush 24, 2) := by decide +kernel
theorem dX2_mixRipe_77 : decode cX2_mixRipe 77 = .ok (.ishl, 1) := by decide +kernel
theorem dX2_mixRipe_78 : decode cX2_mixRipe 78 = .ok (.ior, 1) := by decide +kernel
theorem dX2_mixRipe_79 : decode cX2_mixRipe 79 = .ok (.iastore, 1) := by decide +kernel
theorem dX2_mixRipe_80 : decode cX2_mixRipe 80 = .ok (.iinc 1 1, 3) := by decide +kernel
theorem dX2_mixRipe_83 : decode cX2_mixRipe 83 = .ok (.goto (-81), 3) := by decide +kernel
theorem dX2_mixRipe_86 : decode cX2_mixRipe 86 = .ok (.aload_n 0, 1) := by decide +kernel
theorem dX2_mixRipe_87 : decode cX2_mixRipe 87 = .ok (.getfield 25, 3) := by decide +kernel
theorem dX2_mixRipe_90 : decode cX2_mixRipe 90 = .ok (.astore_n 1, 1) := by decide +kernel
theorem dX2_mixRipe_91 : decode cX2_mixRipe 91 = .ok (.aload_n 0, 1) := by decide +kernel
theorem dX2_mixRipe_92 : decode cX2_mixRipe 92 = .ok (.getfield 28, 3) := by decide +kernel
theorem dX2_mixRipe_95 : decode cX2_mixRipe 95 = .ok (.astore_n 2, 1) := by decide +kernel
theorem dX2_mixRipe_96 : decode cX2_mixRipe 96 = .ok (.iconst 0, 1) := by decide +kernel
theorem dX2_mixRipe_97 : decode cX2_mixRipe 97 = .ok (.istore_n 3, 1) := by decide +kernel
theorem dX2_mixRipe_98 : decode cX2_mixRipe 98 = .ok (.iload_n 3, 1) := by decide +kernel
theorem dX2_mixRipe_99 : decode cX2_mixRipe 99 = .ok (.iconst 5, 1) := by decide +kernel
theorem dX2_mixRipe_100 : decode cX2_mixRipe 100 = .ok (.if_icmp .ge 27, 3) := by decide +kernel
theorem dX2_mixRipe_103 : decode cX2_mixRipe 103 = .ok (.aload_n 1, 1) := by decide +kernel
theorem dX2_mixRipe_104 : decode cX2_mixRipe 104 = .ok (.iload_n 3, 1) := by decide +kernel
theorem dX2_mixRipe_105 : decode cX2_mixRipe 105 = .ok (.aload_n 0, 1) := by decide +kernel
theorem dX2_mixRipe_106 : decode cX2_mixRipe 106 = .ok (.getfield 22, 3) := by decide +kernel
theorem dX2_mixRipe_109 : decode cX2_mixRipe 109 = .ok (.iload_n 3, 1) := by decide +kernel
theorem dX2_mixRipe_110 : decode cX2_mixRipe 110 = .ok (.iaload, 1) := by decide +kernel
theorem dX2_mixRipe_111 : decode cX2_mixRipe 111 = .ok (.iastore, 1) := by decide +kernel
theorem dX2_mixRipe_112 : decode cX2_mixRipe 112 = .ok (.aload_n 2, 1) := by decide +kernel
theorem dX2_mixRipe_113 : decode cX2_mixRipe 113 = .ok (.iload_n 3, 1) := by decide +kernel
theorem dX2_mixRipe_114 : decode cX2_mixRipe 114 = .ok (.aload_n 0, 1) := by decide +kernel
theorem dX2_mixRipe_115 : decode cX2_mixRipe 115 = .ok (.getfield 22, 3) := by decide +kernel
theorem dX2_mixRipe_118 : decode cX2_mixRipe 118 = .ok (.iload_n 3, 1) := by decide +kernel
theorem dX2_mixRipe_119 : decode cX2_mixRipe 119 = .ok (.iaload, 1) := by decide +kernel
theorem dX2_mixRipe_120 : decode cX2_mixRipe 120 = .ok (.iastore, 1) := by decide +kernel
theorem dX2_mixRipe_121 : decode cX2_mixRipe 121 = .ok (.iinc 3 1, 3) := by decide +kernel
theorem dX2_mixRipe_124 : decode cX2_mixRipe 124 = .ok (.goto (-26), 3) := by decide +kernel
theorem dX2_mixRipe_127 : decode cX2_mixRipe 127 = .ok (.iconst 0, 1) := by decide +kernel
theorem dX2_mixRipe_128 : decode cX2_mixRipe 128 = .ok (.istore_n 3, 1) := by decide +kernel
theorem dX2_mixRipe_129 : decode cX2_mixRipe 129 = .ok (.iload_n 3, 1) := by decide +kernel
theorem dX2_mixRipe_130 : decode cX2_mixRipe 130 = .ok (.bipush 80, 2) := by decide +kernel
theorem dX2_mixRipe_132 : decode cX2_mixRipe 132 = .ok (.if_icmp .ge 107, 3) := by decide +kernel
theorem dX2_mixRipe_135 : decode cX2_mixRipe 135 = .ok (.aload_n 1, 1) := by decide +kernel
theorem dX2_mixRipe_136 : decode cX2_mixRipe 136 = .ok (.iload_n 3, 1) := by decide +kernel
theorem dX2_mixRipe_137 : decode cX2_mixRipe 137 = .ok (.bipush 16, 2) := by decide +kernel
theorem dX2_mixRipe_139 : decode cX2_mixRipe 139 = .ok (.idiv, 1) := by decide +kernel
theorem dX2_mixRipe_140 : decode cX2_mixRipe 140 = .ok (.aload_n 1, 1) := by decide +kernel
theorem dX2_mixRipe_141 : decode cX2_mixRipe 141 = .ok (.iconst 1, 1) := by decide +kernel
theorem dX2_mixRipe_142 : decode cX2_mixRipe 142 = .ok (.iaload, 1) := by decide +kernel
theorem dX2_mixRipe_143 : decode cX2_mixRipe 143 = .ok (.aload_n 1, 1) := by decide +kernel
theorem dX2_mixRipe_144 : decode cX2_mixRipe 144 = .ok (.iconst 2, 1) := by decide +kernel
theorem dX2_mixRipe_145 : decode cX2_mixRipe 145 = .ok (.iaload, 1) := by decide +kernel
theorem dX2_mixRipe_146 : decode cX2_mixRipe 146 = .ok (.aload_n 1, 1) := by decide +kernel
theorem dX2_mixRipe_147 : decode cX2_mixRipe 147 = .ok (.iconst 3, 1) := by decide +kernel
theorem dX2_mixRipe_148 : decode cX2_mixRipe 148 = .ok (.iaload, 1) := by decide +kernel
theorem dX2_mixRipe_149 : decode cX2_mixRipe 149 = .ok (.invokestatic 89, 3) := by decide +kernel
theorem dX2_mixRipe_152 : decode cX2_mixRipe 152 = .ok (.aload_n 0, 1) := by decide +kernel
theorem dX2_mixRipe_153 : decode cX2_mixRipe 153 = .ok (.getfield 19, 3) := by decide +kernel
theorem dX2_mixRipe_156 : decode cX2_mixRipe 156 = .ok (.aload_n 0, 1) := by decide +kernel
theorem dX2_mixRipe_157 : decode cX2_mixRipe 157 = .ok (.getfield 38, 3) := by decide +kernel
theorem dX2_mixRipe_160 : decode cX2_mixRipe 160 = .ok (.iload_n 3, 1) := by decide +kernel
theorem dX2_mixRipe_161 : decode cX2_mixRipe 161 = .ok (.iaload, 1) := by decide +kernel
theorem dX2_mixRipe_162 : decode cX2_mixRipe 162 = .ok (.iaload, 1) := by decide +kernel
theorem dX2_mixRipe_163 : decode cX2_mixRipe 163 = .ok (.iadd, 1) := by decide +kernel
theorem dX2_mixRipe_164 : decode cX2_mixRipe 164 = .ok (.aload_n 0, 1) := by decide +kernel
theorem dX2_mixRipe_165 : decode cX2_mixRipe 165 = .ok (.getfield 54, 3) := by decide +kernel
theorem dX2_mixRipe_168 : decode cX2_mixRipe 168 = .ok (.iload_n 3, 1) := by decide +kernel
theorem dX2_mixRipe_169 : decode cX2_mixRipe 169 = .ok (.bipush 16, 2) := by decide +kernel
theorem dX2_mixRipe_171 : decode cX2_mixRipe 171 = .ok (.idiv, 1) := by decide +kernel
theorem dX2_mixRipe_172 : decode cX2_mixRipe 172 = .ok (.iaload, 1) := by decide +kernel
theorem dX2_mixRipe_173 : decode cX2_mixRipe 173 = .ok (.iadd, 1) := by decide +kernel
theorem dX2_mixRipe_174 : decode cX2_mixRipe 174 = .ok (.aload_n 0, 1) := by decide +kernel
theorem dX2_mixRipe_175 : decode cX2_mixRipe 175 = .ok (.getfield 44, 3) := by decide +kernel
theorem dX2_mixRipe_178 : decode cX2_mixRipe 178 = .ok (.iload_n 3, 1) := by decide +kernel
theorem dX2_mixRipe_179 : decode cX2_mixRipe 179 = .ok (.iaload, 1) := by decide +kernel
theorem dX2_mixRipe_180 : decode cX2_mixRipe 180 = .ok (.invokestatic 93, 3) := by decide +kernel
theorem dX2_mixRipe_183 : decode cX2_mixRipe 183 = .ok (.aload_n 2, 1) := by decide +kernel
theorem dX2_mixRipe_184 : decode cX2_mixRipe 184 = .ok (.iconst 4, 1) := by decide +kernel
theorem dX2_mixRipe_185 : decode cX2_mixRipe 185 = .ok (.iload_n 3, 1) := by decide +kernel
theorem dX2_mixRipe_186 : decode cX2_mixRipe 186 = .ok (.bipush 16, 2) := by decide +kernel
theorem dX2_mixRipe_188 : decode cX2_mixRipe 188 = .ok (.idiv, 1) := by decide +kernel
theorem dX2_mixRipe_189 : decode cX2_mixRipe 189 = .ok (.isub, 1) := by decide +kernel
theorem dX2_mixRipe_190 : decode cX2_mixRipe 190 = .ok (.aload_n 2, 1) := by decide +kernel
theorem dX2_mixRipe_191 : decode cX2_mixRipe 191 = .ok (.iconst 1, 1) := by decide +kernel
theorem dX2_mixRipe_192 : decode cX2_mixRipe 192 = .ok (.iaload, 1) := by decide +kernel
theorem dX2_mixRipe_193 : decode cX2_mixRipe 193 = .ok (.aload_n 2, 1) := by decide +kernel
theorem dX2_mixRipe_194 : decode cX2_mixRipe 194 = .ok (.iconst 2, 1) := by decide +kernel
theorem dX2_mixRipe_195 : decode cX2_mixRipe 195 = .ok (.iaload, 1) := by decide +kernel
theorem dX2_mixRipe_196 : decode cX2_mixRipe 196 = .ok (.aload_n 2, 1) := by decide +kernel
theorem dX2_mixRipe_197 : decode cX2_mixRipe 197 = .ok (.iconst 3, 1) := by decide +kernel
theorem dX2_mixRipe_198 : decode cX2_mixRipe 198 = .ok (.iaload, 1) := by decide +kernel
theorem dX2_mixRipe_199 : decode cX2_mixRipe 199 = .ok (.invokestatic 89, 3) := by decide +kernel
theorem dX2_mixRipe_202 : decode cX2_mixRipe 202 = .ok (.aload_n 0, 1) := by decide +kernel
theorem dX2_mixRipe_203 : decode cX2_mixRipe 203 = .ok (.getfield 19, 3) := by decide +kernel
theorem dX2_mixRipe_206 : decode cX2_mixRipe 206 = .ok (.aload_n 0, 1) := by decide +kernel
theorem dX2_mixRipe_207 : decode cX2_mixRipe 207 = .ok (.getfield 41, 3) := by decide +kernel
theorem dX2_mixRipe_210 : decode cX2_mixRipe 210 = .ok (.iload_n 3, 1) := by decide +kernel
theorem dX2_mixRipe_211 : decode cX2_mixRipe 211 = .ok (.iaload, 1) := by decide +kernel
theorem dX2_mixRipe_212 : decode cX2_mixRipe 212 = .ok (.iaload, 1) := by decide +kernel
theorem dX2_mixRipe_213 : decode cX2_mixRipe 213 = .ok (.iadd, 1) := by decide +kernel
theorem dX2_mixRipe_214 : decode cX2_mixRipe 214 = .ok (.aload_n 0, 1) := by decide +kernel
theorem dX2_mixRipe_215 : decode cX2_mixRipe 215 = .ok (.getfield 61, 3) := by decide +kernel
theorem dX2_mixRipe_218 : decode cX2_mixRipe 218 = .ok (.iload_n 3, 1) := by decide +kernel
theorem dX2_mixRipe_219 : decode cX2_mixRipe 219 = .ok (.bipush 16, 2) := by decide +kernel
theorem dX2_mixRipe_221 : decode cX2_mixRipe 221 = .ok (.idiv, 1) := by decide +kernel
theorem dX2_mixRipe_222 : decode cX2_mixRipe 222 = .ok (.iaload, 1) := by decide +kernel
theorem dX2_mixRipe_223 : decode cX2_mixRipe 223 = .ok (.iadd, 1) := by decide +kernel
theorem dX2_mixRipe_224 : decode cX2_mixRipe 224 = .ok (.aload_n 0, 1) := by decide +kernel
theorem dX2_mixRipe_225 : decode cX2_mixRipe 225 = .ok (.getfield 47, 3) := by decide +kernel
theorem dX2_mixRipe_228 : decode cX2_mixRipe 228 = .ok (.iload_n 3, 1) := by decide +kernel
theorem dX2_mixRipe_229 : decode cX2_mixRipe 229 = .ok (.iaload, 1) := by decide +kernel
theorem dX2_mixRipe_230 : decode cX2_mixRipe 230 = .ok (.invokestatic 93, 3) := by decide +kernel
theorem dX2_mixRipe_233 : decode cX2_mixRipe 233 = .ok (.iinc 3 1, 3) := by decide +kernel
theorem dX2_mixRipe_236 : decode cX2_mixRipe 236 = .ok (.goto (-107), 3) := by decide +kernel
theorem dX2_mixRipe_239 : decode cX2_mixRipe 239 = .ok (.aload_n 0, 1) := by decide +kernel
theorem dX2_mixRipe_240 : decode cX2_mixRipe 240 = .ok (.getfield 22, 3) := by decide +kernel
theorem dX2_mixRipe_243 : decode cX2_mixRipe 243 = .ok (.iconst 1, 1) := by decide +kernel
theorem dX2_mixRipe_244 : decode cX2_mixRipe 244 = .ok (.iaload, 1) := by decide +kernel
theorem dX2_mixRipe_245 : decode cX2_mixRipe 245 = .ok (.aload_n 1, 1) := by decide +kernel
theorem dX2_mixRipe_246 : decode cX2_mixRipe 246 = .ok (.iconst 2, 1) := by decide +kernel
theorem dX2_mixRipe_247 : decode cX2_mixRipe 247 = .ok (.iaload, 1) := by decide +kernel
theorem dX2_mixRipe_248 : decode cX2_mixRipe 248 = .ok (.iadd, 1) := by decide +kernel
theorem dX2_mixRipe_249 : decode cX2_mixRipe 249 = .ok (.aload_n 2, 1) := by decide +kernel
theorem dX2_mixRipe_250 : decode cX2_mixRipe 250 = .ok (.iconst 3, 1) := by decide +kernel
theorem dX2_mixRipe_251 : decode cX2_mixRipe 251 = .ok (.iaload, 1) := by decide +kernel
theorem dX2_mixRipe_252 : decode cX2_mixRipe 252 = .ok (.iadd, 1) := by decide +kernel
theorem dX2_mixRipe_253 : decode cX2_mixRipe 253 = .ok (.istore_n 3, 1) := by decide +kernel
theorem dX2_mixRipe_254 : decode cX2_mixRipe 254 = .ok (.aload_n 0, 1) := by decide +kernel
theorem dX2_mixRipe_255 : decode cX2_mixRipe 255 = .ok (.getfield 22, 3) := by decide +kernel
theorem dX2_mixRipe_258 : decode cX2_mixRipe 258 = .ok (.iconst 1, 1) := by decide +kernel
theorem dX2_mixRipe_259 : decode cX2_mixRipe 259 = .ok (.aload_n 0, 1) := by decide +kernel
theorem dX2_mixRipe_260 : decode cX2_mixRipe 260 = .ok (.getfield 22, 3) := by decide +kernel
theorem dX2_mixRipe_263 : decode cX2_mixRipe 263 = .ok (.iconst 2, 1) := by decide +kernel
theorem dX2_mixRipe_264 : decode cX2_mixRipe 264 = .ok (.iaload, 1) := by decide +kernel
theorem dX2_mixRipe_265 : decode cX2_mixRipe 265 = .ok (.aload_n 1, 1) := by decide +kernel
theorem dX2_mixRipe_266 : decode cX2_mixRipe 266 = .ok (.iconst 3, 1) := by decide +kernel
theorem dX2_mixRipe_267 : decode cX2_mixRipe 267 = .ok (.iaload, 1) := by decide +kernel
theorem dX2_mixRipe_268 : decode cX2_mixRipe 268 = .ok (.iadd, 1) := by decide +kernel
theorem dX2_mixRipe_269 : decode cX2_mixRipe 269 = .ok (.aload_n 2, 1) := by decide +kernel
theorem dX2_mixRipe_270 : decode cX2_mixRipe 270 = .ok (.iconst 4, 1) := by decide +kernel
theorem dX2_mixRipe_271 : decode cX2_mixRipe 271 = .ok (.iaload, 1) := by decide +kernel
theorem dX2_mixRipe_272 : decode cX2_mixRipe 272 = .ok (.iadd, 1) := by decide +kernel
theorem dX2_mixRipe_273 : decode cX2_mixRipe 273 = .ok (.iastore, 1) := by decide +kernel
theorem dX2_mixRipe_274 : decode cX2_mixRipe 274 = .ok (.aload_n 0, 1) := by decide +kernel
theorem dX2_mixRipe_275 : decode cX2_mixRipe 275 = .ok (.getfield 22, 3) := by decide +kernel
theorem dX2_mixRipe_278 : decode cX2_mixRipe 278 = .ok (.iconst 2, 1) := by decide +kernel
theorem dX2_mixRipe_279 : decode cX2_mixRipe 279 = .ok (.aload_n 0, 1) := by decide +kernel
theorem dX2_mixRipe_280 : decode cX2_mixRipe 280 = .ok (.getfield 22, 3) := by decide +kernel
theorem dX2_mixRipe_283 : decode cX2_mixRipe 283 = .ok (.iconst 3, 1) := by decide +kernel
theorem dX2_mixRipe_284 : decode cX2_mixRipe 284 = .ok (.iaload, 1) := by decide +kernel
theorem dX2_mixRipe_285 : decode cX2_mixRipe 285 = .ok (.aload_n 1, 1) := by decide +kernel
theorem dX2_mixRipe_286 : decode cX2_mixRipe 286 = .ok (.iconst 4, 1) := by decide +kernel
theorem dX2_mixRipe_287 : decode cX2_mixRipe 287 = .ok (.iaload, 1) := by decide +kernel
theorem dX2_mixRipe_288 : decode cX2_mixRipe 288 = .ok (.iadd, 1) := by decide +kernel
theorem dX2_mixRipe_289 : decode cX2_mixRipe 289 = .ok (.aload_n 2, 1) := by decide +kernel
theorem dX2_mixRipe_290 : decode cX2_mixRipe 290 = .ok (.iconst 0, 1) := by decide +kernel
theorem dX2_mixRipe_291 : decode cX2_mixRipe 291 = .ok (.iaload, 1) := by decide +kernel
theorem dX2_mixRipe_292 : decode cX2_mixRipe 292 = .ok (.iadd, 1) := by decide +kernel
theorem dX2_mixRipe_293 : decode cX2_mixRipe 293 = .ok (.iastore, 1) := by decide +kernel
theorem dX2_mixRipe_294 : decode cX2_mixRipe 294 = .ok (.aload_n 0, 1) := by decide +kernel
theorem dX2_mixRipe_295 : decode cX2_mixRipe 295 = .ok (.getfield 22, 3) := by decide +kernel
theorem dX2_mixRipe_298 : decode cX2_mixRipe 298 = .ok (.iconst 3, 1) := by decide +kernel
theorem dX2_mixRipe_299 : decode cX2_mixRipe 299 = .ok (.aload_n 0, 1) := by decide +kernel
theorem dX2_mixRipe_300 : decode cX2_mixRipe 300 = .ok (.getfield 22, 3) := by decide +kernel
theorem dX2_mixRipe_303 : decode cX2_mixRipe 303 = .ok (.iconst 4, 1) := by decide +kernel
theorem dX2_mixRipe_304 : decode cX2_mixRipe 304 = .ok (.iaload, 1) := by decide +kernel
theorem dX2_mixRipe_305 : decode cX2_mixRipe 305 = .ok (.aload_n 1, 1) := by decide +kernel
theorem dX2_mixRipe_306 : decode cX2_mixRipe 306 = .ok (.iconst 0, 1) := by decide +kernel
theorem dX2_mixRipe_307 : decode cX2_mixRipe 307 = .ok (.iaload, 1) := by decide +kernel
theorem dX2_mixRipe_308 : decode cX2_mixRipe 308 = .ok (.iadd, 1) := by decide +kernel
theorem dX2_mixRipe_309 : decode cX2_mixRipe 309 = .ok (.aload_n 2, 1) := by decide +kernel
theorem dX2_mixRipe_310 : decode cX2_mixRipe 310 = .ok (.iconst 1, 1) := by decide +kernel
theorem dX2_mixRipe_311 : decode cX2_mixRipe 311 = .ok (.iaload, 1) := by decide +kernel
theorem dX2_mixRipe_312 : decode cX2_mixRipe 312 = .ok (.iadd, 1) := by decide +kernel
theorem dX2_mixRipe_313 : decode cX2_mixRipe 313 = .ok (.iastore, 1) := by decide +kernel
theorem dX2_mixRipe_314 : decode cX2_mixRipe 314 = .ok (.aload_n 0, 1) := by decide +kernel
theorem dX2_mixRipe_315 : decode cX2_mixRipe 315 = .ok (.getfield 22, 3) := by decide +kernel
theorem dX2_mixRipe_318 : decode cX2_mixRipe 318 = .ok (.iconst 4, 1) := by decide +kernel
theorem dX2_mixRipe_319 : decode cX2_mixRipe 319 = .ok (.aload_n 0, 1) := by decide +kernel
theorem dX2_mixRipe_320 : decode cX2_mixRipe 320 = .ok (.getfield 22, 3) := by decide +kernel
theorem dX2_mixRipe_323 : decode cX2_mixRipe 323 = .ok (.iconst 0, 1) := by decide +kernel
theorem dX2_mixRipe_324 : decode cX2_mixRipe 324 = .ok (.iaload, 1) := by decide +kernel
theorem dX2_mixRipe_325 : decode cX2_mixRipe 325 = .ok (.aload_n 1, 1) := by decide +kernel
theorem dX2_mixRipe_326 : decode cX2_mixRipe 326 = .ok (.iconst 1, 1) := by decide +kernel
theorem dX2_mixRipe_327 : decode cX2_mixRipe 327 = .ok (.iaload, 1) := by decide +kernel
theorem dX2_mixRipe_328 : decode cX2_mixRipe 328 = .ok (.iadd, 1) := by decide +kernel
theorem dX2_mixRipe_329 : decode cX2_mixRipe 329 = .ok (.aload_n 2, 1) := by decide +kernel
theorem dX2_mixRipe_330 : decode cX2_mixRipe 330 = .ok (.iconst 2, 1) := by decide +kernel
theorem dX2_mixRipe_331 : decode cX2_mixRipe 331 = .ok (.iaload, 1) := by decide +kernel
theorem dX2_mixRipe_332 : decode cX2_mixRipe 332 = .ok (.iadd, 1) := by decide +kernel
theorem dX2_mixRipe_333 : decode cX2_mixRipe 333 = .ok (.iastore, 1) := by decide +kernel
theorem dX2_mixRipe_334 : decode cX2_mixRipe 334 = .ok (.aload_n 0, 1) := by decide +kernel
theorem dX2_mixRipe_335 : decode cX2_mixRipe 335 = .ok (.getfield 22, 3) := by decide +kernel
theorem dX2_mixRipe_338 : decode cX2_mixRipe 338 = .ok (.iconst 0, 1) := by decide +kernel
theorem dX2_mixRipe_339 : decode cX2_mixRipe 339 = .ok (.iload_n 3, 1) := by decide +kernel
theorem dX2_mixRipe_340 : decode cX2_mixRipe 340 = .ok (.iastore, 1) := by decide +kernel
theorem dX2_mixRipe_341 : decode cX2_mixRipe 341 = .ok (.return_, 1) := by decide +kernel
/-! CoinJudge$Digests.mixRipe()V -/
set_option maxHeartbeats 4000000 in
theorem sX2_mixRipe_0 {G : Gx} {d t : Nat} {h0 : AH} {Φ : Out → AH → Prop} (h : AH) (v0 : Nat) (K : Aw G mX2_mixRipe (d + 1) t h0 Φ 2 [vR v0, vI 0, vU, vU] [] h) : Aw G mX2_mixRipe (d + 1) t h0 Φ 0 [vR v0, vU, vU, vU] [] h := by
  refine r_iconst (pc := 0) (x := 0) dX2_mixRipe_0 rfl ?_
  refine r_istore_n (pc := 1) (lv' := [_, _, _, _]) dX2_mixRipe_1 (by decide) rfl ?_
  refine r_mask (pc := 2) [true, true, false, false] rfl ?_
  exact K
theorem eX2_mixRipe {G : Gx} {d : Nat} {Φ : Out → AH → Prop} (h : AH) (v0 : Nat) (K : WF G h → Aw G mX2_mixRipe (d + 1) 0 h Φ 0 [vR v0, vU, vU, vU] [] h) : Cw G mX2_mixRipe (d + 1) 0 [vR v0] h Φ := Cw.of rfl K
set_option maxHeartbeats 4000000 in
theorem sX2_mixRipe_2 {G : Gx} {d t : Nat} {h0 : AH} {Φ : Out → AH → Prop} (h : AH) (v0 : Nat) (v1 : Int32) (K : ((16 ≤ v1 → h.kd v0 = 2 ∧ ∀ r3 : Nat, r3 = (h.r 2005 v0) → ∀ r4 : Nat, r4 = (h.r 2006 v0) → Aw G mX2_mixRipe (d + 1) t h0 Φ 98 [vR v0, vR r3, vR r4, vI 0] [] h) ∧ (¬ 16 ≤ v1 → h.kd v0 = 2 ∧ ∀ r6 : Nat, r6 = (h.r 2003 v0) → ∀ r7 : Nat, r7 = (h.r 2007 v0) → h.kd r7 = 101 ∧ vp_in (4 * v1) (h.ai r7).length ∧ vp_in ((4 * v1) + 1) (h.ai r7).length ∧ vp_in ((4 * v1) + 2) (h.ai r7).length ∧ vp_in ((4 * v1) + 3) (h.ai r7).length ∧ h.kd r6 = 100 ∧ vp_in v1 (h.ai r6).length ∧ ∀ h15 : AH, h15 = h.wi r6 ((h.ai r6).set (v1.toNatClampNeg) ((((((h.ai r7).getD ((4 * v1).toNatClampNeg) 0) &&& 255) ||| (jshl (((h.ai r7).getD (((4 * v1) + 1).toNatClampNeg) 0) &&& 255) 8)) ||| (jshl (((h.ai r7).getD (((4 * v1) + 2).toNatClampNeg) 0) &&& 255) 16)) ||| (jshl (((h.ai r7).getD (((4 * v1) + 3).toNatClampNeg) 0) &&& 255) 24))) → Aw G mX2_mixRipe (d + 1) t h0 Φ 2 [vR v0, vI (v1 + 1), vU, vU] [] h15))) : Aw G mX2_mixRipe (d + 1) t h0 Φ 2 [vR v0, vI v1, vU, vU] [] h := by
  refine r_iload_n (pc := 2) dX2_mixRipe_2 rfl ?_
  refine r_bipush (pc := 3) (x := 16) dX2_mixRipe_3 rfl ?_
  refine r_icmp_ge (pc := 5) (tgt := 86) dX2_mixRipe_5 rfl (fun c1 => ?_) (fun c1 => ?_)
  · have K := K.1 c1
    refine r_aload_n (pc := 86) dX2_mixRipe_86 rfl ?_
    obtain ⟨hk2, K⟩ := K
    have K := K _ rfl
    refine r_getr' (pc := 87) (T := TX2) 2 5 rfl hk2 (Or.inl q242) dX2_mixRipe_87 kc2 g2005 ?_
    refine r_astore_n (pc := 90) (lv' := [_, _, _, _]) dX2_mixRipe_90 (by decide) rfl ?_
    refine r_aload_n (pc := 91) dX2_mixRipe_91 rfl ?_
    have K := K _ rfl
    refine r_getr' (pc := 92) (T := TX2) 2 6 rfl hk2 (Or.inl q243) dX2_mixRipe_92 kc2 g2006 ?_
    refine r_astore_n (pc := 95) (lv' := [_, _, _, _]) dX2_mixRipe_95 (by decide) rfl ?_
    refine r_iconst (pc := 96) (x := 0) dX2_mixRipe_96 rfl ?_
    refine r_istore_n (pc := 97) (lv' := [_, _, _, _]) dX2_mixRipe_97 (by decide) rfl ?_
    refine r_mask (pc := 98) [true, true, true, true] rfl ?_
    exact K
  · have K := K.2 c1
    refine r_aload_n (pc := 8) dX2_mixRipe_8 rfl ?_
    obtain ⟨hk5, K⟩ := K
    have K := K _ rfl
    refine r_getr' (pc := 9) (T := TX2) 2 3 rfl hk5 (Or.inl q240) dX2_mixRipe_9 kc2 g2003 ?_
    refine r_iload_n (pc := 12) dX2_mixRipe_12 rfl ?_
    refine r_aload_n (pc := 13) dX2_mixRipe_13 rfl ?_
    have K := K _ rfl
    refine r_getr' (pc := 14) (T := TX2) 2 7 rfl hk5 (Or.inl q244) dX2_mixRipe_14 kc2 g2007 ?_
    refine r_iconst (pc := 17) (x := 4) dX2_mixRipe_17 rfl ?_
    refine r_iload_n (pc := 18) dX2_mixRipe_18 rfl ?_
    refine r_imul (pc := 19) dX2_mixRipe_19 ?_
    obtain ⟨hk8, K⟩ := K
    obtain ⟨hi9, K⟩ := K
    refine r_baload (pc := 20) hk8 hi9 dX2_mixRipe_20 ?_
    refine r_sipush (pc := 21) (x := 255) dX2_mixRipe_21 rfl ?_
    refine r_iand (pc := 24) dX2_mixRipe_24 ?_
    refine r_aload_n (pc := 25) dX2_mixRipe_25 rfl ?_
    refine r_getr' (pc := 26) (T := TX2) 2 7 rfl hk5 (Or.inl q244) dX2_mixRipe_26 kc2 g2007 ?_
    refine r_iconst (pc := 29) (x := 4) dX2_mixRipe_29 rfl ?_
    refine r_iload_n (pc := 30) dX2_mixRipe_30 rfl ?_
    refine r_imul (pc := 31) dX2_mixRipe_31 ?_
    refine r_iconst (pc := 32) (x := 1) dX2_mixRipe_32 rfl ?_
    refine r_iadd (pc := 33) dX2_mixRipe_33 ?_
    obtain ⟨hi10, K⟩ := K
    refine r_baload (pc := 34) hk8 hi10 dX2_mixRipe_34 ?_
    refine r_sipush (pc := 35) (x := 255) dX2_mixRipe_35 rfl ?_
    refine r_iand (pc := 38) dX2_mixRipe_38 ?_
    refine r_bipush (pc := 39) (x := 8) dX2_mixRipe_39 rfl ?_
    refine r_jshl (pc := 41) dX2_mixRipe_41 ?_
    refine r_ior (pc := 42) dX2_mixRipe_42 ?_
    refine r_aload_n (pc := 43) dX2_mixRipe_43 rfl ?_
    refine r_getr' (pc := 44) (T := TX2) 2 7 rfl hk5 (Or.inl q244) dX2_mixRipe_44 kc2 g2007 ?_
    refine r_iconst (pc := 47) (x := 4) dX2_mixRipe_47 rfl ?_
    refine r_iload_n (pc := 48) dX2_mixRipe_48 rfl ?_
    refine r_imul (pc := 49) dX2_mixRipe_49 ?_
    refine r_iconst (pc := 50) (x := 2) dX2_mixRipe_50 rfl ?_
    refine r_iadd (pc := 51) dX2_mixRipe_51 ?_
    obtain ⟨hi11, K⟩ := K
    refine r_baload (pc := 52) hk8 hi11 dX2_mixRipe_52 ?_
    refine r_sipush (pc := 53) (x := 255) dX2_mixRipe_53 rfl ?_
    refine r_iand (pc := 56) dX2_mixRipe_56 ?_
    refine r_bipush (pc := 57) (x := 16) dX2_mixRipe_57 rfl ?_
    refine r_jshl (pc := 59) dX2_mixRipe_59 ?_
    refine r_ior (pc := 60) dX2_mixRipe_60 ?_
    refine r_aload_n (pc := 61) dX2_mixRipe_61 rfl ?_
    refine r_getr' (pc := 62) (T := TX2) 2 7 rfl hk5 (Or.inl q244) dX2_mixRipe_62 kc2 g2007 ?_
    refine r_iconst (pc := 65) (x := 4) dX2_mixRipe_65 rfl ?_
    refine r_iload_n (pc := 66) dX2_mixRipe_66 rfl ?_
    refine r_imul (pc := 67) dX2_mixRipe_67 ?_
    refine r_iconst (pc := 68) (x := 3) dX2_mixRipe_68 rfl ?_
    refine r_iadd (pc := 69) dX2_mixRipe_69 ?_
    obtain ⟨hi12, K⟩ := K
    refine r_baload (pc := 70) hk8 hi12 dX2_mixRipe_70 ?_
    refine r_sipush (pc := 71) (x := 255) dX2_mixRipe_71 rfl ?_
    refine r_iand (pc := 74) dX2_mixRipe_74 ?_
    refine r_bipush (pc := 75) (x := 24) dX2_mixRipe_75 rfl ?_
    refine r_jshl (pc := 77) dX2_mixRipe_77 ?_
    refine r_ior (pc := 78) dX2_mixRipe_78 ?_
    obtain ⟨hk13, K⟩ := K
    obtain ⟨hi14, K⟩ := K
    refine r_iastore (pc := 79) hk13 hi14 (Or.inl (em rfl)) dX2_mixRipe_79 ?_
    refine r_nameH (fun h15 eh15 => ?_)
    have K := K h15 eh15
    refine r_iinc (pc := 80) (lv' := [_, _, _, _]) dX2_mixRipe_80 rfl rfl (by decide) rfl ?_
    refine r_goto (pc := 83) (tgt := 2) dX2_mixRipe_83 rfl ?_
    refine r_mask (pc := 2) [true, true, false, false] rfl ?_
    exact K
set_option maxHeartbeats 4000000 in
theorem sX2_mixRipe_98 {G : Gx} {d t : Nat} {h0 : AH} {Φ : Out → AH → Prop} (h : AH) (v0 : Nat) (v1 : Nat) (v2 : Nat) (v3 : Int32) (K : ((5 ≤ v3 → Aw G mX2_mixRipe (d + 1) t h0 Φ 129 [vR v0, vR v1, vR v2, vI 0] [] h) ∧ (¬ 5 ≤ v3 → h.kd v0 = 2 ∧ ∀ r3 : Nat, r3 = (h.r 2004 v0) → h.kd r3 = 100 ∧ vp_in v3 (h.ai r3).length ∧ h.kd v1 = 100 ∧ vp_in v3 (h.ai v1).length ∧ ∀ h8 : AH, h8 = h.wi v1 ((h.ai v1).set (v3.toNatClampNeg) ((h.ai r3).getD (v3.toNatClampNeg) 0)) → vp_in v3 (h8.ai r3).length ∧ h8.kd v2 = 100 ∧ vp_in v3 (h8.ai v2).length ∧ ∀ h16 : AH, h16 = h8.wi v2 ((h8.ai v2).set (v3.toNatClampNeg) ((h8.ai r3).getD (v3.toNatClampNeg) 0)) → Aw G mX2_mixRipe (d + 1) t h0 Φ 98 [vR v0, vR v1, vR v2, vI (v3 + 1)] [] h16))) : Aw G mX2_mixRipe (d + 1) t h0 Φ 98 [vR v0, vR v1, vR v2, vI v3] [] h := by
  refine r_iload_n (pc := 98) dX2_mixRipe_98 rfl ?_
  refine r_iconst (pc := 99) (x := 5) dX2_mixRipe_99 rfl ?_
  refine r_icmp_ge (pc := 100) (tgt := 127) dX2_mixRipe_100 rfl (fun c1 => ?_) (fun c1 => ?_)
  · have K := K.1 c1
    refine r_iconst (pc := 127) (x := 0) dX2_mixRipe_127 rfl ?_
    refine r_istore_n (pc := 128) (lv' := [_, _, _, _]) dX2_mixRipe_128 (by decide) rfl ?_
    refine r_mask (pc := 129) [true, true, true, true] rfl ?_
    exact K
  · have K := K.2 c1
    refine r_aload_n (pc := 103) dX2_mixRipe_103 rfl ?_
    refine r_iload_n (pc := 104) dX2_mixRipe_104 rfl ?_
    refine r_aload_n (pc := 105) dX2_mixRipe_105 rfl ?_
    obtain ⟨hk2, K⟩ := K
    have K := K _ rfl
    refine r_getr' (pc := 106) (T := TX2) 2 4 rfl hk2 (Or.inl q241) dX2_mixRipe_106 kc2 g2004 ?_
    refine r_iload_n (pc := 109) dX2_mixRipe_109 rfl ?_
    obtain ⟨hk4, K⟩ := K
    obtain ⟨hi5, K⟩ := K
    refine r_iaload (pc := 110) hk4 hi5 dX2_mixRipe_110 ?_
    obtain ⟨hk6, K⟩ := K
    obtain ⟨hi7, K⟩ := K
    refine r_iastore (pc := 111) hk6 hi7 (Or.inl (em rfl)) dX2_mixRipe_111 ?_
    refine r_nameH (fun h8 eh8 => ?_)
    have K := K h8 eh8
    refine r_aload_n (pc := 112) dX2_mixRipe_112 rfl ?_
    refine r_iload_n (pc := 113) dX2_mixRipe_113 rfl ?_
    refine r_aload_n (pc := 114) dX2_mixRipe_114 rfl ?_
    have hk9 := kd_wi eh8 hk2
    have hv10 := fr_self (key := 2004) hk2
    have hv11 := fr_wi (key := 2004) eh8 hv10
    refine r_getr' (pc := 115) (T := TX2) 2 4 hv11 hk9 (Or.inl q241) dX2_mixRipe_115 kc2 g2004 ?_
    refine r_iload_n (pc := 118) dX2_mixRipe_118 rfl ?_
    have hk12 := kd_wi eh8 hk4
    obtain ⟨hi13, K⟩ := K
    refine r_iaload (pc := 119) hk12 hi13 dX2_mixRipe_119 ?_
    obtain ⟨hk14, K⟩ := K
    obtain ⟨hi15, K⟩ := K
    refine r_iastore (pc := 120) hk14 hi15 (Or.inl (em rfl)) dX2_mixRipe_120 ?_
    refine r_nameH (fun h16 eh16 => ?_)
    have K := K h16 eh16
    refine r_iinc (pc := 121) (lv' := [_, _, _, _]) dX2_mixRipe_121 rfl rfl (by decide) rfl ?_
    refine r_goto (pc := 124) (tgt := 98) dX2_mixRipe_124 rfl ?_
    refine r_mask (pc := 98) [true, true, true, true] rfl ?_
    exact K
set_option maxHeartbeats 4000000 in
theorem sX2_mixRipe_129 {G : Gx} {d t : Nat} {h0 : AH} {Φ : Out → AH → Prop} (h : AH) (v0 : Nat) (v1 : Nat) (v2 : Nat) (v3 : Int32) (K : ((80 ≤ v3 → h.kd v0 = 2 ∧ ∀ r3 : Nat, r3 = (h.r 2004 v0) → h.kd r3 = 100 ∧ vp_in 1 (h.ai r3).length ∧ h.kd v1 = 100 ∧ vp_in 2 (h.ai v1).length ∧ h.kd v2 = 100 ∧ vp_in 3 (h.ai v2).length ∧ ∀ u10 : Int32, u10 = ((((h.ai r3).getD ((1 : Int32).toNatClampNeg) 0) + ((h.ai v1).getD ((2 : Int32).toNatClampNeg) 0)) + ((h.ai v2).getD ((3 : Int32).toNatClampNeg) 0)) → vp_in 2 (h.ai r3).length ∧ vp_in 3 (h.ai v1).length ∧ vp_in 4 (h.ai v2).length ∧ vp_in 1 (h.ai r3).length ∧ ∀ h15 : AH, h15 = h.wi r3 ((h.ai r3).set ((1 : Int32).toNatClampNeg) ((((h.ai r3).getD ((2 : Int32).toNatClampNeg) 0) + ((h.ai v1).getD ((3 : Int32).toNatClampNeg) 0)) + ((h.ai v2).getD ((4 : Int32).toNatClampNeg) 0))) → vp_in 3 (h15.ai r3).length ∧ vp_in 4 (h15.ai v1).length ∧ vp_in 0 (h15.ai v2).length ∧ vp_in 2 (h15.ai r3).length ∧ ∀ h26 : AH, h26 = h15.wi r3 ((h15.ai r3).set ((2 : Int32).toNatClampNeg) ((((h15.ai r3).getD ((3 : Int32).toNatClampNeg) 0) + ((h15.ai v1).getD ((4 : Int32).toNatClampNeg) 0)) + ((h15.ai v2).getD ((0 : Int32).toNatClampNeg) 0))) → vp_in 4 (h26.ai r3).length ∧ vp_in 0 (h26.ai v1).length ∧ vp_in 1 (h26.ai v2).length ∧ vp_in 3 (h26.ai r3).length ∧ ∀ h36 : AH, h36 = h26.wi r3 ((h26.ai r3).set ((3 : Int32).toNatClampNeg) ((((h26.ai r3).getD ((4 : Int32).toNatClampNeg) 0) + ((h26.ai v1).getD ((0 : Int32).toNatClampNeg) 0)) + ((h26.ai v2).getD ((1 : Int32).toNatClampNeg) 0))) → vp_in 0 (h36.ai r3).length ∧ vp_in 1 (h36.ai v1).length ∧ vp_in 2 (h36.ai v2).length ∧ vp_in 4 (h36.ai r3).length ∧ ∀ h46 : AH, h46 = h36.wi r3 ((h36.ai r3).set ((4 : Int32).toNatClampNeg) ((((h36.ai r3).getD ((0 : Int32).toNatClampNeg) 0) + ((h36.ai v1).getD ((1 : Int32).toNatClampNeg) 0)) + ((h36.ai v2).getD ((2 : Int32).toNatClampNeg) 0))) → vp_in 0 (h46.ai r3).length ∧ ∀ h51 : AH, h51 = h46.wi r3 ((h46.ai r3).set ((0 : Int32).toNatClampNeg) u10) → Φ (.inl none) h51) ∧ (¬ 80 ≤ v3 → h.kd v1 = 100 ∧ vp_in 1 (h.ai v1).length ∧ vp_in 2 (h.ai v1).length ∧ vp_in 3 (h.ai v1).length ∧ Cw G mX2_turned d 0 [vI (v3 / 16), vI ((h.ai v1).getD ((1 : Int32).toNatClampNeg) 0), vI ((h.ai v1).getD ((2 : Int32).toNatClampNeg) 0), vI ((h.ai v1).getD ((3 : Int32).toNatClampNeg) 0)] h (kI (fun x56 h57 => h57.kd v0 = 2 ∧ ∀ r59 : Nat, r59 = (h57.r 2003 v0) → ∀ r60 : Nat, r60 = (h57.r 2009 v0) → h57.kd r60 = 100 ∧ vp_in v3 (h57.ai r60).length ∧ h57.kd r59 = 100 ∧ vp_in ((h57.ai r60).getD (v3.toNatClampNeg) 0) (h57.ai r59).length ∧ ∀ r65 : Nat, r65 = (h57.r 2013 v0) → h57.kd r65 = 100 ∧ vp_in (v3 / 16) (h57.ai r65).length ∧ ∀ r68 : Nat, r68 = (h57.r 2011 v0) → h57.kd r68 = 100 ∧ vp_in v3 (h57.ai r68).length ∧ Cw G mX2_step d 0 [vR v1, vI ((x56 + ((h57.ai r59).getD (((h57.ai r60).getD (v3.toNatClampNeg) 0).toNatClampNeg) 0)) + ((h57.ai r65).getD ((v3 / 16).toNatClampNeg) 0)), vI ((h57.ai r68).getD (v3.toNatClampNeg) 0)] h57 (kV (fun h72 => h72.kd v2 = 100 ∧ vp_in 1 (h72.ai v2).length ∧ vp_in 2 (h72.ai v2).length ∧ vp_in 3 (h72.ai v2).length ∧ Cw G mX2_turned d 0 [vI (4 - (v3 / 16)), vI ((h72.ai v2).getD ((1 : Int32).toNatClampNeg) 0), vI ((h72.ai v2).getD ((2 : Int32).toNatClampNeg) 0), vI ((h72.ai v2).getD ((3 : Int32).toNatClampNeg) 0)] h72 (kI (fun x77 h78 => ∀ r84 : Nat, r84 = (h78.r 2010 v0) → h78.kd r84 = 100 ∧ vp_in v3 (h78.ai r84).length ∧ vp_in ((h78.ai r84).getD (v3.toNatClampNeg) 0) (h78.ai r59).length ∧ ∀ r90 : Nat, r90 = (h78.r 2014 v0) → h78.kd r90 = 100 ∧ vp_in (v3 / 16) (h78.ai r90).length ∧ ∀ r93 : Nat, r93 = (h78.r 2012 v0) → h78.kd r93 = 100 ∧ vp_in v3 (h78.ai r93).length ∧ Cw G mX2_step d 0 [vR v2, vI ((x77 + ((h78.ai r59).getD (((h78.ai r84).getD (v3.toNatClampNeg) 0).toNatClampNeg) 0)) + ((h78.ai r90).getD ((v3 / 16).toNatClampNeg) 0)), vI ((h78.ai r93).getD (v3.toNatClampNeg) 0)] h78 (kV (fun h97 => Aw G mX2_mixRipe (d + 1) t h0 Φ 129 [vR v0, vR v1, vR v2, vI (v3 + 1)] [] h97) (fun x h => Φ (.inr x) h))) (fun x h => Φ (.inr x) h))) (fun x h => Φ (.inr x) h))) (fun x h => Φ (.inr x) h))))) : Aw G mX2_mixRipe (d + 1) t h0 Φ 129 [vR v0, vR v1, vR v2, vI v3] [] h := by
  refine r_iload_n (pc := 129) dX2_mixRipe_129 rfl ?_
  refine r_bipush (pc := 130) (x := 80) dX2_mixRipe_130 rfl ?_
  refine r_icmp_ge (pc := 132) (tgt := 239) dX2_mixRipe_132 rfl (fun c1 => ?_) (fun c1 => ?_)
  · have K := K.1 c1
    refine r_aload_n (pc := 239) dX2_mixRipe_239 rfl ?_
    obtain ⟨hk2, K⟩ := K
    have K := K _ rfl
    refine r_getr' (pc := 240) (T := TX2) 2 4 rfl hk2 (Or.inl q241) dX2_mixRipe_240 kc2 g2004 ?_
    refine r_iconst (pc := 243) (x := 1) dX2_mixRipe_243 rfl ?_
    obtain ⟨hk4, K⟩ := K
    obtain ⟨hi5, K⟩ := K
    refine r_iaload (pc := 244) hk4 hi5 dX2_mixRipe_244 ?_
    refine r_aload_n (pc := 245) dX2_mixRipe_245 rfl ?_
    refine r_iconst (pc := 246) (x := 2) dX2_mixRipe_246 rfl ?_
    obtain ⟨hk6, K⟩ := K
    obtain ⟨hi7, K⟩ := K
    refine r_iaload (pc := 247) hk6 hi7 dX2_mixRipe_247 ?_
    refine r_iadd (pc := 248) dX2_mixRipe_248 ?_
    refine r_aload_n (pc := 249) dX2_mixRipe_249 rfl ?_
    refine r_iconst (pc := 250) (x := 3) dX2_mixRipe_250 rfl ?_
    obtain ⟨hk8, K⟩ := K
    obtain ⟨hi9, K⟩ := K
    refine r_iaload (pc := 251) hk8 hi9 dX2_mixRipe_251 ?_
    refine r_iadd (pc := 252) dX2_mixRipe_252 ?_
    have K := K _ rfl
    refine r_istore_n (pc := 253) (lv' := [_, _, _, _]) dX2_mixRipe_253 (by decide) rfl ?_
    refine r_aload_n (pc := 254) dX2_mixRipe_254 rfl ?_
    refine r_getr' (pc := 255) (T := TX2) 2 4 rfl hk2 (Or.inl q241) dX2_mixRipe_255 kc2 g2004 ?_
    refine r_iconst (pc := 258) (x := 1) dX2_mixRipe_258 rfl ?_
    refine r_aload_n (pc := 259) dX2_mixRipe_259 rfl ?_
    refine r_getr' (pc := 260) (T := TX2) 2 4 rfl hk2 (Or.inl q241) dX2_mixRipe_260 kc2 g2004 ?_
    refine r_iconst (pc := 263) (x := 2) dX2_mixRipe_263 rfl ?_
    obtain ⟨hi11, K⟩ := K
    refine r_iaload (pc := 264) hk4 hi11 dX2_mixRipe_264 ?_
    refine r_aload_n (pc := 265) dX2_mixRipe_265 rfl ?_
    refine r_iconst (pc := 266) (x := 3) dX2_mixRipe_266 rfl ?_
    obtain ⟨hi12, K⟩ := K
    refine r_iaload (pc := 267) hk6 hi12 dX2_mixRipe_267 ?_
    refine r_iadd (pc := 268) dX2_mixRipe_268 ?_
    refine r_aload_n (pc := 269) dX2_mixRipe_269 rfl ?_
    refine r_iconst (pc := 270) (x := 4) dX2_mixRipe_270 rfl ?_
    obtain ⟨hi13, K⟩ := K
    refine r_iaload (pc := 271) hk8 hi13 dX2_mixRipe_271 ?_
    refine r_iadd (pc := 272) dX2_mixRipe_272 ?_
    obtain ⟨hi14, K⟩ := K
    refine r_iastore (pc := 273) hk4 hi14 (Or.inl (em rfl)) dX2_mixRipe_273 ?_
    refine r_nameH (fun h15 eh15 => ?_)
    have K := K h15 eh15
    refine r_aload_n (pc := 274) dX2_mixRipe_274 rfl ?_
    have hk16 := kd_wi eh15 hk2
    have hv17 := fr_self (key := 2004) hk2
    have hv18 := fr_wi (key := 2004) eh15 hv17
    refine r_getr' (pc := 275) (T := TX2) 2 4 hv18 hk16 (Or.inl q241) dX2_mixRipe_275 kc2 g2004 ?_
    refine r_iconst (pc := 278) (x := 2) dX2_mixRipe_278 rfl ?_
    refine r_aload_n (pc := 279) dX2_mixRipe_279 rfl ?_
    refine r_getr' (pc := 280) (T := TX2) 2 4 hv18 hk16 (Or.inl q241) dX2_mixRipe_280 kc2 g2004 ?_
    refine r_iconst (pc := 283) (x := 3) dX2_mixRipe_283 rfl ?_
    have hk19 := kd_wi eh15 hk4
    obtain ⟨hi20, K⟩ := K
    refine r_iaload (pc := 284) hk19 hi20 dX2_mixRipe_284 ?_
    refine r_aload_n (pc := 285) dX2_mixRipe_285 rfl ?_
    refine r_iconst (pc := 286) (x := 4) dX2_mixRipe_286 rfl ?_
    have hk21 := kd_wi eh15 hk6
    obtain ⟨hi22, K⟩ := K
    refine r_iaload (pc := 287) hk21 hi22 dX2_mixRipe_287 ?_
    refine r_iadd (pc := 288) dX2_mixRipe_288 ?_
    refine r_aload_n (pc := 289) dX2_mixRipe_289 rfl ?_
    refine r_iconst (pc := 290) (x := 0) dX2_mixRipe_290 rfl ?_
    have hk23 := kd_wi eh15 hk8
    obtain ⟨hi24, K⟩ := K
    refine r_iaload (pc := 291) hk23 hi24 dX2_mixRipe_291 ?_
    refine r_iadd (pc := 292) dX2_mixRipe_292 ?_
    obtain ⟨hi25, K⟩ := K
    refine r_iastore (pc := 293) hk19 hi25 (Or.inl (em rfl)) dX2_mixRipe_293 ?_
    refine r_nameH (fun h26 eh26 => ?_)
    have K := K h26 eh26
    refine r_aload_n (pc := 294) dX2_mixRipe_294 rfl ?_
    have hk27 := kd_wi eh26 hk16
    have hv28 := fr_wi (key := 2004) eh26 hv18
    refine r_getr' (pc := 295) (T := TX2) 2 4 hv28 hk27 (Or.inl q241) dX2_mixRipe_295 kc2 g2004 ?_
    refine r_iconst (pc := 298) (x := 3) dX2_mixRipe_298 rfl ?_
    refine r_aload_n (pc := 299) dX2_mixRipe_299 rfl ?_
    refine r_getr' (pc := 300) (T := TX2) 2 4 hv28 hk27 (Or.inl q241) dX2_mixRipe_300 kc2 g2004 ?_
    refine r_iconst (pc := 303) (x := 4) dX2_mixRipe_303 rfl ?_
    have hk29 := kd_wi eh26 hk19
    obtain ⟨hi30, K⟩ := K
    refine r_iaload (pc := 304) hk29 hi30 dX2_mixRipe_304 ?_
    refine r_aload_n (pc := 305) dX2_mixRipe_305 rfl ?_
    refine r_iconst (pc := 306) (x := 0) dX2_mixRipe_306 rfl ?_
    have hk31 := kd_wi eh26 hk21
    obtain ⟨hi32, K⟩ := K
    refine r_iaload (pc := 307) hk31 hi32 dX2_mixRipe_307 ?_
    refine r_iadd (pc := 308) dX2_mixRipe_308 ?_
    refine r_aload_n (pc := 309) dX2_mixRipe_309 rfl ?_
    refine r_iconst (pc := 310) (x := 1) dX2_mixRipe_310 rfl ?_
    have hk33 := kd_wi eh26 hk23
    obtain ⟨hi34, K⟩ := K
    refine r_iaload (pc := 311) hk33 hi34 dX2_mixRipe_311 ?_
    refine r_iadd (pc := 312) dX2_mixRipe_312 ?_
    obtain ⟨hi35, K⟩ := K
    refine r_iastore (pc := 313) hk29 hi35 (Or.inl (em rfl)) dX2_mixRipe_313 ?_
    refine r_nameH (fun h36 eh36 => ?_)
    have K := K h36 eh36
    refine r_aload_n (pc := 314) dX2_mixRipe_314 rfl ?_
    have hk37 := kd_wi eh36 hk27
    have hv38 := fr_wi (key := 2004) eh36 hv28
    refine r_getr' (pc := 315) (T := TX2) 2 4 hv38 hk37 (Or.inl q241) dX2_mixRipe_315 kc2 g2004 ?_
    refine r_iconst (pc := 318) (x := 4) dX2_mixRipe_318 rfl ?_
    refine r_aload_n (pc := 319) dX2_mixRipe_319 rfl ?_
    refine r_getr' (pc := 320) (T := TX2) 2 4 hv38 hk37 (Or.inl q241) dX2_mixRipe_320 kc2 g2004 ?_
    refine r_iconst (pc := 323) (x := 0) dX2_mixRipe_323 rfl ?_
    have hk39 := kd_wi eh36 hk29
    obtain ⟨hi40, K⟩ := K
    refine r_iaload (pc := 324) hk39 hi40 dX2_mixRipe_324 ?_
    refine r_aload_n (pc := 325) dX2_mixRipe_325 rfl ?_
    refine r_iconst (pc := 326) (x := 1) dX2_mixRipe_326 rfl ?_
    have hk41 := kd_wi eh36 hk31
    obtain ⟨hi42, K⟩ := K
    refine r_iaload (pc := 327) hk41 hi42 dX2_mixRipe_327 ?_
    refine r_iadd (pc := 328) dX2_mixRipe_328 ?_
    refine r_aload_n (pc := 329) dX2_mixRipe_329 rfl ?_
    refine r_iconst (pc := 330) (x := 2) dX2_mixRipe_330 rfl ?_
    have hk43 := kd_wi eh36 hk33
    obtain ⟨hi44, K⟩ := K
    refine r_iaload (pc := 331) hk43 hi44 dX2_mixRipe_331 ?_
    refine r_iadd (pc := 332) dX2_mixRipe_332 ?_
    obtain ⟨hi45, K⟩ := K
    refine r_iastore (pc := 333) hk39 hi45 (Or.inl (em rfl)) dX2_mixRipe_333 ?_
    refine r_nameH (fun h46 eh46 => ?_)
    have K := K h46 eh46
    refine r_aload_n (pc := 334) dX2_mixRipe_334 rfl ?_
    have hk47 := kd_wi eh46 hk37
    have hv48 := fr_wi (key := 2004) eh46 hv38
    refine r_getr' (pc := 335) (T := TX2) 2 4 hv48 hk47 (Or.inl q241) dX2_mixRipe_335 kc2 g2004 ?_
    refine r_iconst (pc := 338) (x := 0) dX2_mixRipe_338 rfl ?_
    refine r_iload_n (pc := 339) dX2_mixRipe_339 rfl ?_
    have hk49 := kd_wi eh46 hk39
    obtain ⟨hi50, K⟩ := K
    refine r_iastore (pc := 340) hk49 hi50 (Or.inl (em rfl)) dX2_mixRipe_340 ?_
    refine r_nameH (fun h51 eh51 => ?_)
    have K := K h51 eh51
    exact r_vret (pc := 341) rfl dX2_mixRipe_341 K
  · have K := K.2 c1
    refine r_aload_n (pc := 135) dX2_mixRipe_135 rfl ?_
    refine r_iload_n (pc := 136) dX2_mixRipe_136 rfl ?_
    refine r_bipush (pc := 137) (x := 16) dX2_mixRipe_137 rfl ?_
    refine r_idiv (pc := 139) (by decide) dX2_mixRipe_139 ?_
    refine r_aload_n (pc := 140) dX2_mixRipe_140 rfl ?_
    refine r_iconst (pc := 141) (x := 1) dX2_mixRipe_141 rfl ?_
    obtain ⟨hk52, K⟩ := K
    obtain ⟨hi53, K⟩ := K
    refine r_iaload (pc := 142) hk52 hi53 dX2_mixRipe_142 ?_
    refine r_aload_n (pc := 143) dX2_mixRipe_143 rfl ?_
    refine r_iconst (pc := 144) (x := 2) dX2_mixRipe_144 rfl ?_
    obtain ⟨hi54, K⟩ := K
    refine r_iaload (pc := 145) hk52 hi54 dX2_mixRipe_145 ?_
    refine r_aload_n (pc := 146) dX2_mixRipe_146 rfl ?_
    refine r_iconst (pc := 147) (x := 3) dX2_mixRipe_147 rfl ?_
    obtain ⟨hi55, K⟩ := K
    refine r_iaload (pc := 148) hk52 hi55 dX2_mixRipe_148 ?_
    refine r_callS_I (pc := 149) (Y := mX2_turned) (vs := [_, _, _, _]) (st := [_]) q908 q909 q151 dX2_mixRipe_149 rfl cd_X2_turned rfl rfl fp_X2_mixRipe_X2_turned K (fun x56 h57 eh57 wh57 K => ?_) (fun x h1 _ _ e => Tw.out rfl e)
    refine r_aload_n (pc := 152) dX2_mixRipe_152 rfl ?_
    obtain ⟨hk58, K⟩ := K
    have K := K _ rfl
    refine r_getr' (pc := 153) (T := TX2) 2 3 rfl hk58 (Or.inl q240) dX2_mixRipe_153 kc2 g2003 ?_
    refine r_aload_n (pc := 156) dX2_mixRipe_156 rfl ?_
    have K := K _ rfl
    refine r_getr' (pc := 157) (T := TX2) 2 9 rfl hk58 (Or.inl q246) dX2_mixRipe_157 kc2 g2009 ?_
    refine r_iload_n (pc := 160) dX2_mixRipe_160 rfl ?_
    obtain ⟨hk61, K⟩ := K
    obtain ⟨hi62, K⟩ := K
    refine r_iaload (pc := 161) hk61 hi62 dX2_mixRipe_161 ?_
    obtain ⟨hk63, K⟩ := K
    obtain ⟨hi64, K⟩ := K
    refine r_iaload (pc := 162) hk63 hi64 dX2_mixRipe_162 ?_
    refine r_iadd (pc := 163) dX2_mixRipe_163 ?_
    refine r_aload_n (pc := 164) dX2_mixRipe_164 rfl ?_
    have K := K _ rfl
    refine r_getr' (pc := 165) (T := TX2) 2 13 rfl hk58 (Or.inl q250) dX2_mixRipe_165 kc2 g2013 ?_
    refine r_iload_n (pc := 168) dX2_mixRipe_168 rfl ?_
    refine r_bipush (pc := 169) (x := 16) dX2_mixRipe_169 rfl ?_
    refine r_idiv (pc := 171) (by decide) dX2_mixRipe_171 ?_
    obtain ⟨hk66, K⟩ := K
    obtain ⟨hi67, K⟩ := K
    refine r_iaload (pc := 172) hk66 hi67 dX2_mixRipe_172 ?_
    refine r_iadd (pc := 173) dX2_mixRipe_173 ?_
    refine r_aload_n (pc := 174) dX2_mixRipe_174 rfl ?_
    have K := K _ rfl
    refine r_getr' (pc := 175) (T := TX2) 2 11 rfl hk58 (Or.inl q248) dX2_mixRipe_175 kc2 g2011 ?_
    refine r_iload_n (pc := 178) dX2_mixRipe_178 rfl ?_
    obtain ⟨hk69, K⟩ := K
    obtain ⟨hi70, K⟩ := K
    refine r_iaload (pc := 179) hk69 hi70 dX2_mixRipe_179 ?_
    refine r_callS_V (pc := 180) (Y := mX2_step) (vs := [_, _, _]) (st := []) q911 q912 q151 dX2_mixRipe_180 rfl cd_X2_step rfl rfl fp_X2_mixRipe_X2_step K (fun h72 eh72 wh72 K => ?_) (fun x h1 _ _ e => Tw.out rfl e)
    refine r_aload_n (pc := 183) dX2_mixRipe_183 rfl ?_
    refine r_iconst (pc := 184) (x := 4) dX2_mixRipe_184 rfl ?_
    refine r_iload_n (pc := 185) dX2_mixRipe_185 rfl ?_
    refine r_bipush (pc := 186) (x := 16) dX2_mixRipe_186 rfl ?_
    refine r_idiv (pc := 188) (by decide) dX2_mixRipe_188 ?_
    refine r_isub (pc := 189) dX2_mixRipe_189 ?_
    refine r_aload_n (pc := 190) dX2_mixRipe_190 rfl ?_
    refine r_iconst (pc := 191) (x := 1) dX2_mixRipe_191 rfl ?_
    obtain ⟨hk73, K⟩ := K
    obtain ⟨hi74, K⟩ := K
    refine r_iaload (pc := 192) hk73 hi74 dX2_mixRipe_192 ?_
    refine r_aload_n (pc := 193) dX2_mixRipe_193 rfl ?_
    refine r_iconst (pc := 194) (x := 2) dX2_mixRipe_194 rfl ?_
    obtain ⟨hi75, K⟩ := K
    refine r_iaload (pc := 195) hk73 hi75 dX2_mixRipe_195 ?_
    refine r_aload_n (pc := 196) dX2_mixRipe_196 rfl ?_
    refine r_iconst (pc := 197) (x := 3) dX2_mixRipe_197 rfl ?_
    obtain ⟨hi76, K⟩ := K
    refine r_iaload (pc := 198) hk73 hi76 dX2_mixRipe_198 ?_
    refine r_callS_I (pc := 199) (Y := mX2_turned) (vs := [_, _, _, _]) (st := [_]) q908 q909 q151 dX2_mixRipe_199 rfl cd_X2_turned rfl rfl fp_X2_mixRipe_X2_turned K (fun x77 h78 eh78 wh78 K => ?_) (fun x h1 _ _ e => Tw.out rfl e)
    refine r_aload_n (pc := 202) dX2_mixRipe_202 rfl ?_
    have hk79 := kd_ext eh72 hk58 (nz rfl)
    have hk80 := kd_ext eh78 hk79 (nz rfl)
    have hv81 := fr_self (key := 2003) hk58
    have hv82 := (fr_ext (key := 2003) eh72 hk58 (nz rfl) (ne0 wh72 hk79 (nz rfl)) (nm rfl)).trans hv81
    have hv83 := (fr_ext (key := 2003) eh78 hk79 (nz rfl) (ne0 wh78 hk80 (nz rfl)) (nm rfl)).trans hv82
    refine r_getr' (pc := 203) (T := TX2) 2 3 hv83 hk80 (Or.inl q240) dX2_mixRipe_203 kc2 g2003 ?_
    refine r_aload_n (pc := 206) dX2_mixRipe_206 rfl ?_
    have K := K _ rfl
    refine r_getr' (pc := 207) (T := TX2) 2 10 rfl hk80 (Or.inl q247) dX2_mixRipe_207 kc2 g2010 ?_
    refine r_iload_n (pc := 210) dX2_mixRipe_210 rfl ?_
    obtain ⟨hk85, K⟩ := K
    obtain ⟨hi86, K⟩ := K
    refine r_iaload (pc := 211) hk85 hi86 dX2_mixRipe_211 ?_
    have hk87 := kd_ext eh72 hk63 (nz rfl)
    have hk88 := kd_ext eh78 hk87 (nz rfl)
    obtain ⟨hi89, K⟩ := K
    refine r_iaload (pc := 212) hk88 hi89 dX2_mixRipe_212 ?_
    refine r_iadd (pc := 213) dX2_mixRipe_213 ?_
    refine r_aload_n (pc := 214) dX2_mixRipe_214 rfl ?_
    have K := K _ rfl
    refine r_getr' (pc := 215) (T := TX2) 2 14 rfl hk80 (Or.inl q251) dX2_mixRipe_215 kc2 g2014 ?_
    refine r_iload_n (pc := 218) dX2_mixRipe_218 rfl ?_
    refine r_bipush (pc := 219) (x := 16) dX2_mixRipe_219 rfl ?_
    refine r_idiv (pc := 221) (by decide) dX2_mixRipe_221 ?_
    obtain ⟨hk91, K⟩ := K
    obtain ⟨hi92, K⟩ := K
    refine r_iaload (pc := 222) hk91 hi92 dX2_mixRipe_222 ?_
    refine r_iadd (pc := 223) dX2_mixRipe_223 ?_
    refine r_aload_n (pc := 224) dX2_mixRipe_224 rfl ?_
    have K := K _ rfl
    refine r_getr' (pc := 225) (T := TX2) 2 12 rfl hk80 (Or.inl q249) dX2_mixRipe_225 kc2 g2012 ?_
    refine r_iload_n (pc := 228) dX2_mixRipe_228 rfl ?_
    obtain ⟨hk94, K⟩ := K
    obtain ⟨hi95, K⟩ := K
    refine r_iaload (pc := 229) hk94 hi95 dX2_mixRipe_229 ?_
    refine r_callS_V (pc := 230) (Y := mX2_step) (vs := [_, _, _]) (st := []) q911 q912 q151 dX2_mixRipe_230 rfl cd_X2_step rfl rfl fp_X2_mixRipe_X2_step K (fun h97 eh97 wh97 K => ?_) (fun x h1 _ _ e => Tw.out rfl e)
    refine r_iinc (pc := 233) (lv' := [_, _, _, _]) dX2_mixRipe_233 rfl rfl (by decide) rfl ?_
    refine r_goto (pc := 236) (tgt := 129) dX2_mixRipe_236 rfl ?_
    refine r_mask (pc := 129) [true, true, true, true] rfl ?_
    exact K
theorem dX2_blocks_0 : decode cX2_blocks 0 = .ok (.iconst 0, 1) := by decide +kernel
theorem dX2_blocks_1 : decode cX2_blocks 1 = .ok (.istore 5, 2) := by decide +kernel
theorem dX2_blocks_3 : decode cX2_blocks 3 = .ok (.iload 5, 2) := by decide +kernel
theorem dX2_blocks_5 : decode cX2_blocks 5 = .ok (.bipush 64, 2) := by decide +kernel
theorem dX2_blocks_7 : decode cX2_blocks 7 = .ok (.iadd, 1) := by decide +kernel
theorem dX2_blocks_8 : decode cX2_blocks 8 = .ok (.iload_n 3, 1) := by decide +kernel
theorem dX2_blocks_9 : decode cX2_blocks 9 = .ok (.if_icmp .gt 40, 3) := by decide +kernel
theorem dX2_blocks_12 : decode cX2_blocks 12 = .ok (.aload_n 1, 1) := by decide +kernel
theorem dX2_blocks_13 : decode cX2_blocks 13 = .ok (.iload_n 2, 1) := by decide +kernel
theorem dX2_blocks_14 : decode cX2_blocks 14 = .ok (.iload 5, 2) := by decide +kernel
theorem dX2_blocks_16 : decode cX2_blocks 16 = .ok (.iadd, 1) := by decide +kernel
theorem dX2_blocks_17 : decode cX2_blocks 17 = .ok (.aload_n 0, 1) := by decide +kernel
theorem dX2_blocks_18 : decode cX2_blocks 18 = .ok (.getfield 31, 3) := by decide +kernel
theorem dX2_blocks_21 : decode cX2_blocks 21 = .ok (.iconst 0, 1) := by decide +kernel
theorem dX2_blocks_22 : decode cX2_blocks 22 = .ok (.bipush 64, 2) := by decide +kernel
theorem dX2_blocks_24 : decode cX2_blocks 24 = .ok (.invokestatic 100, 3) := by decide +kernel
theorem dX2_blocks_27 : decode cX2_blocks 27 = .ok (.iinc 5 64, 3) := by decide +kernel
theorem dX2_blocks_30 : decode cX2_blocks 30 = .ok (.iload 4, 2) := by decide +kernel
theorem dX2_blocks_32 : decode cX2_blocks 32 = .ok (.ifCond .eq 10, 3) := by decide +kernel
theorem dX2_blocks_35 : decode cX2_blocks 35 = .ok (.aload_n 0, 1) := by decide +kernel
theorem dX2_blocks_36 : decode cX2_blocks 36 = .ok (.invokevirtual 106, 3) := by decide +kernel
theorem dX2_blocks_39 : decode cX2_blocks 39 = .ok (.goto (-36), 3) := by decide +kernel
theorem dX2_blocks_42 : decode cX2_blocks 42 = .ok (.aload_n 0, 1) := by decide +kernel
theorem dX2_blocks_43 : decode cX2_blocks 43 = .ok (.invokevirtual 109, 3) := by decide +kernel
theorem dX2_blocks_46 : decode cX2_blocks 46 = .ok (.goto (-43), 3) := by decide +kernel
theorem dX2_blocks_49 : decode cX2_blocks 49 = .ok (.iload_n 3, 1) := by decide +kernel
theorem dX2_blocks_50 : decode cX2_blocks 50 = .ok (.iload 5, 2) := by decide +kernel
theorem dX2_blocks_52 : decode cX2_blocks 52 = .ok (.isub, 1) := by decide +kernel
theorem dX2_blocks_53 : decode cX2_blocks 53 = .ok (.istore 6, 2) := by decide +kernel
theorem dX2_blocks_55 : decode cX2_blocks 55 = .ok (.aload_n 1, 1) := by decide +kernel
theorem dX2_blocks_56 : decode cX2_blocks 56 = .ok (.iload_n 2, 1) := by decide +kernel
theorem dX2_blocks_57 : decode cX2_blocks 57 = .ok (.iload 5, 2) := by decide +kernel
theorem dX2_blocks_59 : decode cX2_blocks 59 = .ok (.iadd, 1) := by decide +kernel
theorem dX2_blocks_60 : decode cX2_blocks 60 = .ok (.aload_n 0, 1) := by decide +kernel
theorem dX2_blocks_61 : decode cX2_blocks 61 = .ok (.getfield 31, 3) := by decide +kernel
theorem dX2_blocks_64 : decode cX2_blocks 64 = .ok (.iconst 0, 1) := by decide +kernel
theorem dX2_blocks_65 : decode cX2_blocks 65 = .ok (.iload 6, 2) := by decide +kernel
theorem dX2_blocks_67 : decode cX2_blocks 67 = .ok (.invokestatic 100, 3) := by decide +kernel
theorem dX2_blocks_70 : decode cX2_blocks 70 = .ok (.aload_n 0, 1) := by decide +kernel
theorem dX2_blocks_71 : decode cX2_blocks 71 = .ok (.getfield 31, 3) := by decide +kernel
theorem dX2_blocks_74 : decode cX2_blocks 74 = .ok (.iload 6, 2) := by decide +kernel
theorem dX2_blocks_76 : decode cX2_blocks 76 = .ok (.bipush (-128), 2) := by decide +kernel
theorem dX2_blocks_78 : decode cX2_blocks 78 = .ok (.bastore, 1) := by decide +kernel
theorem dX2_blocks_79 : decode cX2_blocks 79 = .ok (.iload 6, 2) := by decide +kernel
theorem dX2_blocks_81 : decode cX2_blocks 81 = .ok (.iconst 1, 1) := by decide +kernel
theorem dX2_blocks_82 : decode cX2_blocks 82 = .ok (.iadd, 1) := by decide +kernel
theorem dX2_blocks_83 : decode cX2_blocks 83 = .ok (.istore 7, 2) := by decide +kernel
theorem dX2_blocks_85 : decode cX2_blocks 85 = .ok (.iload 7, 2) := by decide +kernel
theorem dX2_blocks_87 : decode cX2_blocks 87 = .ok (.bipush 64, 2) := by decide +kernel
theorem dX2_blocks_89 : decode cX2_blocks 89 = .ok (.if_icmp .ge 17, 3) := by decide +kernel
theorem dX2_blocks_92 : decode cX2_blocks 92 = .ok (.aload_n 0, 1) := by decide +kernel
theorem dX2_blocks_93 : decode cX2_blocks 93 = .ok (.getfield 31, 3) := by decide +kernel
theorem dX2_blocks_96 : decode cX2_blocks 96 = .ok (.iload 7, 2) := by decide +kernel
theorem dX2_blocks_98 : decode cX2_blocks 98 = .ok (.iconst 0, 1) := by decide +kernel
theorem dX2_blocks_99 : decode cX2_blocks 99 = .ok (.bastore, 1) := by decide +kernel
theorem dX2_blocks_100 : decode cX2_blocks 100 = .ok (.iinc 7 1, 3) := by decide +kernel
theorem dX2_blocks_103 : decode cX2_blocks 103 = .ok (.goto (-18), 3) := by decide +kernel
theorem dX2_blocks_106 : decode cX2_blocks 106 = .ok (.iload 6, 2) := by decide +kernel
theorem dX2_blocks_108 : decode cX2_blocks 108 = .ok (.bipush 55, 2) := by decide +kernel
theorem dX2_blocks_110 : decode cX2_blocks 110 = .ok (.if_icmp .le 43, 3) := by decide +kernel
theorem dX2_blocks_113 : decode cX2_blocks 113 = .ok (.iload 4, 2) := by decide +kernel
theorem dX2_blocks_115 : decode cX2_blocks 115 = .ok (.ifCond .eq 10, 3) := by decide +kernel
theorem dX2_blocks_118 : decode cX2_blocks 118 = .ok (.aload_n 0, 1) := by decide +kernel
theorem dX2_blocks_119 : decode cX2_blocks 119 = .ok (.invokevirtual 106, 3) := by decide +kernel
theorem dX2_blocks_122 : decode cX2_blocks 122 = .ok (.goto 7, 3) := by decide +kernel
theorem dX2_blocks_125 : decode cX2_blocks 125 = .ok (.aload_n 0, 1) := by decide +kernel
theorem dX2_blocks_126 : decode cX2_blocks 126 = .ok (.invokevirtual 109, 3) := by decide +kernel
theorem dX2_blocks_129 : decode cX2_blocks 129 = .ok (.iconst 0, 1) := by decide +kernel
theorem dX2_blocks_130 : decode cX2_blocks 130 = .ok (.istore 7, 2) := by decide +kernel
theorem dX2_blocks_132 : decode cX2_blocks 132 = .ok (.iload 7, 2) := by decide +kernel
theorem dX2_blocks_134 : decode cX2_blocks 134 = .ok (.bipush 64, 2) := by decide +kernel
theorem dX2_blocks_136 : decode cX2_blocks 136 = .ok (.if_icmp .ge 17, 3) := by decide +kernel
theorem dX2_blocks_139 : decode cX2_blocks 139 = .ok (.aload_n 0, 1) := by decide +kernel
theorem dX2_blocks_140 : decode cX2_blocks 140 = .ok (.getfield 31, 3) := by decide +kernel
theorem dX2_blocks_143 : decode cX2_blocks 143 = .ok (.iload 7, 2) := by decide +kernel
theorem dX2_blocks_145 : decode cX2_blocks 145 = .ok (.iconst 0, 1) := by decide +kernel
theorem dX2_blocks_146 : decode cX2_blocks 146 = .ok (.bastore, 1) := by decide +kernel
theorem dX2_blocks_147 : decode cX2_blocks 147 = .ok (.iinc 7 1, 3) := by decide +kernel
theorem dX2_blocks_150 : decode cX2_blocks 150 = .ok (.goto (-18), 3) := by decide +kernel
theorem dX2_blocks_153 : decode cX2_blocks 153 = .ok (.iconst 0, 1) := by decide +kernel
theorem dX2_blocks_154 : decode cX2_blocks 154 = .ok (.istore 7, 2) := by decide +kernel
theorem dX2_blocks_156 : decode cX2_blocks 156 = .ok (.iload 7, 2) := by decide +kernel
theorem dX2_blocks_158 : decode cX2_blocks 158 = .ok (.iconst 4, 1) := by decide +kernel
theorem dX2_blocks_159 : decode cX2_blocks 159 = .ok (.if_icmp .ge 43, 3) := by decide +kernel
theorem dX2_blocks_162 : decode cX2_blocks 162 = .ok (.aload_n 0, 1) := by decide +kernel
theorem dX2_blocks_163 : decode cX2_blocks 163 = .ok (.getfield 31, 3) := by decide +kernel
theorem dX2_blocks_166 : decode cX2_blocks 166 = .ok (.iload 4, 2) := by decide +kernel
theorem dX2_blocks_168 : decode cX2_blocks 168 = .ok (.ifCond .eq 11, 3) := by decide +kernel
theorem dX2_blocks_171 : decode cX2_blocks 171 = .ok (.bipush 56, 2) := by decide +kernel
theorem dX2_blocks_173 : decode cX2_blocks 173 = .ok (.iload 7, 2) := by decide +kernel
theorem dX2_blocks_175 : decode cX2_blocks 175 = .ok (.iadd, 1) := by decide +kernel
theorem dX2_blocks_176 : decode cX2_blocks 176 = .ok (.goto 8, 3) := by decide +kernel
theorem dX2_blocks_179 : decode cX2_blocks 179 = .ok (.bipush 63, 2) := by decide +kernel
theorem dX2_blocks_181 : decode cX2_blocks 181 = .ok (.iload 7, 2) := by decide +kernel
theorem dX2_blocks_183 : decode cX2_blocks 183 = .ok (.isub, 1) := by decide +kernel
theorem dX2_blocks_184 : decode cX2_blocks 184 = .ok (.bipush 8, 2) := by decide +kernel
theorem dX2_blocks_186 : decode cX2_blocks 186 = .ok (.iload_n 3, 1) := by decide +kernel
theorem dX2_blocks_187 : decode cX2_blocks 187 = .ok (.imul, 1) := by decide +kernel
theorem dX2_blocks_188 : decode cX2_blocks 188 = .ok (.bipush 8, 2) := by decide +kernel
theorem dX2_blocks_190 : decode cX2_blocks 190 = .ok (.iload 7, 2) := by decide +kernel
theorem dX2_blocks_192 : decode cX2_blocks 192 = .ok (.imul, 1) := by decide +kernel
theorem dX2_blocks_193 : decode cX2_blocks 193 = .ok (.ishr, 1) := by decide +kernel
theorem dX2_blocks_194 : decode cX2_blocks 194 = .ok (.i2b, 1) := by decide +kernel
theorem dX2_blocks_195 : decode cX2_blocks 195 = .ok (.bastore, 1) := by decide +kernel
theorem dX2_blocks_196 : decode cX2_blocks 196 = .ok (.iinc 7 1, 3) := by decide +kernel
theorem dX2_blocks_199 : decode cX2_blocks 199 = .ok (.goto (-43), 3) := by decide +kernel
theorem dX2_blocks_202 : decode cX2_blocks 202 = .ok (.iload 4, 2) := by decide +kernel
theorem dX2_blocks_204 : decode cX2_blocks 204 = .ok (.ifCond .eq 10, 3) := by decide +kernel
theorem dX2_blocks_207 : decode cX2_blocks 207 = .ok (.aload_n 0, 1) := by decide +kernel
theorem dX2_blocks_208 : decode cX2_blocks 208 = .ok (.invokevirtual 106, 3) := by decide +kernel
theorem dX2_blocks_211 : decode cX2_blocks 211 = .ok (.goto 7, 3) := by decide +kernel
theorem dX2_blocks_214 : decode cX2_blocks 214 = .ok (.aload_n 0, 1) := by decide +kernel
theorem dX2_blocks_215 : decode cX2_blocks 215 = .ok (.invokevirtual 109, 3) := by decide +kernel
theorem dX2_blocks_218 : decode cX2_blocks 218 = .ok (.return_, 1) := by decide +kernel
/-! CoinJudge$Digests.blocks([BIIZ)V -/
set_option maxHeartbeats 4000000 in
theorem sX2_blocks_0 {G : Gx} {d t : Nat} {h0 : AH} {Φ : Out → AH → Prop} (h : AH) (v0 : Nat) (v1 : Nat) (v2 : Int32) (v3 : Int32) (v4 : Int32) (K : Aw G mX2_blocks (d + 1) t h0 Φ 3 [vR v0, vR v1, vI v2, vI v3, vI v4, vI 0, vU, vU] [] h) : Aw G mX2_blocks (d + 1) t h0 Φ 0 [vR v0, vR v1, vI v2, vI v3, vI v4, vU, vU, vU] [] h := by
  refine r_iconst (pc := 0) (x := 0) dX2_blocks_0 rfl ?_
  refine r_istore (pc := 1) (lv' := [_, _, _, _, _, _, _, _]) dX2_blocks_1 (by decide) rfl ?_
  refine r_mask (pc := 3) [true, true, true, true, true, true, false, false] rfl ?_
  exact K
theorem eX2_blocks {G : Gx} {d : Nat} {Φ : Out → AH → Prop} (h : AH) (v0 : Nat) (v1 : Nat) (v2 : Int32) (v3 : Int32) (v4 : Int32) (K : WF G h → Aw G mX2_blocks (d + 1) 0 h Φ 0 [vR v0, vR v1, vI v2, vI v3, vI v4, vU, vU, vU] [] h) : Cw G mX2_blocks (d + 1) 0 [vR v0, vR v1, vI v2, vI v3, vI v4] h Φ := Cw.of rfl K
set_option maxHeartbeats 4000000 in
theorem sX2_blocks_3 {G : Gx} {d t : Nat} {h0 : AH} {Φ : Out → AH → Prop} (h : AH) (v0 : Nat) (v1 : Nat) (v2 : Int32) (v3 : Int32) (v4 : Int32) (v5 : Int32) (K : ((v3 < (v5 + 64) → h.kd v0 = 2 ∧ ∀ r3 : Nat, r3 = (h.r 2007 v0) → h.kd v1 = 101 ∧ h.kd r3 = 101 ∧ cpOk (v2 + v5) 0 (v3 - v5) (h.ai v1).length (h.ai r3).length ∧ ∀ h7 : AH, h7 = h.wi r3 (lcp (h.ai v1) (h.ai r3) (v2 + v5) 0 (v3 - v5)) → vp_in (v3 - v5) (h7.ai r3).length ∧ ∀ h13 : AH, h13 = h7.wi r3 ((h7.ai r3).set ((v3 - v5).toNatClampNeg) (i2b (-128))) → Aw G mX2_blocks (d + 1) t h0 Φ 85 [vR v0, vU, vU, vI v3, vI v4, vU, vI (v3 - v5), vI ((v3 - v5) + 1)] [] h13) ∧ (¬ v3 < (v5 + 64) → h.kd v0 = 2 ∧ ∀ r15 : Nat, r15 = (h.r 2007 v0) → h.kd v1 = 101 ∧ h.kd r15 = 101 ∧ cpOk (v2 + v5) 0 64 (h.ai v1).length (h.ai r15).length ∧ ∀ h19 : AH, h19 = h.wi r15 (lcp (h.ai v1) (h.ai r15) (v2 + v5) 0 64) → ((v4 = 0 → Cw G mX2_mix d 0 [vR v0] h19 (kV (fun h22 => Aw G mX2_blocks (d + 1) t h0 Φ 3 [vR v0, vR v1, vI v2, vI v3, vI v4, vI (v5 + 64), vU, vU] [] h22) (fun x h => Φ (.inr x) h))) ∧ (¬ v4 = 0 → Cw G mX2_mixRipe d 0 [vR v0] h19 (kV (fun h25 => Aw G mX2_blocks (d + 1) t h0 Φ 3 [vR v0, vR v1, vI v2, vI v3, vI v4, vI (v5 + 64), vU, vU] [] h25) (fun x h => Φ (.inr x) h))))))) : Aw G mX2_blocks (d + 1) t h0 Φ 3 [vR v0, vR v1, vI v2, vI v3, vI v4, vI v5, vU, vU] [] h := by
  refine r_iload (pc := 3) dX2_blocks_3 rfl ?_
  refine r_bipush (pc := 5) (x := 64) dX2_blocks_5 rfl ?_
  refine r_iadd (pc := 7) dX2_blocks_7 ?_
  refine r_iload_n (pc := 8) dX2_blocks_8 rfl ?_
  refine r_icmp_gt (pc := 9) (tgt := 49) dX2_blocks_9 rfl (fun c1 => ?_) (fun c1 => ?_)
  · have K := K.1 c1
    refine r_iload_n (pc := 49) dX2_blocks_49 rfl ?_
    refine r_iload (pc := 50) dX2_blocks_50 rfl ?_
    refine r_isub (pc := 52) dX2_blocks_52 ?_
    refine r_istore (pc := 53) (lv' := [_, _, _, _, _, _, _, _]) dX2_blocks_53 (by decide) rfl ?_
    refine r_aload_n (pc := 55) dX2_blocks_55 rfl ?_
    refine r_iload_n (pc := 56) dX2_blocks_56 rfl ?_
    refine r_iload (pc := 57) dX2_blocks_57 rfl ?_
    refine r_iadd (pc := 59) dX2_blocks_59 ?_
    refine r_aload_n (pc := 60) dX2_blocks_60 rfl ?_
    obtain ⟨hk2, K⟩ := K
    have K := K _ rfl
    refine r_getr' (pc := 61) (T := TX2) 2 7 rfl hk2 (Or.inl q244) dX2_blocks_61 kc2 g2007 ?_
    refine r_iconst (pc := 64) (x := 0) dX2_blocks_64 rfl ?_
    refine r_iload (pc := 65) dX2_blocks_65 rfl ?_
    obtain ⟨hk4, K⟩ := K
    obtain ⟨hk5, K⟩ := K
    obtain ⟨hi6, K⟩ := K
    refine r_acopy (pc := 67) 101 hk4 hk5 hi6 (Or.inl (em rfl)) q901 q903 q902 q174 rfl dX2_blocks_67 rfl ?_
    refine r_nameH (fun h7 eh7 => ?_)
    have K := K h7 eh7
    refine r_aload_n (pc := 70) dX2_blocks_70 rfl ?_
    have hk8 := kd_wi eh7 hk2
    have hv9 := fr_self (key := 2007) hk2
    have hv10 := fr_wi (key := 2007) eh7 hv9
    refine r_getr' (pc := 71) (T := TX2) 2 7 hv10 hk8 (Or.inl q244) dX2_blocks_71 kc2 g2007 ?_
    refine r_iload (pc := 74) dX2_blocks_74 rfl ?_
    refine r_bipush (pc := 76) (x := (-128)) dX2_blocks_76 rfl ?_
    have hk11 := kd_wi eh7 hk5
    obtain ⟨hi12, K⟩ := K
    refine r_jbast (pc := 78) hk11 hi12 (Or.inl (em rfl)) dX2_blocks_78 ?_
    refine r_nameH (fun h13 eh13 => ?_)
    have K := K h13 eh13
    refine r_iload (pc := 79) dX2_blocks_79 rfl ?_
    refine r_iconst (pc := 81) (x := 1) dX2_blocks_81 rfl ?_
    refine r_iadd (pc := 82) dX2_blocks_82 ?_
    refine r_istore (pc := 83) (lv' := [_, _, _, _, _, _, _, _]) dX2_blocks_83 (by decide) rfl ?_
    refine r_mask (pc := 85) [true, false, false, true, true, false, true, true] rfl ?_
    exact K
  · have K := K.2 c1
    refine r_aload_n (pc := 12) dX2_blocks_12 rfl ?_
    refine r_iload_n (pc := 13) dX2_blocks_13 rfl ?_
    refine r_iload (pc := 14) dX2_blocks_14 rfl ?_
    refine r_iadd (pc := 16) dX2_blocks_16 ?_
    refine r_aload_n (pc := 17) dX2_blocks_17 rfl ?_
    obtain ⟨hk14, K⟩ := K
    have K := K _ rfl
    refine r_getr' (pc := 18) (T := TX2) 2 7 rfl hk14 (Or.inl q244) dX2_blocks_18 kc2 g2007 ?_
    refine r_iconst (pc := 21) (x := 0) dX2_blocks_21 rfl ?_
    refine r_bipush (pc := 22) (x := 64) dX2_blocks_22 rfl ?_
    obtain ⟨hk16, K⟩ := K
    obtain ⟨hk17, K⟩ := K
    obtain ⟨hi18, K⟩ := K
    refine r_acopy (pc := 24) 101 hk16 hk17 hi18 (Or.inl (em rfl)) q901 q903 q902 q174 rfl dX2_blocks_24 rfl ?_
    refine r_nameH (fun h19 eh19 => ?_)
    have K := K h19 eh19
    refine r_iinc (pc := 27) (lv' := [_, _, _, _, _, _, _, _]) dX2_blocks_27 rfl rfl (by decide) rfl ?_
    refine r_iload (pc := 30) dX2_blocks_30 rfl ?_
    refine r_if_eq (pc := 32) (tgt := 42) dX2_blocks_32 rfl (fun c20 => ?_) (fun c20 => ?_)
    · have K := K.1 c20
      refine r_aload_n (pc := 42) dX2_blocks_42 rfl ?_
      have hk23 := kd_wi eh19 hk14
      refine r_callV_V (pc := 43) (Y := mX2_mix) (vs := []) (st := []) hk23 rfl kc2 q917 q919 qs5 dX2_blocks_43 rfl cd_X2_mix rfl rfl fp_X2_blocks_X2_mix K (fun h22 eh22 wh22 K => ?_) (fun x h1 _ _ e => Tw.out rfl e)
      refine r_goto (pc := 46) (tgt := 3) dX2_blocks_46 rfl ?_
      refine r_mask (pc := 3) [true, true, true, true, true, true, false, false] rfl ?_
      exact K
    · have K := K.2 c20
      refine r_aload_n (pc := 35) dX2_blocks_35 rfl ?_
      have hk26 := kd_wi eh19 hk14
      refine r_callV_V (pc := 36) (Y := mX2_mixRipe) (vs := []) (st := []) hk26 rfl kc2 q904 q906 qs4 dX2_blocks_36 rfl cd_X2_mixRipe rfl rfl fp_X2_blocks_X2_mixRipe K (fun h25 eh25 wh25 K => ?_) (fun x h1 _ _ e => Tw.out rfl e)
      refine r_goto (pc := 39) (tgt := 3) dX2_blocks_39 rfl ?_
      refine r_mask (pc := 3) [true, true, true, true, true, true, false, false] rfl ?_
      exact K
set_option maxHeartbeats 4000000 in
theorem sX2_blocks_85 {G : Gx} {d t : Nat} {h0 : AH} {Φ : Out → AH → Prop} (h : AH) (v0 : Nat) (v3 : Int32) (v4 : Int32) (v6 : Int32) (v7 : Int32) (K : ((64 ≤ v7 → ((v6 ≤ 55 → Aw G mX2_blocks (d + 1) t h0 Φ 156 [vR v0, vU, vU, vI v3, vI v4, vU, vU, vI 0] [] h) ∧ (¬ v6 ≤ 55 → ((v4 = 0 → h.kd v0 = 2 ∧ Cw G mX2_mix d 0 [vR v0] h (kV (fun h5 => Aw G mX2_blocks (d + 1) t h0 Φ 132 [vR v0, vU, vU, vI v3, vI v4, vU, vU, vI 0] [] h5) (fun x h => Φ (.inr x) h))) ∧ (¬ v4 = 0 → h.kd v0 = 2 ∧ Cw G mX2_mixRipe d 0 [vR v0] h (kV (fun h8 => Aw G mX2_blocks (d + 1) t h0 Φ 132 [vR v0, vU, vU, vI v3, vI v4, vU, vU, vI 0] [] h8) (fun x h => Φ (.inr x) h))))))) ∧ (¬ 64 ≤ v7 → h.kd v0 = 2 ∧ ∀ r11 : Nat, r11 = (h.r 2007 v0) → h.kd r11 = 101 ∧ vp_in v7 (h.ai r11).length ∧ ∀ h14 : AH, h14 = h.wi r11 ((h.ai r11).set (v7.toNatClampNeg) (i2b 0)) → Aw G mX2_blocks (d + 1) t h0 Φ 85 [vR v0, vU, vU, vI v3, vI v4, vU, vI v6, vI (v7 + 1)] [] h14))) : Aw G mX2_blocks (d + 1) t h0 Φ 85 [vR v0, vU, vU, vI v3, vI v4, vU, vI v6, vI v7] [] h := by
  refine r_iload (pc := 85) dX2_blocks_85 rfl ?_
  refine r_bipush (pc := 87) (x := 64) dX2_blocks_87 rfl ?_
  refine r_icmp_ge (pc := 89) (tgt := 106) dX2_blocks_89 rfl (fun c1 => ?_) (fun c1 => ?_)
  · have K := K.1 c1
    refine r_iload (pc := 106) dX2_blocks_106 rfl ?_
    refine r_bipush (pc := 108) (x := 55) dX2_blocks_108 rfl ?_
    refine r_icmp_le (pc := 110) (tgt := 153) dX2_blocks_110 rfl (fun c2 => ?_) (fun c2 => ?_)
    · have K := K.1 c2
      refine r_iconst (pc := 153) (x := 0) dX2_blocks_153 rfl ?_
      refine r_istore (pc := 154) (lv' := [_, _, _, _, _, _, _, _]) dX2_blocks_154 (by decide) rfl ?_
      refine r_mask (pc := 156) [true, false, false, true, true, false, false, true] rfl ?_
      exact K
    · have K := K.2 c2
      refine r_iload (pc := 113) dX2_blocks_113 rfl ?_
      refine r_if_eq (pc := 115) (tgt := 125) dX2_blocks_115 rfl (fun c3 => ?_) (fun c3 => ?_)
      · have K := K.1 c3
        refine r_aload_n (pc := 125) dX2_blocks_125 rfl ?_
        obtain ⟨hk6, K⟩ := K
        refine r_callV_V (pc := 126) (Y := mX2_mix) (vs := []) (st := []) hk6 rfl kc2 q917 q919 qs5 dX2_blocks_126 rfl cd_X2_mix rfl rfl fp_X2_blocks_X2_mix K (fun h5 eh5 wh5 K => ?_) (fun x h1 _ _ e => Tw.out rfl e)
        refine r_iconst (pc := 129) (x := 0) dX2_blocks_129 rfl ?_
        refine r_istore (pc := 130) (lv' := [_, _, _, _, _, _, _, _]) dX2_blocks_130 (by decide) rfl ?_
        refine r_mask (pc := 132) [true, false, false, true, true, false, false, true] rfl ?_
        exact K
      · have K := K.2 c3
        refine r_aload_n (pc := 118) dX2_blocks_118 rfl ?_
        obtain ⟨hk9, K⟩ := K
        refine r_callV_V (pc := 119) (Y := mX2_mixRipe) (vs := []) (st := []) hk9 rfl kc2 q904 q906 qs4 dX2_blocks_119 rfl cd_X2_mixRipe rfl rfl fp_X2_blocks_X2_mixRipe K (fun h8 eh8 wh8 K => ?_) (fun x h1 _ _ e => Tw.out rfl e)
        refine r_goto (pc := 122) (tgt := 129) dX2_blocks_122 rfl ?_
        refine r_iconst (pc := 129) (x := 0) dX2_blocks_129 rfl ?_
        refine r_istore (pc := 130) (lv' := [_, _, _, _, _, _, _, _]) dX2_blocks_130 (by decide) rfl ?_
        refine r_mask (pc := 132) [true, false, false, true, true, false, false, true] rfl ?_
        exact K
  · have K := K.2 c1
    refine r_aload_n (pc := 92) dX2_blocks_92 rfl ?_
    obtain ⟨hk10, K⟩ := K
    have K := K _ rfl
    refine r_getr' (pc := 93) (T := TX2) 2 7 rfl hk10 (Or.inl q244) dX2_blocks_93 kc2 g2007 ?_
    refine r_iload (pc := 96) dX2_blocks_96 rfl ?_
    refine r_iconst (pc := 98) (x := 0) dX2_blocks_98 rfl ?_
    obtain ⟨hk12, K⟩ := K
    obtain ⟨hi13, K⟩ := K
    refine r_jbast (pc := 99) hk12 hi13 (Or.inl (em rfl)) dX2_blocks_99 ?_
    refine r_nameH (fun h14 eh14 => ?_)
    have K := K h14 eh14
    refine r_iinc (pc := 100) (lv' := [_, _, _, _, _, _, _, _]) dX2_blocks_100 rfl rfl (by decide) rfl ?_
    refine r_goto (pc := 103) (tgt := 85) dX2_blocks_103 rfl ?_
    refine r_mask (pc := 85) [true, false, false, true, true, false, true, true] rfl ?_
    exact K
set_option maxHeartbeats 4000000 in
theorem sX2_blocks_132 {G : Gx} {d t : Nat} {h0 : AH} {Φ : Out → AH → Prop} (h : AH) (v0 : Nat) (v3 : Int32) (v4 : Int32) (v7 : Int32) (K : ((64 ≤ v7 → Aw G mX2_blocks (d + 1) t h0 Φ 156 [vR v0, vU, vU, vI v3, vI v4, vU, vU, vI 0] [] h) ∧ (¬ 64 ≤ v7 → h.kd v0 = 2 ∧ ∀ r3 : Nat, r3 = (h.r 2007 v0) → h.kd r3 = 101 ∧ vp_in v7 (h.ai r3).length ∧ ∀ h6 : AH, h6 = h.wi r3 ((h.ai r3).set (v7.toNatClampNeg) (i2b 0)) → Aw G mX2_blocks (d + 1) t h0 Φ 132 [vR v0, vU, vU, vI v3, vI v4, vU, vU, vI (v7 + 1)] [] h6))) : Aw G mX2_blocks (d + 1) t h0 Φ 132 [vR v0, vU, vU, vI v3, vI v4, vU, vU, vI v7] [] h := by
  refine r_iload (pc := 132) dX2_blocks_132 rfl ?_
  refine r_bipush (pc := 134) (x := 64) dX2_blocks_134 rfl ?_
  refine r_icmp_ge (pc := 136) (tgt := 153) dX2_blocks_136 rfl (fun c1 => ?_) (fun c1 => ?_)
  · have K := K.1 c1
    refine r_iconst (pc := 153) (x := 0) dX2_blocks_153 rfl ?_
    refine r_istore (pc := 154) (lv' := [_, _, _, _, _, _, _, _]) dX2_blocks_154 (by decide) rfl ?_
    refine r_mask (pc := 156) [true, false, false, true, true, false, false, true] rfl ?_
    exact K
  · have K := K.2 c1
    refine r_aload_n (pc := 139) dX2_blocks_139 rfl ?_
    obtain ⟨hk2, K⟩ := K
    have K := K _ rfl
    refine r_getr' (pc := 140) (T := TX2) 2 7 rfl hk2 (Or.inl q244) dX2_blocks_140 kc2 g2007 ?_
    refine r_iload (pc := 143) dX2_blocks_143 rfl ?_
    refine r_iconst (pc := 145) (x := 0) dX2_blocks_145 rfl ?_
    obtain ⟨hk4, K⟩ := K
    obtain ⟨hi5, K⟩ := K
    refine r_jbast (pc := 146) hk4 hi5 (Or.inl (em rfl)) dX2_blocks_146 ?_
    refine r_nameH (fun h6 eh6 => ?_)
    have K := K h6 eh6
    refine r_iinc (pc := 147) (lv' := [_, _, _, _, _, _, _, _]) dX2_blocks_147 rfl rfl (by decide) rfl ?_
    refine r_goto (pc := 150) (tgt := 132) dX2_blocks_150 rfl ?_
    refine r_mask (pc := 132) [true, false, false, true, true, false, false, true] rfl ?_
    exact K
set_option maxHeartbeats 4000000 in
theorem sX2_blocks_156 {G : Gx} {d t : Nat} {h0 : AH} {Φ : Out → AH → Prop} (h : AH) (v0 : Nat) (v3 : Int32) (v4 : Int32) (v7 : Int32) (K : ((4 ≤ v7 → ((v4 = 0 → h.kd v0 = 2 ∧ Cw G mX2_mix d 0 [vR v0] h (kV (fun h4 => Φ (.inl none) h4) (fun x h => Φ (.inr x) h))) ∧ (¬ v4 = 0 → h.kd v0 = 2 ∧ Cw G mX2_mixRipe d 0 [vR v0] h (kV (fun h7 => Φ (.inl none) h7) (fun x h => Φ (.inr x) h))))) ∧ (¬ 4 ≤ v7 → h.kd v0 = 2 ∧ ∀ r10 : Nat, r10 = (h.r 2007 v0) → ((v4 = 0 → h.kd r10 = 101 ∧ vp_in (63 - v7) (h.ai r10).length ∧ ∀ h14 : AH, h14 = h.wi r10 ((h.ai r10).set ((63 - v7).toNatClampNeg) (i2b (i2b (jshr (8 * v3) (8 * v7))))) → Aw G mX2_blocks (d + 1) t h0 Φ 156 [vR v0, vU, vU, vI v3, vI v4, vU, vU, vI (v7 + 1)] [] h14) ∧ (¬ v4 = 0 → h.kd r10 = 101 ∧ vp_in (56 + v7) (h.ai r10).length ∧ ∀ h17 : AH, h17 = h.wi r10 ((h.ai r10).set ((56 + v7).toNatClampNeg) (i2b (i2b (jshr (8 * v3) (8 * v7))))) → Aw G mX2_blocks (d + 1) t h0 Φ 156 [vR v0, vU, vU, vI v3, vI v4, vU, vU, vI (v7 + 1)] [] h17))))) : Aw G mX2_blocks (d + 1) t h0 Φ 156 [vR v0, vU, vU, vI v3, vI v4, vU, vU, vI v7] [] h := by
  refine r_iload (pc := 156) dX2_blocks_156 rfl ?_
  refine r_iconst (pc := 158) (x := 4) dX2_blocks_158 rfl ?_
  refine r_icmp_ge (pc := 159) (tgt := 202) dX2_blocks_159 rfl (fun c1 => ?_) (fun c1 => ?_)
  · have K := K.1 c1
    refine r_iload (pc := 202) dX2_blocks_202 rfl ?_
    refine r_if_eq (pc := 204) (tgt := 214) dX2_blocks_204 rfl (fun c2 => ?_) (fun c2 => ?_)
    · have K := K.1 c2
      refine r_aload_n (pc := 214) dX2_blocks_214 rfl ?_
      obtain ⟨hk5, K⟩ := K
      refine r_callV_V (pc := 215) (Y := mX2_mix) (vs := []) (st := []) hk5 rfl kc2 q917 q919 qs5 dX2_blocks_215 rfl cd_X2_mix rfl rfl fp_X2_blocks_X2_mix K (fun h4 eh4 wh4 K => ?_) (fun x h1 _ _ e => Tw.out rfl e)
      exact r_vret (pc := 218) rfl dX2_blocks_218 K
    · have K := K.2 c2
      refine r_aload_n (pc := 207) dX2_blocks_207 rfl ?_
      obtain ⟨hk8, K⟩ := K
      refine r_callV_V (pc := 208) (Y := mX2_mixRipe) (vs := []) (st := []) hk8 rfl kc2 q904 q906 qs4 dX2_blocks_208 rfl cd_X2_mixRipe rfl rfl fp_X2_blocks_X2_mixRipe K (fun h7 eh7 wh7 K => ?_) (fun x h1 _ _ e => Tw.out rfl e)
      refine r_goto (pc := 211) (tgt := 218) dX2_blocks_211 rfl ?_
      exact r_vret (pc := 218) rfl dX2_blocks_218 K
  · have K := K.2 c1
    refine r_aload_n (pc := 162) dX2_blocks_162 rfl ?_
    obtain ⟨hk9, K⟩ := K
    have K := K _ rfl
    refine r_getr' (pc := 163) (T := TX2) 2 7 rfl hk9 (Or.inl q244) dX2_blocks_163 kc2 g2007 ?_
    refine r_iload (pc := 166) dX2_blocks_166 rfl ?_
    refine r_if_eq (pc := 168) (tgt := 179) dX2_blocks_168 rfl (fun c11 => ?_) (fun c11 => ?_)
    · have K := K.1 c11
      refine r_bipush (pc := 179) (x := 63) dX2_blocks_179 rfl ?_
      refine r_iload (pc := 181) dX2_blocks_181 rfl ?_
      refine r_isub (pc := 183) dX2_blocks_183 ?_
      refine r_bipush (pc := 184) (x := 8) dX2_blocks_184 rfl ?_
      refine r_iload_n (pc := 186) dX2_blocks_186 rfl ?_
      refine r_imul (pc := 187) dX2_blocks_187 ?_
      refine r_bipush (pc := 188) (x := 8) dX2_blocks_188 rfl ?_
      refine r_iload (pc := 190) dX2_blocks_190 rfl ?_
      refine r_imul (pc := 192) dX2_blocks_192 ?_
      refine r_jshr (pc := 193) dX2_blocks_193 ?_
      refine r_ji2b (pc := 194) dX2_blocks_194 ?_
      obtain ⟨hk12, K⟩ := K
      obtain ⟨hi13, K⟩ := K
      refine r_jbast (pc := 195) hk12 hi13 (Or.inl (em rfl)) dX2_blocks_195 ?_
      refine r_nameH (fun h14 eh14 => ?_)
      have K := K h14 eh14
      refine r_iinc (pc := 196) (lv' := [_, _, _, _, _, _, _, _]) dX2_blocks_196 rfl rfl (by decide) rfl ?_
      refine r_goto (pc := 199) (tgt := 156) dX2_blocks_199 rfl ?_
      refine r_mask (pc := 156) [true, false, false, true, true, false, false, true] rfl ?_
      exact K
    · have K := K.2 c11
      refine r_bipush (pc := 171) (x := 56) dX2_blocks_171 rfl ?_
      refine r_iload (pc := 173) dX2_blocks_173 rfl ?_
      refine r_iadd (pc := 175) dX2_blocks_175 ?_
      refine r_goto (pc := 176) (tgt := 184) dX2_blocks_176 rfl ?_
      refine r_bipush (pc := 184) (x := 8) dX2_blocks_184 rfl ?_
      refine r_iload_n (pc := 186) dX2_blocks_186 rfl ?_
      refine r_imul (pc := 187) dX2_blocks_187 ?_
      refine r_bipush (pc := 188) (x := 8) dX2_blocks_188 rfl ?_
      refine r_iload (pc := 190) dX2_blocks_190 rfl ?_
      refine r_imul (pc := 192) dX2_blocks_192 ?_
      refine r_jshr (pc := 193) dX2_blocks_193 ?_
      refine r_ji2b (pc := 194) dX2_blocks_194 ?_
      obtain ⟨hk15, K⟩ := K
      obtain ⟨hi16, K⟩ := K
      refine r_jbast (pc := 195) hk15 hi16 (Or.inl (em rfl)) dX2_blocks_195 ?_
      refine r_nameH (fun h17 eh17 => ?_)
      have K := K h17 eh17
      refine r_iinc (pc := 196) (lv' := [_, _, _, _, _, _, _, _]) dX2_blocks_196 rfl rfl (by decide) rfl ?_
      refine r_goto (pc := 199) (tgt := 156) dX2_blocks_199 rfl ?_
      refine r_mask (pc := 156) [true, false, false, true, true, false, false, true] rfl ?_
      exact K
theorem dX2_ripe_0 : decode cX2_ripe 0 = .ok (.aload_n 0, 1) := by decide +kernel
theorem dX2_ripe_1 : decode cX2_ripe 1 = .ok (.getfield 22, 3) := by decide +kernel
theorem dX2_ripe_4 : decode cX2_ripe 4 = .ok (.iconst 0, 1) := by decide +kernel
theorem dX2_ripe_5 : decode cX2_ripe 5 = .ok (.ldc 123, 2) := by decide +kernel
theorem dX2_ripe_7 : decode cX2_ripe 7 = .ok (.iastore, 1) := by decide +kernel
theorem dX2_ripe_8 : decode cX2_ripe 8 = .ok (.aload_n 0, 1) := by decide +kernel
theorem dX2_ripe_9 : decode cX2_ripe 9 = .ok (.getfield 22, 3) := by decide +kernel
theorem dX2_ripe_12 : decode cX2_ripe 12 = .ok (.iconst 1, 1) := by decide +kernel
theorem dX2_ripe_13 : decode cX2_ripe 13 = .ok (.ldc 124, 2) := by decide +kernel
theorem dX2_ripe_15 : decode cX2_ripe 15 = .ok (.iastore, 1) := by decide +kernel
theorem dX2_ripe_16 : decode cX2_ripe 16 = .ok (.aload_n 0, 1) := by decide +kernel
theorem dX2_ripe_17 : decode cX2_ripe 17 = .ok (.getfield 22, 3) := by decide +kernel
theorem dX2_ripe_20 : decode cX2_ripe 20 = .ok (.iconst 2, 1) := by decide +kernel
theorem dX2_ripe_21 : decode cX2_ripe 21 = .ok (.ldc 125, 2) := by decide +kernel
theorem dX2_ripe_23 : decode cX2_ripe 23 = .ok (.iastore, 1) := by decide +kernel
theorem dX2_ripe_24 : decode cX2_ripe 24 = .ok (.aload_n 0, 1) := by decide +kernel
theorem dX2_ripe_25 : decode cX2_ripe 25 = .ok (.getfield 22, 3) := by decide +kernel
theorem dX2_ripe_28 : decode cX2_ripe 28 = .ok (.iconst 3, 1) := by decide +kernel
theorem dX2_ripe_29 : decode cX2_ripe 29 = .ok (.ldc 126, 2) := by decide +kernel
theorem dX2_ripe_31 : decode cX2_ripe 31 = .ok (.iastore, 1) := by decide +kernel
theorem dX2_ripe_32 : decode cX2_ripe 32 = .ok (.aload_n 0, 1) := by decide +kernel
theorem dX2_ripe_33 : decode cX2_ripe 33 = .ok (.getfield 22, 3) := by decide +kernel
theorem dX2_ripe_36 : decode cX2_ripe 36 = .ok (.iconst 4, 1) := by decide +kernel
theorem dX2_ripe_37 : decode cX2_ripe 37 = .ok (.ldc 127, 2) := by decide +kernel
theorem dX2_ripe_39 : decode cX2_ripe 39 = .ok (.iastore, 1) := by decide +kernel
theorem dX2_ripe_40 : decode cX2_ripe 40 = .ok (.aload_n 0, 1) := by decide +kernel
theorem dX2_ripe_41 : decode cX2_ripe 41 = .ok (.aload_n 1, 1) := by decide +kernel
theorem dX2_ripe_42 : decode cX2_ripe 42 = .ok (.iload_n 2, 1) := by decide +kernel
theorem dX2_ripe_43 : decode cX2_ripe 43 = .ok (.iload_n 3, 1) := by decide +kernel
theorem dX2_ripe_44 : decode cX2_ripe 44 = .ok (.iconst 1, 1) := by decide +kernel
theorem dX2_ripe_45 : decode cX2_ripe 45 = .ok (.invokevirtual 115, 3) := by decide +kernel
theorem dX2_ripe_48 : decode cX2_ripe 48 = .ok (.iconst 0, 1) := by decide +kernel
theorem dX2_ripe_49 : decode cX2_ripe 49 = .ok (.istore 6, 2) := by decide +kernel
theorem dX2_ripe_51 : decode cX2_ripe 51 = .ok (.iload 6, 2) := by decide +kernel
theorem dX2_ripe_53 : decode cX2_ripe 53 = .ok (.bipush 20, 2) := by decide +kernel
theorem dX2_ripe_55 : decode cX2_ripe 55 = .ok (.if_icmp .ge 35, 3) := by decide +kernel
theorem dX2_ripe_58 : decode cX2_ripe 58 = .ok (.aload 4, 2) := by decide +kernel
theorem dX2_ripe_60 : decode cX2_ripe 60 = .ok (.iload 5, 2) := by decide +kernel
theorem dX2_ripe_62 : decode cX2_ripe 62 = .ok (.iload 6, 2) := by decide +kernel
theorem dX2_ripe_64 : decode cX2_ripe 64 = .ok (.iadd, 1) := by decide +kernel
theorem dX2_ripe_65 : decode cX2_ripe 65 = .ok (.aload_n 0, 1) := by decide +kernel
theorem dX2_ripe_66 : decode cX2_ripe 66 = .ok (.getfield 22, 3) := by decide +kernel
theorem dX2_ripe_69 : decode cX2_ripe 69 = .ok (.iload 6, 2) := by decide +kernel
theorem dX2_ripe_71 : decode cX2_ripe 71 = .ok (.iconst 4, 1) := by decide +kernel
theorem dX2_ripe_72 : decode cX2_ripe 72 = .ok (.idiv, 1) := by decide +kernel
theorem dX2_ripe_73 : decode cX2_ripe 73 = .ok (.iaload, 1) := by decide +kernel
theorem dX2_ripe_74 : decode cX2_ripe 74 = .ok (.bipush 8, 2) := by decide +kernel
theorem dX2_ripe_76 : decode cX2_ripe 76 = .ok (.iload 6, 2) := by decide +kernel
theorem dX2_ripe_78 : decode cX2_ripe 78 = .ok (.iconst 4, 1) := by decide +kernel
theorem dX2_ripe_79 : decode cX2_ripe 79 = .ok (.irem, 1) := by decide +kernel
theorem dX2_ripe_80 : decode cX2_ripe 80 = .ok (.imul, 1) := by decide +kernel
theorem dX2_ripe_81 : decode cX2_ripe 81 = .ok (.ishr, 1) := by decide +kernel
theorem dX2_ripe_82 : decode cX2_ripe 82 = .ok (.i2b, 1) := by decide +kernel
theorem dX2_ripe_83 : decode cX2_ripe 83 = .ok (.bastore, 1) := by decide +kernel
theorem dX2_ripe_84 : decode cX2_ripe 84 = .ok (.iinc 6 1, 3) := by decide +kernel
theorem dX2_ripe_87 : decode cX2_ripe 87 = .ok (.goto (-36), 3) := by decide +kernel
theorem dX2_ripe_90 : decode cX2_ripe 90 = .ok (.return_, 1) := by decide +kernel
/-! CoinJudge$Digests.ripe([BII[BI)V -/
set_option maxHeartbeats 4000000 in
theorem sX2_ripe_0 {G : Gx} {d t : Nat} {h0 : AH} {Φ : Out → AH → Prop} (h : AH) (v0 : Nat) (v1 : Nat) (v2 : Int32) (v3 : Int32) (v4 : Nat) (v5 : Int32) (K : h.kd v0 = 2 ∧ ∀ r2 : Nat, r2 = (h.r 2004 v0) → h.kd r2 = 100 ∧ vp_in 0 (h.ai r2).length ∧ ∀ h5 : AH, h5 = h.wi r2 ((h.ai r2).set ((0 : Int32).toNatClampNeg) 1732584193) → vp_in 1 (h5.ai r2).length ∧ ∀ h11 : AH, h11 = h5.wi r2 ((h5.ai r2).set ((1 : Int32).toNatClampNeg) (-271733879)) → vp_in 2 (h11.ai r2).length ∧ ∀ h16 : AH, h16 = h11.wi r2 ((h11.ai r2).set ((2 : Int32).toNatClampNeg) (-1732584194)) → vp_in 3 (h16.ai r2).length ∧ ∀ h21 : AH, h21 = h16.wi r2 ((h16.ai r2).set ((3 : Int32).toNatClampNeg) 271733878) → vp_in 4 (h21.ai r2).length ∧ ∀ h26 : AH, h26 = h21.wi r2 ((h21.ai r2).set ((4 : Int32).toNatClampNeg) (-1009589776)) → Cw G mX2_blocks d 0 [vR v0, vR v1, vI v2, vI v3, vI 1] h26 (kV (fun h28 => Aw G mX2_ripe (d + 1) t h0 Φ 51 [vR v0, vU, vU, vU, vR v4, vI v5, vI 0] [] h28) (fun x h => Φ (.inr x) h))) : Aw G mX2_ripe (d + 1) t h0 Φ 0 [vR v0, vR v1, vI v2, vI v3, vR v4, vI v5, vU] [] h := by
  refine r_aload_n (pc := 0) dX2_ripe_0 rfl ?_
  obtain ⟨hk1, K⟩ := K
  have K := K _ rfl
  refine r_getr' (pc := 1) (T := TX2) 2 4 rfl hk1 (Or.inl q241) dX2_ripe_1 kc2 g2004 ?_
  refine r_iconst (pc := 4) (x := 0) dX2_ripe_4 rfl ?_
  refine r_ldc (pc := 5) dX2_ripe_5 q1527 ?_
  obtain ⟨hk3, K⟩ := K
  obtain ⟨hi4, K⟩ := K
  refine r_iastore (pc := 7) hk3 hi4 (Or.inl (em rfl)) dX2_ripe_7 ?_
  refine r_nameH (fun h5 eh5 => ?_)
  have K := K h5 eh5
  refine r_aload_n (pc := 8) dX2_ripe_8 rfl ?_
  have hk6 := kd_wi eh5 hk1
  have hv7 := fr_self (key := 2004) hk1
  have hv8 := fr_wi (key := 2004) eh5 hv7
  refine r_getr' (pc := 9) (T := TX2) 2 4 hv8 hk6 (Or.inl q241) dX2_ripe_9 kc2 g2004 ?_
  refine r_iconst (pc := 12) (x := 1) dX2_ripe_12 rfl ?_
  refine r_ldc (pc := 13) dX2_ripe_13 q1528 ?_
  have hk9 := kd_wi eh5 hk3
  obtain ⟨hi10, K⟩ := K
  refine r_iastore (pc := 15) hk9 hi10 (Or.inl (em rfl)) dX2_ripe_15 ?_
  refine r_nameH (fun h11 eh11 => ?_)
  have K := K h11 eh11
  refine r_aload_n (pc := 16) dX2_ripe_16 rfl ?_
  have hk12 := kd_wi eh11 hk6
  have hv13 := fr_wi (key := 2004) eh11 hv8
  refine r_getr' (pc := 17) (T := TX2) 2 4 hv13 hk12 (Or.inl q241) dX2_ripe_17 kc2 g2004 ?_
  refine r_iconst (pc := 20) (x := 2) dX2_ripe_20 rfl ?_
  refine r_ldc (pc := 21) dX2_ripe_21 q1529 ?_
  have hk14 := kd_wi eh11 hk9
  obtain ⟨hi15, K⟩ := K
  refine r_iastore (pc := 23) hk14 hi15 (Or.inl (em rfl)) dX2_ripe_23 ?_
  refine r_nameH (fun h16 eh16 => ?_)
  have K := K h16 eh16
  refine r_aload_n (pc := 24) dX2_ripe_24 rfl ?_
  have hk17 := kd_wi eh16 hk12
  have hv18 := fr_wi (key := 2004) eh16 hv13
  refine r_getr' (pc := 25) (T := TX2) 2 4 hv18 hk17 (Or.inl q241) dX2_ripe_25 kc2 g2004 ?_
  refine r_iconst (pc := 28) (x := 3) dX2_ripe_28 rfl ?_
  refine r_ldc (pc := 29) dX2_ripe_29 q1530 ?_
  have hk19 := kd_wi eh16 hk14
  obtain ⟨hi20, K⟩ := K
  refine r_iastore (pc := 31) hk19 hi20 (Or.inl (em rfl)) dX2_ripe_31 ?_
  refine r_nameH (fun h21 eh21 => ?_)
  have K := K h21 eh21
  refine r_aload_n (pc := 32) dX2_ripe_32 rfl ?_
  have hk22 := kd_wi eh21 hk17
  have hv23 := fr_wi (key := 2004) eh21 hv18
  refine r_getr' (pc := 33) (T := TX2) 2 4 hv23 hk22 (Or.inl q241) dX2_ripe_33 kc2 g2004 ?_
  refine r_iconst (pc := 36) (x := 4) dX2_ripe_36 rfl ?_
  refine r_ldc (pc := 37) dX2_ripe_37 q1531 ?_
  have hk24 := kd_wi eh21 hk19
  obtain ⟨hi25, K⟩ := K
  refine r_iastore (pc := 39) hk24 hi25 (Or.inl (em rfl)) dX2_ripe_39 ?_
  refine r_nameH (fun h26 eh26 => ?_)
  have K := K h26 eh26
  refine r_aload_n (pc := 40) dX2_ripe_40 rfl ?_
  refine r_aload_n (pc := 41) dX2_ripe_41 rfl ?_
  refine r_iload_n (pc := 42) dX2_ripe_42 rfl ?_
  refine r_iload_n (pc := 43) dX2_ripe_43 rfl ?_
  refine r_iconst (pc := 44) (x := 1) dX2_ripe_44 rfl ?_
  have hk29 := kd_wi eh26 hk22
  refine r_callV_V (pc := 45) (Y := mX2_blocks) (vs := [_, _, _, _]) (st := []) hk29 rfl kc2 q897 q899 qs3 dX2_ripe_45 rfl cd_X2_blocks rfl rfl fp_X2_ripe_X2_blocks K (fun h28 eh28 wh28 K => ?_) (fun x h1 _ _ e => Tw.out rfl e)
  refine r_iconst (pc := 48) (x := 0) dX2_ripe_48 rfl ?_
  refine r_istore (pc := 49) (lv' := [_, _, _, _, _, _, _]) dX2_ripe_49 (by decide) rfl ?_
  refine r_mask (pc := 51) [true, false, false, false, true, true, true] rfl ?_
  exact K
theorem eX2_ripe {G : Gx} {d : Nat} {Φ : Out → AH → Prop} (h : AH) (v0 : Nat) (v1 : Nat) (v2 : Int32) (v3 : Int32) (v4 : Nat) (v5 : Int32) (K : WF G h → Aw G mX2_ripe (d + 1) 0 h Φ 0 [vR v0, vR v1, vI v2, vI v3, vR v4, vI v5, vU] [] h) : Cw G mX2_ripe (d + 1) 0 [vR v0, vR v1, vI v2, vI v3, vR v4, vI v5] h Φ := Cw.of rfl K
set_option maxHeartbeats 4000000 in
theorem sX2_ripe_51 {G : Gx} {d t : Nat} {h0 : AH} {Φ : Out → AH → Prop} (h : AH) (v0 : Nat) (v4 : Nat) (v5 : Int32) (v6 : Int32) (K : ((20 ≤ v6 → Φ (.inl none) h) ∧ (¬ 20 ≤ v6 → h.kd v0 = 2 ∧ ∀ r3 : Nat, r3 = (h.r 2004 v0) → h.kd r3 = 100 ∧ vp_in (v6 / 4) (h.ai r3).length ∧ h.kd v4 = 101 ∧ vp_in (v5 + v6) (h.ai v4).length ∧ ∀ h8 : AH, h8 = h.wi v4 ((h.ai v4).set ((v5 + v6).toNatClampNeg) (i2b (i2b (jshr ((h.ai r3).getD ((v6 / 4).toNatClampNeg) 0) (8 * (jrem v6 4)))))) → Aw G mX2_ripe (d + 1) t h0 Φ 51 [vR v0, vU, vU, vU, vR v4, vI v5, vI (v6 + 1)] [] h8))) : Aw G mX2_ripe (d + 1) t h0 Φ 51 [vR v0, vU, vU, vU, vR v4, vI v5, vI v6] [] h := by
  refine r_iload (pc := 51) dX2_ripe_51 rfl ?_
  refine r_bipush (pc := 53) (x := 20) dX2_ripe_53 rfl ?_
  refine r_icmp_ge (pc := 55) (tgt := 90) dX2_ripe_55 rfl (fun c1 => ?_) (fun c1 => ?_)
  · have K := K.1 c1
    exact r_vret (pc := 90) rfl dX2_ripe_90 K
  · have K := K.2 c1
    refine r_aload (pc := 58) dX2_ripe_58 rfl ?_
    refine r_iload (pc := 60) dX2_ripe_60 rfl ?_
    refine r_iload (pc := 62) dX2_ripe_62 rfl ?_
    refine r_iadd (pc := 64) dX2_ripe_64 ?_
    refine r_aload_n (pc := 65) dX2_ripe_65 rfl ?_
    obtain ⟨hk2, K⟩ := K
    have K := K _ rfl
    refine r_getr' (pc := 66) (T := TX2) 2 4 rfl hk2 (Or.inl q241) dX2_ripe_66 kc2 g2004 ?_
    refine r_iload (pc := 69) dX2_ripe_69 rfl ?_
    refine r_iconst (pc := 71) (x := 4) dX2_ripe_71 rfl ?_
    refine r_idiv (pc := 72) (by decide) dX2_ripe_72 ?_
    obtain ⟨hk4, K⟩ := K
    obtain ⟨hi5, K⟩ := K
    refine r_iaload (pc := 73) hk4 hi5 dX2_ripe_73 ?_
    refine r_bipush (pc := 74) (x := 8) dX2_ripe_74 rfl ?_
    refine r_iload (pc := 76) dX2_ripe_76 rfl ?_
    refine r_iconst (pc := 78) (x := 4) dX2_ripe_78 rfl ?_
    refine r_jrem (pc := 79) (by decide) dX2_ripe_79 ?_
    refine r_imul (pc := 80) dX2_ripe_80 ?_
    refine r_jshr (pc := 81) dX2_ripe_81 ?_
    refine r_ji2b (pc := 82) dX2_ripe_82 ?_
    obtain ⟨hk6, K⟩ := K
    obtain ⟨hi7, K⟩ := K
    refine r_jbast (pc := 83) hk6 hi7 (Or.inl (em rfl)) dX2_ripe_83 ?_
    refine r_nameH (fun h8 eh8 => ?_)
    have K := K h8 eh8
    refine r_iinc (pc := 84) (lv' := [_, _, _, _, _, _, _]) dX2_ripe_84 rfl rfl (by decide) rfl ?_
    refine r_goto (pc := 87) (tgt := 51) dX2_ripe_87 rfl ?_
    refine r_mask (pc := 51) [true, false, false, false, true, true, true] rfl ?_
    exact K
theorem dX2_first_0 : decode cX2_first 0 = .ok (.iconst 0, 1) := by decide +kernel
theorem dX2_first_1 : decode cX2_first 1 = .ok (.istore_n 1, 1) := by decide +kernel
theorem dX2_first_2 : decode cX2_first 2 = .ok (.iload_n 1, 1) := by decide +kernel
theorem dX2_first_3 : decode cX2_first 3 = .ok (.bipush 8, 2) := by decide +kernel
theorem dX2_first_5 : decode cX2_first 5 = .ok (.if_icmp .ge 21, 3) := by decide +kernel
theorem dX2_first_8 : decode cX2_first 8 = .ok (.aload_n 0, 1) := by decide +kernel
theorem dX2_first_9 : decode cX2_first 9 = .ok (.getfield 16, 3) := by decide +kernel
theorem dX2_first_12 : decode cX2_first 12 = .ok (.iload_n 1, 1) := by decide +kernel
theorem dX2_first_13 : decode cX2_first 13 = .ok (.aload_n 0, 1) := by decide +kernel
theorem dX2_first_14 : decode cX2_first 14 = .ok (.getfield 13, 3) := by decide +kernel
theorem dX2_first_17 : decode cX2_first 17 = .ok (.iload_n 1, 1) := by decide +kernel
theorem dX2_first_18 : decode cX2_first 18 = .ok (.iaload, 1) := by decide +kernel
theorem dX2_first_19 : decode cX2_first 19 = .ok (.iastore, 1) := by decide +kernel
theorem dX2_first_20 : decode cX2_first 20 = .ok (.iinc 1 1, 3) := by decide +kernel
theorem dX2_first_23 : decode cX2_first 23 = .ok (.goto (-21), 3) := by decide +kernel
theorem dX2_first_26 : decode cX2_first 26 = .ok (.return_, 1) := by decide +kernel
/-! CoinJudge$Digests.first()V -/
set_option maxHeartbeats 4000000 in
theorem sX2_first_0 {G : Gx} {d t : Nat} {h0 : AH} {Φ : Out → AH → Prop} (h : AH) (v0 : Nat) (K : Aw G mX2_first (d + 1) t h0 Φ 2 [vR v0, vI 0] [] h) : Aw G mX2_first (d + 1) t h0 Φ 0 [vR v0, vU] [] h := by
  refine r_iconst (pc := 0) (x := 0) dX2_first_0 rfl ?_
  refine r_istore_n (pc := 1) (lv' := [_, _]) dX2_first_1 (by decide) rfl ?_
  refine r_mask (pc := 2) [true, true] rfl ?_
  exact K
theorem eX2_first {G : Gx} {d : Nat} {Φ : Out → AH → Prop} (h : AH) (v0 : Nat) (K : WF G h → Aw G mX2_first (d + 1) 0 h Φ 0 [vR v0, vU] [] h) : Cw G mX2_first (d + 1) 0 [vR v0] h Φ := Cw.of rfl K
set_option maxHeartbeats 4000000 in
theorem sX2_first_2 {G : Gx} {d t : Nat} {h0 : AH} {Φ : Out → AH → Prop} (h : AH) (v0 : Nat) (v1 : Int32) (K : ((8 ≤ v1 → Φ (.inl none) h) ∧ (¬ 8 ≤ v1 → h.kd v0 = 2 ∧ ∀ r3 : Nat, r3 = (h.r 2002 v0) → ∀ r4 : Nat, r4 = (h.r 2001 v0) → h.kd r4 = 100 ∧ vp_in v1 (h.ai r4).length ∧ h.kd r3 = 100 ∧ vp_in v1 (h.ai r3).length ∧ ∀ h9 : AH, h9 = h.wi r3 ((h.ai r3).set (v1.toNatClampNeg) ((h.ai r4).getD (v1.toNatClampNeg) 0)) → Aw G mX2_first (d + 1) t h0 Φ 2 [vR v0, vI (v1 + 1)] [] h9))) : Aw G mX2_first (d + 1) t h0 Φ 2 [vR v0, vI v1] [] h := by
  refine r_iload_n (pc := 2) dX2_first_2 rfl ?_
  refine r_bipush (pc := 3) (x := 8) dX2_first_3 rfl ?_
  refine r_icmp_ge (pc := 5) (tgt := 26) dX2_first_5 rfl (fun c1 => ?_) (fun c1 => ?_)
  · have K := K.1 c1
    exact r_vret (pc := 26) rfl dX2_first_26 K
  · have K := K.2 c1
    refine r_aload_n (pc := 8) dX2_first_8 rfl ?_
    obtain ⟨hk2, K⟩ := K
    have K := K _ rfl
    refine r_getr' (pc := 9) (T := TX2) 2 2 rfl hk2 (Or.inl q239) dX2_first_9 kc2 g2002 ?_
    refine r_iload_n (pc := 12) dX2_first_12 rfl ?_
    refine r_aload_n (pc := 13) dX2_first_13 rfl ?_
    have K := K _ rfl
    refine r_getr' (pc := 14) (T := TX2) 2 1 rfl hk2 (Or.inl q238) dX2_first_14 kc2 g2001 ?_
    refine r_iload_n (pc := 17) dX2_first_17 rfl ?_
    obtain ⟨hk5, K⟩ := K
    obtain ⟨hi6, K⟩ := K
    refine r_iaload (pc := 18) hk5 hi6 dX2_first_18 ?_
    obtain ⟨hk7, K⟩ := K
    obtain ⟨hi8, K⟩ := K
    refine r_iastore (pc := 19) hk7 hi8 (Or.inl (em rfl)) dX2_first_19 ?_
    refine r_nameH (fun h9 eh9 => ?_)
    have K := K h9 eh9
    refine r_iinc (pc := 20) (lv' := [_, _]) dX2_first_20 rfl rfl (by decide) rfl ?_
    refine r_goto (pc := 23) (tgt := 2) dX2_first_23 rfl ?_
    refine r_mask (pc := 2) [true, true] rfl ?_
    exact K
theorem dX2_sha_0 : decode cX2_sha 0 = .ok (.aload_n 0, 1) := by decide +kernel
theorem dX2_sha_1 : decode cX2_sha 1 = .ok (.invokevirtual 112, 3) := by decide +kernel
theorem dX2_sha_4 : decode cX2_sha 4 = .ok (.aload_n 0, 1) := by decide +kernel
theorem dX2_sha_5 : decode cX2_sha 5 = .ok (.aload_n 1, 1) := by decide +kernel
theorem dX2_sha_6 : decode cX2_sha 6 = .ok (.iload_n 2, 1) := by decide +kernel
theorem dX2_sha_7 : decode cX2_sha 7 = .ok (.iload_n 3, 1) := by decide +kernel
theorem dX2_sha_8 : decode cX2_sha 8 = .ok (.iconst 0, 1) := by decide +kernel
theorem dX2_sha_9 : decode cX2_sha 9 = .ok (.invokevirtual 115, 3) := by decide +kernel
theorem dX2_sha_12 : decode cX2_sha 12 = .ok (.iconst 0, 1) := by decide +kernel
theorem dX2_sha_13 : decode cX2_sha 13 = .ok (.istore 6, 2) := by decide +kernel
theorem dX2_sha_15 : decode cX2_sha 15 = .ok (.iload 6, 2) := by decide +kernel
theorem dX2_sha_17 : decode cX2_sha 17 = .ok (.bipush 32, 2) := by decide +kernel
theorem dX2_sha_19 : decode cX2_sha 19 = .ok (.if_icmp .ge 38, 3) := by decide +kernel
theorem dX2_sha_22 : decode cX2_sha 22 = .ok (.aload 4, 2) := by decide +kernel
theorem dX2_sha_24 : decode cX2_sha 24 = .ok (.iload 5, 2) := by decide +kernel
theorem dX2_sha_26 : decode cX2_sha 26 = .ok (.iload 6, 2) := by decide +kernel
theorem dX2_sha_28 : decode cX2_sha 28 = .ok (.iadd, 1) := by decide +kernel
theorem dX2_sha_29 : decode cX2_sha 29 = .ok (.aload_n 0, 1) := by decide +kernel
theorem dX2_sha_30 : decode cX2_sha 30 = .ok (.getfield 16, 3) := by decide +kernel
theorem dX2_sha_33 : decode cX2_sha 33 = .ok (.iload 6, 2) := by decide +kernel
theorem dX2_sha_35 : decode cX2_sha 35 = .ok (.iconst 4, 1) := by decide +kernel
theorem dX2_sha_36 : decode cX2_sha 36 = .ok (.idiv, 1) := by decide +kernel
theorem dX2_sha_37 : decode cX2_sha 37 = .ok (.iaload, 1) := by decide +kernel
theorem dX2_sha_38 : decode cX2_sha 38 = .ok (.bipush 24, 2) := by decide +kernel
theorem dX2_sha_40 : decode cX2_sha 40 = .ok (.bipush 8, 2) := by decide +kernel
theorem dX2_sha_42 : decode cX2_sha 42 = .ok (.iload 6, 2) := by decide +kernel
theorem dX2_sha_44 : decode cX2_sha 44 = .ok (.iconst 4, 1) := by decide +kernel
theorem dX2_sha_45 : decode cX2_sha 45 = .ok (.irem, 1) := by decide +kernel
theorem dX2_sha_46 : decode cX2_sha 46 = .ok (.imul, 1) := by decide +kernel
theorem dX2_sha_47 : decode cX2_sha 47 = .ok (.isub, 1) := by decide +kernel
theorem dX2_sha_48 : decode cX2_sha 48 = .ok (.ishr, 1) := by decide +kernel
theorem dX2_sha_49 : decode cX2_sha 49 = .ok (.i2b, 1) := by decide +kernel
theorem dX2_sha_50 : decode cX2_sha 50 = .ok (.bastore, 1) := by decide +kernel
theorem dX2_sha_51 : decode cX2_sha 51 = .ok (.iinc 6 1, 3) := by decide +kernel
theorem dX2_sha_54 : decode cX2_sha 54 = .ok (.goto (-39), 3) := by decide +kernel
theorem dX2_sha_57 : decode cX2_sha 57 = .ok (.return_, 1) := by decide +kernel
/-! CoinJudge$Digests.sha([BII[BI)V -/
set_option maxHeartbeats 4000000 in
theorem sX2_sha_0 {G : Gx} {d t : Nat} {h0 : AH} {Φ : Out → AH → Prop} (h : AH) (v0 : Nat) (v1 : Nat) (v2 : Int32) (v3 : Int32) (v4 : Nat) (v5 : Int32) (K : h.kd v0 = 2 ∧ Cw G mX2_first d 0 [vR v0] h (kV (fun h2 => Cw G mX2_blocks d 0 [vR v0, vR v1, vI v2, vI v3, vI 0] h2 (kV (fun h5 => Aw G mX2_sha (d + 1) t h0 Φ 15 [vR v0, vU, vU, vU, vR v4, vI v5, vI 0] [] h5) (fun x h => Φ (.inr x) h))) (fun x h => Φ (.inr x) h))) : Aw G mX2_sha (d + 1) t h0 Φ 0 [vR v0, vR v1, vI v2, vI v3, vR v4, vI v5, vU] [] h := by
  refine r_aload_n (pc := 0) dX2_sha_0 rfl ?_
  obtain ⟨hk3, K⟩ := K
  refine r_callV_V (pc := 1) (Y := mX2_first) (vs := []) (st := []) hk3 rfl kc2 q893 q895 qs2 dX2_sha_1 rfl cd_X2_first rfl rfl fp_X2_sha_X2_first K (fun h2 eh2 wh2 K => ?_) (fun x h1 _ _ e => Tw.out rfl e)
  refine r_aload_n (pc := 4) dX2_sha_4 rfl ?_
  refine r_aload_n (pc := 5) dX2_sha_5 rfl ?_
  refine r_iload_n (pc := 6) dX2_sha_6 rfl ?_
  refine r_iload_n (pc := 7) dX2_sha_7 rfl ?_
  refine r_iconst (pc := 8) (x := 0) dX2_sha_8 rfl ?_
  have hk6 := kd_ext eh2 hk3 (nz rfl)
  refine r_callV_V (pc := 9) (Y := mX2_blocks) (vs := [_, _, _, _]) (st := []) hk6 rfl kc2 q897 q899 qs3 dX2_sha_9 rfl cd_X2_blocks rfl rfl fp_X2_sha_X2_blocks K (fun h5 eh5 wh5 K => ?_) (fun x h1 _ _ e => Tw.out rfl e)
  refine r_iconst (pc := 12) (x := 0) dX2_sha_12 rfl ?_
  refine r_istore (pc := 13) (lv' := [_, _, _, _, _, _, _]) dX2_sha_13 (by decide) rfl ?_
  refine r_mask (pc := 15) [true, false, false, false, true, true, true] rfl ?_
  exact K
theorem eX2_sha {G : Gx} {d : Nat} {Φ : Out → AH → Prop} (h : AH) (v0 : Nat) (v1 : Nat) (v2 : Int32) (v3 : Int32) (v4 : Nat) (v5 : Int32) (K : WF G h → Aw G mX2_sha (d + 1) 0 h Φ 0 [vR v0, vR v1, vI v2, vI v3, vR v4, vI v5, vU] [] h) : Cw G mX2_sha (d + 1) 0 [vR v0, vR v1, vI v2, vI v3, vR v4, vI v5] h Φ := Cw.of rfl K
set_option maxHeartbeats 4000000 in
theorem sX2_sha_15 {G : Gx} {d t : Nat} {h0 : AH} {Φ : Out → AH → Prop} (h : AH) (v0 : Nat) (v4 : Nat) (v5 : Int32) (v6 : Int32) (K : ((32 ≤ v6 → Φ (.inl none) h) ∧ (¬ 32 ≤ v6 → h.kd v0 = 2 ∧ ∀ r3 : Nat, r3 = (h.r 2002 v0) → h.kd r3 = 100 ∧ vp_in (v6 / 4) (h.ai r3).length ∧ h.kd v4 = 101 ∧ vp_in (v5 + v6) (h.ai v4).length ∧ ∀ h8 : AH, h8 = h.wi v4 ((h.ai v4).set ((v5 + v6).toNatClampNeg) (i2b (i2b (jshr ((h.ai r3).getD ((v6 / 4).toNatClampNeg) 0) (24 - (8 * (jrem v6 4))))))) → Aw G mX2_sha (d + 1) t h0 Φ 15 [vR v0, vU, vU, vU, vR v4, vI v5, vI (v6 + 1)] [] h8))) : Aw G mX2_sha (d + 1) t h0 Φ 15 [vR v0, vU, vU, vU, vR v4, vI v5, vI v6] [] h := by
  refine r_iload (pc := 15) dX2_sha_15 rfl ?_
  refine r_bipush (pc := 17) (x := 32) dX2_sha_17 rfl ?_
  refine r_icmp_ge (pc := 19) (tgt := 57) dX2_sha_19 rfl (fun c1 => ?_) (fun c1 => ?_)
  · have K := K.1 c1
    exact r_vret (pc := 57) rfl dX2_sha_57 K
  · have K := K.2 c1
    refine r_aload (pc := 22) dX2_sha_22 rfl ?_
    refine r_iload (pc := 24) dX2_sha_24 rfl ?_
    refine r_iload (pc := 26) dX2_sha_26 rfl ?_
    refine r_iadd (pc := 28) dX2_sha_28 ?_
    refine r_aload_n (pc := 29) dX2_sha_29 rfl ?_
    obtain ⟨hk2, K⟩ := K
    have K := K _ rfl
    refine r_getr' (pc := 30) (T := TX2) 2 2 rfl hk2 (Or.inl q239) dX2_sha_30 kc2 g2002 ?_
    refine r_iload (pc := 33) dX2_sha_33 rfl ?_
    refine r_iconst (pc := 35) (x := 4) dX2_sha_35 rfl ?_
    refine r_idiv (pc := 36) (by decide) dX2_sha_36 ?_
    obtain ⟨hk4, K⟩ := K
    obtain ⟨hi5, K⟩ := K
    refine r_iaload (pc := 37) hk4 hi5 dX2_sha_37 ?_
    refine r_bipush (pc := 38) (x := 24) dX2_sha_38 rfl ?_
    refine r_bipush (pc := 40) (x := 8) dX2_sha_40 rfl ?_
    refine r_iload (pc := 42) dX2_sha_42 rfl ?_
    refine r_iconst (pc := 44) (x := 4) dX2_sha_44 rfl ?_
    refine r_jrem (pc := 45) (by decide) dX2_sha_45 ?_
    refine r_imul (pc := 46) dX2_sha_46 ?_
    refine r_isub (pc := 47) dX2_sha_47 ?_
    refine r_jshr (pc := 48) dX2_sha_48 ?_
    refine r_ji2b (pc := 49) dX2_sha_49 ?_
    obtain ⟨hk6, K⟩ := K
    obtain ⟨hi7, K⟩ := K
    refine r_jbast (pc := 50) hk6 hi7 (Or.inl (em rfl)) dX2_sha_50 ?_
    refine r_nameH (fun h8 eh8 => ?_)
    have K := K h8 eh8
    refine r_iinc (pc := 51) (lv' := [_, _, _, _, _, _, _]) dX2_sha_51 rfl rfl (by decide) rfl ?_
    refine r_goto (pc := 54) (tgt := 15) dX2_sha_54 rfl ?_
    refine r_mask (pc := 15) [true, false, false, false, true, true, true] rfl ?_
    exact K
theorem dX2_hash160_0 : decode cX2_hash160 0 = .ok (.aload_n 0, 1) := by decide +kernel
theorem dX2_hash160_1 : decode cX2_hash160 1 = .ok (.aload_n 1, 1) := by decide +kernel
theorem dX2_hash160_2 : decode cX2_hash160 2 = .ok (.iload_n 2, 1) := by decide +kernel
theorem dX2_hash160_3 : decode cX2_hash160 3 = .ok (.iload_n 3, 1) := by decide +kernel
theorem dX2_hash160_4 : decode cX2_hash160 4 = .ok (.aload_n 0, 1) := by decide +kernel
theorem dX2_hash160_5 : decode cX2_hash160 5 = .ok (.getfield 35, 3) := by decide +kernel
theorem dX2_hash160_8 : decode cX2_hash160 8 = .ok (.iconst 0, 1) := by decide +kernel
theorem dX2_hash160_9 : decode cX2_hash160 9 = .ok (.invokevirtual 119, 3) := by decide +kernel
theorem dX2_hash160_12 : decode cX2_hash160 12 = .ok (.aload_n 0, 1) := by decide +kernel
theorem dX2_hash160_13 : decode cX2_hash160 13 = .ok (.aload_n 0, 1) := by decide +kernel
theorem dX2_hash160_14 : decode cX2_hash160 14 = .ok (.getfield 35, 3) := by decide +kernel
theorem dX2_hash160_17 : decode cX2_hash160 17 = .ok (.iconst 0, 1) := by decide +kernel
theorem dX2_hash160_18 : decode cX2_hash160 18 = .ok (.bipush 32, 2) := by decide +kernel
theorem dX2_hash160_20 : decode cX2_hash160 20 = .ok (.aload 4, 2) := by decide +kernel
theorem dX2_hash160_22 : decode cX2_hash160 22 = .ok (.iload 5, 2) := by decide +kernel
theorem dX2_hash160_24 : decode cX2_hash160 24 = .ok (.invokevirtual 128, 3) := by decide +kernel
theorem dX2_hash160_27 : decode cX2_hash160 27 = .ok (.return_, 1) := by decide +kernel
/-! CoinJudge$Digests.hash160([BII[BI)V -/
set_option maxHeartbeats 4000000 in
theorem sX2_hash160_0 {G : Gx} {d t : Nat} {h0 : AH} {Φ : Out → AH → Prop} (h : AH) (v0 : Nat) (v1 : Nat) (v2 : Int32) (v3 : Int32) (v4 : Nat) (v5 : Int32) (K : h.kd v0 = 2 ∧ ∀ r2 : Nat, r2 = (h.r 2008 v0) → Cw G mX2_sha d 0 [vR v0, vR v1, vI v2, vI v3, vR r2, vI 0] h (kV (fun h4 => Cw G mX2_ripe d 0 [vR v0, vR r2, vI 0, vI 32, vR v4, vI v5] h4 (kV (fun h9 => Φ (.inl none) h9) (fun x h => Φ (.inr x) h))) (fun x h => Φ (.inr x) h))) : Aw G mX2_hash160 (d + 1) t h0 Φ 0 [vR v0, vR v1, vI v2, vI v3, vR v4, vI v5] [] h := by
  refine r_aload_n (pc := 0) dX2_hash160_0 rfl ?_
  refine r_aload_n (pc := 1) dX2_hash160_1 rfl ?_
  refine r_iload_n (pc := 2) dX2_hash160_2 rfl ?_
  refine r_iload_n (pc := 3) dX2_hash160_3 rfl ?_
  refine r_aload_n (pc := 4) dX2_hash160_4 rfl ?_
  obtain ⟨hk1, K⟩ := K
  have K := K _ rfl
  refine r_getr' (pc := 5) (T := TX2) 2 8 rfl hk1 (Or.inl q245) dX2_hash160_5 kc2 g2008 ?_
  refine r_iconst (pc := 8) (x := 0) dX2_hash160_8 rfl ?_
  refine r_callV_V (pc := 9) (Y := mX2_sha) (vs := [_, _, _, _, _]) (st := []) hk1 rfl kc2 q889 q890 q891 dX2_hash160_9 rfl cd_X2_sha rfl rfl fp_X2_hash160_X2_sha K (fun h4 eh4 wh4 K => ?_) (fun x h1 _ _ e => Tw.out rfl e)
  refine r_aload_n (pc := 12) dX2_hash160_12 rfl ?_
  refine r_aload_n (pc := 13) dX2_hash160_13 rfl ?_
  have hk5 := kd_ext eh4 hk1 (nz rfl)
  have hv6 := fr_self (key := 2008) hk1
  have hv7 := (fr_ext (key := 2008) eh4 hk1 (nz rfl) (ne0 wh4 hk5 (nz rfl)) (nm rfl)).trans hv6
  refine r_getr' (pc := 14) (T := TX2) 2 8 hv7 hk5 (Or.inl q245) dX2_hash160_14 kc2 g2008 ?_
  refine r_iconst (pc := 17) (x := 0) dX2_hash160_17 rfl ?_
  refine r_bipush (pc := 18) (x := 32) dX2_hash160_18 rfl ?_
  refine r_aload (pc := 20) dX2_hash160_20 rfl ?_
  refine r_iload (pc := 22) dX2_hash160_22 rfl ?_
  refine r_callV_V (pc := 24) (Y := mX2_ripe) (vs := [_, _, _, _, _]) (st := []) hk5 rfl kc2 q1537 q1524 q1525 dX2_hash160_24 rfl cd_X2_ripe rfl rfl fp_X2_hash160_X2_ripe K (fun h9 eh9 wh9 K => ?_) (fun x h1 _ _ e => Tw.out rfl e)
  exact r_vret (pc := 27) rfl dX2_hash160_27 K
theorem eX2_hash160 {G : Gx} {d : Nat} {Φ : Out → AH → Prop} (h : AH) (v0 : Nat) (v1 : Nat) (v2 : Int32) (v3 : Int32) (v4 : Nat) (v5 : Int32) (K : WF G h → Aw G mX2_hash160 (d + 1) 0 h Φ 0 [vR v0, vR v1, vI v2, vI v3, vR v4, vI v5] [] h) : Cw G mX2_hash160 (d + 1) 0 [vR v0, vR v1, vI v2, vI v3, vR v4, vI v5] h Φ := Cw.of rfl K
theorem dX2_twice_0 : decode cX2_twice 0 = .ok (.aload_n 0, 1) := by decide +kernel
theorem dX2_twice_1 : decode cX2_twice 1 = .ok (.aload_n 1, 1) := by decide +kernel
theorem dX2_twice_2 : decode cX2_twice 2 = .ok (.iload_n 2, 1) := by decide +kernel
theorem dX2_twice_3 : decode cX2_twice 3 = .ok (.iload_n 3, 1) := by decide +kernel
theorem dX2_twice_4 : decode cX2_twice 4 = .ok (.aload_n 0, 1) := by decide +kernel
theorem dX2_twice_5 : decode cX2_twice 5 = .ok (.getfield 35, 3) := by decide +kernel
theorem dX2_twice_8 : decode cX2_twice 8 = .ok (.iconst 0, 1) := by decide +kernel
theorem dX2_twice_9 : decode cX2_twice 9 = .ok (.invokevirtual 119, 3) := by decide +kernel
theorem dX2_twice_12 : decode cX2_twice 12 = .ok (.aload_n 0, 1) := by decide +kernel
theorem dX2_twice_13 : decode cX2_twice 13 = .ok (.aload_n 0, 1) := by decide +kernel
theorem dX2_twice_14 : decode cX2_twice 14 = .ok (.getfield 35, 3) := by decide +kernel
theorem dX2_twice_17 : decode cX2_twice 17 = .ok (.iconst 0, 1) := by decide +kernel
theorem dX2_twice_18 : decode cX2_twice 18 = .ok (.bipush 32, 2) := by decide +kernel
theorem dX2_twice_20 : decode cX2_twice 20 = .ok (.aload 4, 2) := by decide +kernel
theorem dX2_twice_22 : decode cX2_twice 22 = .ok (.iload 5, 2) := by decide +kernel
theorem dX2_twice_24 : decode cX2_twice 24 = .ok (.invokevirtual 119, 3) := by decide +kernel
theorem dX2_twice_27 : decode cX2_twice 27 = .ok (.return_, 1) := by decide +kernel
/-! CoinJudge$Digests.twice([BII[BI)V -/
set_option maxHeartbeats 4000000 in
theorem sX2_twice_0 {G : Gx} {d t : Nat} {h0 : AH} {Φ : Out → AH → Prop} (h : AH) (v0 : Nat) (v1 : Nat) (v2 : Int32) (v3 : Int32) (v4 : Nat) (v5 : Int32) (K : h.kd v0 = 2 ∧ ∀ r2 : Nat, r2 = (h.r 2008 v0) → Cw G mX2_sha d 0 [vR v0, vR v1, vI v2, vI v3, vR r2, vI 0] h (kV (fun h4 => Cw G mX2_sha d 0 [vR v0, vR r2, vI 0, vI 32, vR v4, vI v5] h4 (kV (fun h9 => Φ (.inl none) h9) (fun x h => Φ (.inr x) h))) (fun x h => Φ (.inr x) h))) : Aw G mX2_twice (d + 1) t h0 Φ 0 [vR v0, vR v1, vI v2, vI v3, vR v4, vI v5] [] h := by
  refine r_aload_n (pc := 0) dX2_twice_0 rfl ?_
  refine r_aload_n (pc := 1) dX2_twice_1 rfl ?_
  refine r_iload_n (pc := 2) dX2_twice_2 rfl ?_
  refine r_iload_n (pc := 3) dX2_twice_3 rfl ?_
  refine r_aload_n (pc := 4) dX2_twice_4 rfl ?_
  obtain ⟨hk1, K⟩ := K
  have K := K _ rfl
  refine r_getr' (pc := 5) (T := TX2) 2 8 rfl hk1 (Or.inl q245) dX2_twice_5 kc2 g2008 ?_
  refine r_iconst (pc := 8) (x := 0) dX2_twice_8 rfl ?_
  refine r_callV_V (pc := 9) (Y := mX2_sha) (vs := [_, _, _, _, _]) (st := []) hk1 rfl kc2 q889 q890 q891 dX2_twice_9 rfl cd_X2_sha rfl rfl fp_X2_twice_X2_sha K (fun h4 eh4 wh4 K => ?_) (fun x h1 _ _ e => Tw.out rfl e)
  refine r_aload_n (pc := 12) dX2_twice_12 rfl ?_
  refine r_aload_n (pc := 13) dX2_twice_13 rfl ?_
  have hk5 := kd_ext eh4 hk1 (nz rfl)
  have hv6 := fr_self (key := 2008) hk1
  have hv7 := (fr_ext (key := 2008) eh4 hk1 (nz rfl) (ne0 wh4 hk5 (nz rfl)) (nm rfl)).trans hv6
  refine r_getr' (pc := 14) (T := TX2) 2 8 hv7 hk5 (Or.inl q245) dX2_twice_14 kc2 g2008 ?_
  refine r_iconst (pc := 17) (x := 0) dX2_twice_17 rfl ?_
  refine r_bipush (pc := 18) (x := 32) dX2_twice_18 rfl ?_
  refine r_aload (pc := 20) dX2_twice_20 rfl ?_
  refine r_iload (pc := 22) dX2_twice_22 rfl ?_
  refine r_callV_V (pc := 24) (Y := mX2_sha) (vs := [_, _, _, _, _]) (st := []) hk5 rfl kc2 q889 q890 q891 dX2_twice_24 rfl cd_X2_sha rfl rfl fp_X2_twice_X2_sha K (fun h9 eh9 wh9 K => ?_) (fun x h1 _ _ e => Tw.out rfl e)
  exact r_vret (pc := 27) rfl dX2_twice_27 K
theorem eX2_twice {G : Gx} {d : Nat} {Φ : Out → AH → Prop} (h : AH) (v0 : Nat) (v1 : Nat) (v2 : Int32) (v3 : Int32) (v4 : Nat) (v5 : Int32) (K : WF G h → Aw G mX2_twice (d + 1) 0 h Φ 0 [vR v0, vR v1, vI v2, vI v3, vR v4, vI v5] [] h) : Cw G mX2_twice (d + 1) 0 [vR v0, vR v1, vI v2, vI v3, vR v4, vI v5] h Φ := Cw.of rfl K
theorem dX2_prime_0 : decode cX2_prime 0 = .ok (.iconst 2, 1) := by decide +kernel
theorem dX2_prime_1 : decode cX2_prime 1 = .ok (.istore_n 1, 1) := by decide +kernel
theorem dX2_prime_2 : decode cX2_prime 2 = .ok (.iload_n 1, 1) := by decide +kernel
theorem dX2_prime_3 : decode cX2_prime 3 = .ok (.iload_n 1, 1) := by decide +kernel
theorem dX2_prime_4 : decode cX2_prime 4 = .ok (.imul, 1) := by decide +kernel
theorem dX2_prime_5 : decode cX2_prime 5 = .ok (.iload_n 0, 1) := by decide +kernel
theorem dX2_prime_6 : decode cX2_prime 6 = .ok (.if_icmp .gt 17, 3) := by decide +kernel
theorem dX2_prime_9 : decode cX2_prime 9 = .ok (.iload_n 0, 1) := by decide +kernel
theorem dX2_prime_10 : decode cX2_prime 10 = .ok (.iload_n 1, 1) := by decide +kernel
theorem dX2_prime_11 : decode cX2_prime 11 = .ok (.irem, 1) := by decide +kernel
theorem dX2_prime_12 : decode cX2_prime 12 = .ok (.ifCond .ne 5, 3) := by decide +kernel
theorem dX2_prime_15 : decode cX2_prime 15 = .ok (.iconst 0, 1) := by decide +kernel
theorem dX2_prime_16 : decode cX2_prime 16 = .ok (.ireturn, 1) := by decide +kernel
theorem dX2_prime_17 : decode cX2_prime 17 = .ok (.iinc 1 1, 3) := by decide +kernel
theorem dX2_prime_20 : decode cX2_prime 20 = .ok (.goto (-18), 3) := by decide +kernel
theorem dX2_prime_23 : decode cX2_prime 23 = .ok (.iconst 1, 1) := by decide +kernel
theorem dX2_prime_24 : decode cX2_prime 24 = .ok (.ireturn, 1) := by decide +kernel
/-! CoinJudge$Digests.prime(I)Z -/
set_option maxHeartbeats 4000000 in
theorem sX2_prime_0 {G : Gx} {d t : Nat} {h0 : AH} {Φ : Out → AH → Prop} (h : AH) (v0 : Int32) (K : Aw G mX2_prime (d + 1) t h0 Φ 2 [vI v0, vI 2] [] h) : Aw G mX2_prime (d + 1) t h0 Φ 0 [vI v0, vU] [] h := by
  refine r_iconst (pc := 0) (x := 2) dX2_prime_0 rfl ?_
  refine r_istore_n (pc := 1) (lv' := [_, _]) dX2_prime_1 (by decide) rfl ?_
  refine r_mask (pc := 2) [true, true] rfl ?_
  exact K
theorem eX2_prime {G : Gx} {d : Nat} {Φ : Out → AH → Prop} (h : AH) (v0 : Int32) (K : WF G h → Aw G mX2_prime (d + 1) 0 h Φ 0 [vI v0, vU] [] h) : Cw G mX2_prime (d + 1) 0 [vI v0] h Φ := Cw.of rfl K
set_option maxHeartbeats 4000000 in
theorem sX2_prime_2 {G : Gx} {d t : Nat} {h0 : AH} {Φ : Out → AH → Prop} (h : AH) (v0 : Int32) (v1 : Int32) (K : ((v0 < (v1 * v1) → Φ (.inl (some (vI 1))) h) ∧ (¬ v0 < (v1 * v1) → ¬ v1 = 0 ∧ ((¬ (jrem v0 v1) = 0 → Aw G mX2_prime (d + 1) t h0 Φ 2 [vI v0, vI (v1 + 1)] [] h) ∧ ((jrem v0 v1) = 0 → Φ (.inl (some (vI 0))) h))))) : Aw G mX2_prime (d + 1) t h0 Φ 2 [vI v0, vI v1] [] h := by
  refine r_iload_n (pc := 2) dX2_prime_2 rfl ?_
  refine r_iload_n (pc := 3) dX2_prime_3 rfl ?_
  refine r_imul (pc := 4) dX2_prime_4 ?_
  refine r_iload_n (pc := 5) dX2_prime_5 rfl ?_
  refine r_icmp_gt (pc := 6) (tgt := 23) dX2_prime_6 rfl (fun c1 => ?_) (fun c1 => ?_)
  · have K := K.1 c1
    refine r_iconst (pc := 23) (x := 1) dX2_prime_23 rfl ?_
    exact r_iret (pc := 24) rfl rfl dX2_prime_24 K
  · have K := K.2 c1
    refine r_iload_n (pc := 9) dX2_prime_9 rfl ?_
    refine r_iload_n (pc := 10) dX2_prime_10 rfl ?_
    obtain ⟨hz2, K⟩ := K
    refine r_jrem (pc := 11) hz2 dX2_prime_11 ?_
    refine r_if_ne (pc := 12) (tgt := 17) dX2_prime_12 rfl (fun c3 => ?_) (fun c3 => ?_)
    · have K := K.1 c3
      refine r_iinc (pc := 17) (lv' := [_, _]) dX2_prime_17 rfl rfl (by decide) rfl ?_
      refine r_goto (pc := 20) (tgt := 2) dX2_prime_20 rfl ?_
      refine r_mask (pc := 2) [true, true] rfl ?_
      exact K
    · have K := K.2 c3
      refine r_iconst (pc := 15) (x := 0) dX2_prime_15 rfl ?_
      exact r_iret (pc := 16) rfl rfl dX2_prime_16 K
theorem dX2_above_0 : decode cX2_above 0 = .ok (.lload_n 0, 1) := by decide +kernel
theorem dX2_above_1 : decode cX2_above 1 = .ok (.lload_n 0, 1) := by decide +kernel
theorem dX2_above_2 : decode cX2_above 2 = .ok (.invokestatic 78, 3) := by decide +kernel
theorem dX2_above_5 : decode cX2_above 5 = .ok (.lstore 4, 2) := by decide +kernel
theorem dX2_above_7 : decode cX2_above 7 = .ok (.lload_n 0, 1) := by decide +kernel
theorem dX2_above_8 : decode cX2_above 8 = .ok (.lload_n 0, 1) := by decide +kernel
theorem dX2_above_9 : decode cX2_above 9 = .ok (.lmul, 1) := by decide +kernel
theorem dX2_above_10 : decode cX2_above 10 = .ok (.lstore 6, 2) := by decide +kernel
theorem dX2_above_12 : decode cX2_above 12 = .ok (.iload_n 3, 1) := by decide +kernel
theorem dX2_above_13 : decode cX2_above 13 = .ok (.iconst 2, 1) := by decide +kernel
theorem dX2_above_14 : decode cX2_above 14 = .ok (.if_icmp .ne 17, 3) := by decide +kernel
theorem dX2_above_17 : decode cX2_above 17 = .ok (.lload 4, 2) := by decide +kernel
theorem dX2_above_19 : decode cX2_above 19 = .ok (.iload_n 2, 1) := by decide +kernel
theorem dX2_above_20 : decode cX2_above 20 = .ok (.i2l, 1) := by decide +kernel
theorem dX2_above_21 : decode cX2_above 21 = .ok (.lcmp, 1) := by decide +kernel
theorem dX2_above_22 : decode cX2_above 22 = .ok (.ifCond .lt 7, 3) := by decide +kernel
theorem dX2_above_25 : decode cX2_above 25 = .ok (.iconst 1, 1) := by decide +kernel
theorem dX2_above_26 : decode cX2_above 26 = .ok (.goto 4, 3) := by decide +kernel
theorem dX2_above_29 : decode cX2_above 29 = .ok (.iconst 0, 1) := by decide +kernel
theorem dX2_above_30 : decode cX2_above 30 = .ok (.ireturn, 1) := by decide +kernel
theorem dX2_above_31 : decode cX2_above 31 = .ok (.lload 4, 2) := by decide +kernel
theorem dX2_above_33 : decode cX2_above 33 = .ok (.lload_n 0, 1) := by decide +kernel
theorem dX2_above_34 : decode cX2_above 34 = .ok (.lmul, 1) := by decide +kernel
theorem dX2_above_35 : decode cX2_above 35 = .ok (.lload 6, 2) := by decide +kernel
theorem dX2_above_37 : decode cX2_above 37 = .ok (.lload_n 0, 1) := by decide +kernel
theorem dX2_above_38 : decode cX2_above 38 = .ok (.invokestatic 78, 3) := by decide +kernel
theorem dX2_above_41 : decode cX2_above 41 = .ok (.ladd, 1) := by decide +kernel
theorem dX2_above_42 : decode cX2_above 42 = .ok (.lload 6, 2) := by decide +kernel
theorem dX2_above_44 : decode cX2_above 44 = .ok (.lconst 0, 1) := by decide +kernel
theorem dX2_above_45 : decode cX2_above 45 = .ok (.lcmp, 1) := by decide +kernel
theorem dX2_above_46 : decode cX2_above 46 = .ok (.ifCond .ge 7, 3) := by decide +kernel
theorem dX2_above_49 : decode cX2_above 49 = .ok (.lload_n 0, 1) := by decide +kernel
theorem dX2_above_50 : decode cX2_above 50 = .ok (.goto 4, 3) := by decide +kernel
theorem dX2_above_53 : decode cX2_above 53 = .ok (.lconst 0, 1) := by decide +kernel
theorem dX2_above_54 : decode cX2_above 54 = .ok (.ladd, 1) := by decide +kernel
theorem dX2_above_55 : decode cX2_above 55 = .ok (.lstore 8, 2) := by decide +kernel
theorem dX2_above_57 : decode cX2_above 57 = .ok (.lload 8, 2) := by decide +kernel
theorem dX2_above_59 : decode cX2_above 59 = .ok (.bipush 32, 2) := by decide +kernel
theorem dX2_above_61 : decode cX2_above 61 = .ok (.lushr, 1) := by decide +kernel
theorem dX2_above_62 : decode cX2_above 62 = .ok (.iload_n 2, 1) := by decide +kernel
theorem dX2_above_63 : decode cX2_above 63 = .ok (.i2l, 1) := by decide +kernel
theorem dX2_above_64 : decode cX2_above 64 = .ok (.lcmp, 1) := by decide +kernel
theorem dX2_above_65 : decode cX2_above 65 = .ok (.ifCond .lt 7, 3) := by decide +kernel
theorem dX2_above_68 : decode cX2_above 68 = .ok (.iconst 1, 1) := by decide +kernel
theorem dX2_above_69 : decode cX2_above 69 = .ok (.goto 4, 3) := by decide +kernel
theorem dX2_above_72 : decode cX2_above 72 = .ok (.iconst 0, 1) := by decide +kernel
theorem dX2_above_73 : decode cX2_above 73 = .ok (.ireturn, 1) := by decide +kernel
/-! CoinJudge$Digests.above(JII)Z -/
set_option maxHeartbeats 4000000 in
theorem sX2_above_0 {G : Gx} {d t : Nat} {h0 : AH} {Φ : Out → AH → Prop} (h : AH) (v0 : Int64) (v2 : Int32) (v3 : Int32) (K : Cw G mJ0_multiplyHigh d 0 [vJ v0, vJ v0] h (kJ (fun x1 h2 => ((¬ v3 = 2 → Cw G mJ0_multiplyHigh d 0 [vJ (v0 * v0), vJ v0] h2 (kJ (fun x4 h5 => ((0 ≤ (v0 * v0) → (((Jushr (((x1 * v0) + x4) + 0) 32) < v2.toInt64 → Φ (.inl (some (vI 0))) h5) ∧ (¬ (Jushr (((x1 * v0) + x4) + 0) 32) < v2.toInt64 → Φ (.inl (some (vI 1))) h5))) ∧ (¬ 0 ≤ (v0 * v0) → (((Jushr (((x1 * v0) + x4) + v0) 32) < v2.toInt64 → Φ (.inl (some (vI 0))) h5) ∧ (¬ (Jushr (((x1 * v0) + x4) + v0) 32) < v2.toInt64 → Φ (.inl (some (vI 1))) h5))))) (fun x h => Φ (.inr x) h))) ∧ (v3 = 2 → ((x1 < v2.toInt64 → Φ (.inl (some (vI 0))) h2) ∧ (¬ x1 < v2.toInt64 → Φ (.inl (some (vI 1))) h2))))) (fun x h => Φ (.inr x) h))) : Aw G mX2_above (d + 1) t h0 Φ 0 [vJ v0, vU, vI v2, vI v3, vU, vU, vU, vU, vU, vU] [] h := by
  refine r_lload_n (pc := 0) dX2_above_0 rfl ?_
  refine r_lload_n (pc := 1) dX2_above_1 rfl ?_
  refine r_callS_J (pc := 2) (Y := mJ0_multiplyHigh) (vs := [_, _]) (st := []) q233 q234 q152 dX2_above_2 rfl cd_J0_multiplyHigh (cOk_of pf_J0_multiplyHigh rfl) rfl fp_X2_above_J0_multiplyHigh K (fun x1 h2 eh2 wh2 K => ?_) (fun x h1 _ _ e => Tw.out rfl e)
  refine r_lstore (pc := 5) (lv' := [_, _, _, _, _, _, _, _, _, _]) dX2_above_5 (by decide) rfl ?_
  refine r_lload_n (pc := 7) dX2_above_7 rfl ?_
  refine r_lload_n (pc := 8) dX2_above_8 rfl ?_
  refine r_lmul (pc := 9) dX2_above_9 ?_
  refine r_lstore (pc := 10) (lv' := [_, _, _, _, _, _, _, _, _, _]) dX2_above_10 (by decide) rfl ?_
  refine r_iload_n (pc := 12) dX2_above_12 rfl ?_
  refine r_iconst (pc := 13) (x := 2) dX2_above_13 rfl ?_
  refine r_icmp_ne (pc := 14) (tgt := 31) dX2_above_14 rfl (fun c3 => ?_) (fun c3 => ?_)
  · have K := K.1 c3
    refine r_lload (pc := 31) dX2_above_31 rfl ?_
    refine r_lload_n (pc := 33) dX2_above_33 rfl ?_
    refine r_lmul (pc := 34) dX2_above_34 ?_
    refine r_lload (pc := 35) dX2_above_35 rfl ?_
    refine r_lload_n (pc := 37) dX2_above_37 rfl ?_
    refine r_callS_J (pc := 38) (Y := mJ0_multiplyHigh) (vs := [_, _]) (st := [_]) q233 q234 q152 dX2_above_38 rfl cd_J0_multiplyHigh (cOk_of pf_J0_multiplyHigh rfl) rfl fp_X2_above_J0_multiplyHigh K (fun x4 h5 eh5 wh5 K => ?_) (fun x h1 _ _ e => Tw.out rfl e)
    refine r_ladd (pc := 41) dX2_above_41 ?_
    refine r_lload (pc := 42) dX2_above_42 rfl ?_
    refine r_lconst (pc := 44) (a := 0) dX2_above_44 rfl ?_
    refine r_lcmp_ge (pc := 45) (tgt := 53) dX2_above_45 dX2_above_46 rfl (fun c6 => ?_) (fun c6 => ?_)
    · have K := K.1 c6
      refine r_lconst (pc := 53) (a := 0) dX2_above_53 rfl ?_
      refine r_ladd (pc := 54) dX2_above_54 ?_
      refine r_lstore (pc := 55) (lv' := [_, _, _, _, _, _, _, _, _, _]) dX2_above_55 (by decide) rfl ?_
      refine r_lload (pc := 57) dX2_above_57 rfl ?_
      refine r_bipush (pc := 59) (x := 32) dX2_above_59 rfl ?_
      refine r_Jushr (pc := 61) dX2_above_61 ?_
      refine r_iload_n (pc := 62) dX2_above_62 rfl ?_
      refine r_i2l (pc := 63) dX2_above_63 ?_
      refine r_lcmp_lt (pc := 64) (tgt := 72) dX2_above_64 dX2_above_65 rfl (fun c7 => ?_) (fun c7 => ?_)
      · have K := K.1 c7
        refine r_iconst (pc := 72) (x := 0) dX2_above_72 rfl ?_
        exact r_iret (pc := 73) rfl rfl dX2_above_73 K
      · have K := K.2 c7
        refine r_iconst (pc := 68) (x := 1) dX2_above_68 rfl ?_
        refine r_goto (pc := 69) (tgt := 73) dX2_above_69 rfl ?_
        exact r_iret (pc := 73) rfl rfl dX2_above_73 K
    · have K := K.2 c6
      refine r_lload_n (pc := 49) dX2_above_49 rfl ?_
      refine r_goto (pc := 50) (tgt := 54) dX2_above_50 rfl ?_
      refine r_ladd (pc := 54) dX2_above_54 ?_
      refine r_lstore (pc := 55) (lv' := [_, _, _, _, _, _, _, _, _, _]) dX2_above_55 (by decide) rfl ?_
      refine r_lload (pc := 57) dX2_above_57 rfl ?_
      refine r_bipush (pc := 59) (x := 32) dX2_above_59 rfl ?_
      refine r_Jushr (pc := 61) dX2_above_61 ?_
      refine r_iload_n (pc := 62) dX2_above_62 rfl ?_
      refine r_i2l (pc := 63) dX2_above_63 ?_
      refine r_lcmp_lt (pc := 64) (tgt := 72) dX2_above_64 dX2_above_65 rfl (fun c8 => ?_) (fun c8 => ?_)
      · have K := K.1 c8
        refine r_iconst (pc := 72) (x := 0) dX2_above_72 rfl ?_
        exact r_iret (pc := 73) rfl rfl dX2_above_73 K
      · have K := K.2 c8
        refine r_iconst (pc := 68) (x := 1) dX2_above_68 rfl ?_
        refine r_goto (pc := 69) (tgt := 73) dX2_above_69 rfl ?_
        exact r_iret (pc := 73) rfl rfl dX2_above_73 K
  · have K := K.2 c3
    refine r_lload (pc := 17) dX2_above_17 rfl ?_
    refine r_iload_n (pc := 19) dX2_above_19 rfl ?_
    refine r_i2l (pc := 20) dX2_above_20 ?_
    refine r_lcmp_lt (pc := 21) (tgt := 29) dX2_above_21 dX2_above_22 rfl (fun c9 => ?_) (fun c9 => ?_)
    · have K := K.1 c9
      refine r_iconst (pc := 29) (x := 0) dX2_above_29 rfl ?_
      exact r_iret (pc := 30) rfl rfl dX2_above_30 K
    · have K := K.2 c9
      refine r_iconst (pc := 25) (x := 1) dX2_above_25 rfl ?_
      refine r_goto (pc := 26) (tgt := 30) dX2_above_26 rfl ?_
      exact r_iret (pc := 30) rfl rfl dX2_above_30 K
theorem eX2_above {G : Gx} {d : Nat} {Φ : Out → AH → Prop} (h : AH) (v0 : Int64) (v2 : Int32) (v3 : Int32) (K : WF G h → Aw G mX2_above (d + 1) 0 h Φ 0 [vJ v0, vU, vI v2, vI v3, vU, vU, vU, vU, vU, vU] [] h) : Cw G mX2_above (d + 1) 0 [vJ v0, vI v2, vI v3] h Φ := Cw.of rfl K
theorem dX2_root_0 : decode cX2_root 0 = .ok (.lconst 0, 1) := by decide +kernel
theorem dX2_root_1 : decode cX2_root 1 = .ok (.lstore_n 2, 1) := by decide +kernel
theorem dX2_root_2 : decode cX2_root 2 = .ok (.ldc2_w 72, 3) := by decide +kernel
theorem dX2_root_5 : decode cX2_root 5 = .ok (.lstore 4, 2) := by decide +kernel
theorem dX2_root_7 : decode cX2_root 7 = .ok (.lload 4, 2) := by decide +kernel
theorem dX2_root_9 : decode cX2_root 9 = .ok (.lload_n 2, 1) := by decide +kernel
theorem dX2_root_10 : decode cX2_root 10 = .ok (.lsub, 1) := by decide +kernel
theorem dX2_root_11 : decode cX2_root 11 = .ok (.lconst 1, 1) := by decide +kernel
theorem dX2_root_12 : decode cX2_root 12 = .ok (.lcmp, 1) := by decide +kernel
theorem dX2_root_13 : decode cX2_root 13 = .ok (.ifCond .le 34, 3) := by decide +kernel
theorem dX2_root_16 : decode cX2_root 16 = .ok (.lload_n 2, 1) := by decide +kernel
theorem dX2_root_17 : decode cX2_root 17 = .ok (.lload 4, 2) := by decide +kernel
theorem dX2_root_19 : decode cX2_root 19 = .ok (.ladd, 1) := by decide +kernel
theorem dX2_root_20 : decode cX2_root 20 = .ok (.iconst 1, 1) := by decide +kernel
theorem dX2_root_21 : decode cX2_root 21 = .ok (.lshr, 1) := by decide +kernel
theorem dX2_root_22 : decode cX2_root 22 = .ok (.lstore 6, 2) := by decide +kernel
theorem dX2_root_24 : decode cX2_root 24 = .ok (.lload 6, 2) := by decide +kernel
theorem dX2_root_26 : decode cX2_root 26 = .ok (.iload_n 0, 1) := by decide +kernel
theorem dX2_root_27 : decode cX2_root 27 = .ok (.iload_n 1, 1) := by decide +kernel
theorem dX2_root_28 : decode cX2_root 28 = .ok (.invokestatic 74, 3) := by decide +kernel
theorem dX2_root_31 : decode cX2_root 31 = .ok (.ifCond .eq 10, 3) := by decide +kernel
theorem dX2_root_34 : decode cX2_root 34 = .ok (.lload 6, 2) := by decide +kernel
theorem dX2_root_36 : decode cX2_root 36 = .ok (.lstore 4, 2) := by decide +kernel
theorem dX2_root_38 : decode cX2_root 38 = .ok (.goto 6, 3) := by decide +kernel
theorem dX2_root_41 : decode cX2_root 41 = .ok (.lload 6, 2) := by decide +kernel
theorem dX2_root_43 : decode cX2_root 43 = .ok (.lstore_n 2, 1) := by decide +kernel
theorem dX2_root_44 : decode cX2_root 44 = .ok (.goto (-37), 3) := by decide +kernel
theorem dX2_root_47 : decode cX2_root 47 = .ok (.lload_n 2, 1) := by decide +kernel
theorem dX2_root_48 : decode cX2_root 48 = .ok (.l2i, 1) := by decide +kernel
theorem dX2_root_49 : decode cX2_root 49 = .ok (.ireturn, 1) := by decide +kernel
/-! CoinJudge$Digests.root(II)I -/
set_option maxHeartbeats 4000000 in
theorem sX2_root_0 {G : Gx} {d t : Nat} {h0 : AH} {Φ : Out → AH → Prop} (h : AH) (v0 : Int32) (v1 : Int32) (K : Aw G mX2_root (d + 1) t h0 Φ 7 [vI v0, vI v1, vJ 0, vU, vJ 137438953472, vU, vU, vU] [] h) : Aw G mX2_root (d + 1) t h0 Φ 0 [vI v0, vI v1, vU, vU, vU, vU, vU, vU] [] h := by
  refine r_lconst (pc := 0) (a := 0) dX2_root_0 rfl ?_
  refine r_lstore_n (pc := 1) (lv' := [_, _, _, _, _, _, _, _]) dX2_root_1 (by decide) rfl ?_
  refine r_ldc2 (pc := 2) dX2_root_2 q229 ?_
  refine r_lstore (pc := 5) (lv' := [_, _, _, _, _, _, _, _]) dX2_root_5 (by decide) rfl ?_
  refine r_mask (pc := 7) [true, true, true, false, true, false, false, false] rfl ?_
  exact K
theorem eX2_root {G : Gx} {d : Nat} {Φ : Out → AH → Prop} (h : AH) (v0 : Int32) (v1 : Int32) (K : WF G h → Aw G mX2_root (d + 1) 0 h Φ 0 [vI v0, vI v1, vU, vU, vU, vU, vU, vU] [] h) : Cw G mX2_root (d + 1) 0 [vI v0, vI v1] h Φ := Cw.of rfl K
set_option maxHeartbeats 4000000 in
theorem sX2_root_7 {G : Gx} {d t : Nat} {h0 : AH} {Φ : Out → AH → Prop} (h : AH) (v0 : Int32) (v1 : Int32) (v2 : Int64) (v4 : Int64) (K : (((v4 - v2) ≤ 1 → Φ (.inl (some (vI v2.toInt32))) h) ∧ (¬ (v4 - v2) ≤ 1 → Cw G mX2_above d 0 [vJ (Jshr (v2 + v4) 1), vI v0, vI v1] h (kI (fun x2 h3 => ((x2 = 0 → Aw G mX2_root (d + 1) t h0 Φ 7 [vI v0, vI v1, vJ (Jshr (v2 + v4) 1), vU, vJ v4, vU, vU, vU] [] h3) ∧ (¬ x2 = 0 → Aw G mX2_root (d + 1) t h0 Φ 7 [vI v0, vI v1, vJ v2, vU, vJ (Jshr (v2 + v4) 1), vU, vU, vU] [] h3))) (fun x h => Φ (.inr x) h))))) : Aw G mX2_root (d + 1) t h0 Φ 7 [vI v0, vI v1, vJ v2, vU, vJ v4, vU, vU, vU] [] h := by
  refine r_lload (pc := 7) dX2_root_7 rfl ?_
  refine r_lload_n (pc := 9) dX2_root_9 rfl ?_
  refine r_lsub (pc := 10) dX2_root_10 ?_
  refine r_lconst (pc := 11) (a := 1) dX2_root_11 rfl ?_
  refine r_lcmp_le (pc := 12) (tgt := 47) dX2_root_12 dX2_root_13 rfl (fun c1 => ?_) (fun c1 => ?_)
  · have K := K.1 c1
    refine r_lload_n (pc := 47) dX2_root_47 rfl ?_
    refine r_l2i (pc := 48) dX2_root_48 ?_
    exact r_iret (pc := 49) rfl rfl dX2_root_49 K
  · have K := K.2 c1
    refine r_lload_n (pc := 16) dX2_root_16 rfl ?_
    refine r_lload (pc := 17) dX2_root_17 rfl ?_
    refine r_ladd (pc := 19) dX2_root_19 ?_
    refine r_iconst (pc := 20) (x := 1) dX2_root_20 rfl ?_
    refine r_Jshr (pc := 21) dX2_root_21 ?_
    refine r_lstore (pc := 22) (lv' := [_, _, _, _, _, _, _, _]) dX2_root_22 (by decide) rfl ?_
    refine r_lload (pc := 24) dX2_root_24 rfl ?_
    refine r_iload_n (pc := 26) dX2_root_26 rfl ?_
    refine r_iload_n (pc := 27) dX2_root_27 rfl ?_
    refine r_callS_I (pc := 28) (Y := mX2_above) (vs := [_, _, _]) (st := []) q230 q231 q151 dX2_root_28 rfl cd_X2_above rfl rfl fp_X2_root_X2_above K (fun x2 h3 eh3 wh3 K => ?_) (fun x h1 _ _ e => Tw.out rfl e)
    refine r_if_eq (pc := 31) (tgt := 41) dX2_root_31 rfl (fun c4 => ?_) (fun c4 => ?_)
    · have K := K.1 c4
      refine r_lload (pc := 41) dX2_root_41 rfl ?_
      refine r_lstore_n (pc := 43) (lv' := [_, _, _, _, _, _, _, _]) dX2_root_43 (by decide) rfl ?_
      refine r_goto (pc := 44) (tgt := 7) dX2_root_44 rfl ?_
      refine r_mask (pc := 7) [true, true, true, false, true, false, false, false] rfl ?_
      exact K
    · have K := K.2 c4
      refine r_lload (pc := 34) dX2_root_34 rfl ?_
      refine r_lstore (pc := 36) (lv' := [_, _, _, _, _, _, _, _]) dX2_root_36 (by decide) rfl ?_
      refine r_goto (pc := 38) (tgt := 44) dX2_root_38 rfl ?_
      refine r_goto (pc := 44) (tgt := 7) dX2_root_44 rfl ?_
      refine r_mask (pc := 7) [true, true, true, false, true, false, false, false] rfl ?_
      exact K
