set_option maxRecDepth 100000
theorem dX10_judgeDefinition_0 : decode cX10_judgeDefinition 0 = .ok (.aload_n 0, 1) := by decide +kernel
theorem dX10_judgeDefinition_1 : decode cX10_judgeDefinition 1 = .ok (.getfield 591, 3) := by decide +kernel
theorem dX10_judgeDefinition_4 : decode cX10_judgeDefinition 4 = .ok (.istore_n 2, 1) := by decide +kernel
theorem dX10_judgeDefinition_5 : decode cX10_judgeDefinition 5 = .ok (.aload_n 0, 1) := by decide +kernel
theorem dX10_judgeDefinition_6 : decode cX10_judgeDefinition 6 = .ok (.iload_n 2, 1) := by decide +kernel
theorem dX10_judgeDefinition_7 : decode cX10_judgeDefinition 7 = .ok (.putfield 231, 3) := by decide +kernel
theorem dX10_judgeDefinition_10 : decode cX10_judgeDefinition 10 = .ok (.iconst 0, 1) := by decide +kernel
theorem dX10_judgeDefinition_11 : decode cX10_judgeDefinition 11 = .ok (.istore_n 3, 1) := by decide +kernel
theorem dX10_judgeDefinition_12 : decode cX10_judgeDefinition 12 = .ok (.iconst 0, 1) := by decide +kernel
theorem dX10_judgeDefinition_13 : decode cX10_judgeDefinition 13 = .ok (.istore 4, 2) := by decide +kernel
theorem dX10_judgeDefinition_15 : decode cX10_judgeDefinition 15 = .ok (.iload 4, 2) := by decide +kernel
theorem dX10_judgeDefinition_17 : decode cX10_judgeDefinition 17 = .ok (.aload_n 0, 1) := by decide +kernel
theorem dX10_judgeDefinition_18 : decode cX10_judgeDefinition 18 = .ok (.getfield 164, 3) := by decide +kernel
theorem dX10_judgeDefinition_21 : decode cX10_judgeDefinition 21 = .ok (.iload_n 2, 1) := by decide +kernel
theorem dX10_judgeDefinition_22 : decode cX10_judgeDefinition 22 = .ok (.iaload, 1) := by decide +kernel
theorem dX10_judgeDefinition_23 : decode cX10_judgeDefinition 23 = .ok (.if_icmp .ge 162, 3) := by decide +kernel
theorem dX10_judgeDefinition_26 : decode cX10_judgeDefinition 26 = .ok (.aload_n 0, 1) := by decide +kernel
theorem dX10_judgeDefinition_27 : decode cX10_judgeDefinition 27 = .ok (.getfield 307, 3) := by decide +kernel
theorem dX10_judgeDefinition_30 : decode cX10_judgeDefinition 30 = .ok (.iload 4, 2) := by decide +kernel
theorem dX10_judgeDefinition_32 : decode cX10_judgeDefinition 32 = .ok (.iaload, 1) := by decide +kernel
theorem dX10_judgeDefinition_33 : decode cX10_judgeDefinition 33 = .ok (.istore 5, 2) := by decide +kernel
theorem dX10_judgeDefinition_35 : decode cX10_judgeDefinition 35 = .ok (.iconst 3, 1) := by decide +kernel
theorem dX10_judgeDefinition_36 : decode cX10_judgeDefinition 36 = .ok (.iload_n 2, 1) := by decide +kernel
theorem dX10_judgeDefinition_37 : decode cX10_judgeDefinition 37 = .ok (.imul, 1) := by decide +kernel
theorem dX10_judgeDefinition_38 : decode cX10_judgeDefinition 38 = .ok (.iload 4, 2) := by decide +kernel
theorem dX10_judgeDefinition_40 : decode cX10_judgeDefinition 40 = .ok (.iadd, 1) := by decide +kernel
theorem dX10_judgeDefinition_41 : decode cX10_judgeDefinition 41 = .ok (.istore 6, 2) := by decide +kernel
theorem dX10_judgeDefinition_43 : decode cX10_judgeDefinition 43 = .ok (.aload_n 0, 1) := by decide +kernel
theorem dX10_judgeDefinition_44 : decode cX10_judgeDefinition 44 = .ok (.iload 5, 2) := by decide +kernel
theorem dX10_judgeDefinition_46 : decode cX10_judgeDefinition 46 = .ok (.invokevirtual 887, 3) := by decide +kernel
theorem dX10_judgeDefinition_49 : decode cX10_judgeDefinition 49 = .ok (.aload_n 0, 1) := by decide +kernel
theorem dX10_judgeDefinition_50 : decode cX10_judgeDefinition 50 = .ok (.getfield 203, 3) := by decide +kernel
theorem dX10_judgeDefinition_53 : decode cX10_judgeDefinition 53 = .ok (.iload 6, 2) := by decide +kernel
theorem dX10_judgeDefinition_55 : decode cX10_judgeDefinition 55 = .ok (.aload_n 0, 1) := by decide +kernel
theorem dX10_judgeDefinition_56 : decode cX10_judgeDefinition 56 = .ok (.iload 5, 2) := by decide +kernel
theorem dX10_judgeDefinition_58 : decode cX10_judgeDefinition 58 = .ok (.invokevirtual 520, 3) := by decide +kernel
theorem dX10_judgeDefinition_61 : decode cX10_judgeDefinition 61 = .ok (.bastore, 1) := by decide +kernel
theorem dX10_judgeDefinition_62 : decode cX10_judgeDefinition 62 = .ok (.aload_n 0, 1) := by decide +kernel
theorem dX10_judgeDefinition_63 : decode cX10_judgeDefinition 63 = .ok (.getfield 182, 3) := by decide +kernel
theorem dX10_judgeDefinition_66 : decode cX10_judgeDefinition 66 = .ok (.iload 6, 2) := by decide +kernel
theorem dX10_judgeDefinition_68 : decode cX10_judgeDefinition 68 = .ok (.aload_n 0, 1) := by decide +kernel
theorem dX10_judgeDefinition_69 : decode cX10_judgeDefinition 69 = .ok (.getfield 130, 3) := by decide +kernel
theorem dX10_judgeDefinition_72 : decode cX10_judgeDefinition 72 = .ok (.iload 5, 2) := by decide +kernel
theorem dX10_judgeDefinition_74 : decode cX10_judgeDefinition 74 = .ok (.iaload, 1) := by decide +kernel
theorem dX10_judgeDefinition_75 : decode cX10_judgeDefinition 75 = .ok (.iastore, 1) := by decide +kernel
theorem dX10_judgeDefinition_76 : decode cX10_judgeDefinition 76 = .ok (.aload_n 0, 1) := by decide +kernel
theorem dX10_judgeDefinition_77 : decode cX10_judgeDefinition 77 = .ok (.getfield 185, 3) := by decide +kernel
theorem dX10_judgeDefinition_80 : decode cX10_judgeDefinition 80 = .ok (.iload 6, 2) := by decide +kernel
theorem dX10_judgeDefinition_82 : decode cX10_judgeDefinition 82 = .ok (.aload_n 0, 1) := by decide +kernel
theorem dX10_judgeDefinition_83 : decode cX10_judgeDefinition 83 = .ok (.getfield 133, 3) := by decide +kernel
theorem dX10_judgeDefinition_86 : decode cX10_judgeDefinition 86 = .ok (.iload 5, 2) := by decide +kernel
theorem dX10_judgeDefinition_88 : decode cX10_judgeDefinition 88 = .ok (.iaload, 1) := by decide +kernel
theorem dX10_judgeDefinition_89 : decode cX10_judgeDefinition 89 = .ok (.iastore, 1) := by decide +kernel
theorem dX10_judgeDefinition_90 : decode cX10_judgeDefinition 90 = .ok (.aload_n 0, 1) := by decide +kernel
theorem dX10_judgeDefinition_91 : decode cX10_judgeDefinition 91 = .ok (.getfield 188, 3) := by decide +kernel
theorem dX10_judgeDefinition_94 : decode cX10_judgeDefinition 94 = .ok (.iload 6, 2) := by decide +kernel
theorem dX10_judgeDefinition_96 : decode cX10_judgeDefinition 96 = .ok (.aload_n 0, 1) := by decide +kernel
theorem dX10_judgeDefinition_97 : decode cX10_judgeDefinition 97 = .ok (.getfield 136, 3) := by decide +kernel
theorem dX10_judgeDefinition_100 : decode cX10_judgeDefinition 100 = .ok (.iload 5, 2) := by decide +kernel
theorem dX10_judgeDefinition_102 : decode cX10_judgeDefinition 102 = .ok (.iaload, 1) := by decide +kernel
theorem dX10_judgeDefinition_103 : decode cX10_judgeDefinition 103 = .ok (.iastore, 1) := by decide +kernel
theorem dX10_judgeDefinition_104 : decode cX10_judgeDefinition 104 = .ok (.iload_n 3, 1) := by decide +kernel
theorem dX10_judgeDefinition_105 : decode cX10_judgeDefinition 105 = .ok (.ifCond .ne 13, 3) := by decide +kernel
theorem dX10_judgeDefinition_108 : decode cX10_judgeDefinition 108 = .ok (.aload_n 0, 1) := by decide +kernel
theorem dX10_judgeDefinition_109 : decode cX10_judgeDefinition 109 = .ok (.getfield 203, 3) := by decide +kernel
theorem dX10_judgeDefinition_112 : decode cX10_judgeDefinition 112 = .ok (.iload 6, 2) := by decide +kernel
theorem dX10_judgeDefinition_114 : decode cX10_judgeDefinition 114 = .ok (.baload, 1) := by decide +kernel
theorem dX10_judgeDefinition_115 : decode cX10_judgeDefinition 115 = .ok (.ifCond .eq 7, 3) := by decide +kernel
theorem dX10_judgeDefinition_118 : decode cX10_judgeDefinition 118 = .ok (.iconst 1, 1) := by decide +kernel
theorem dX10_judgeDefinition_119 : decode cX10_judgeDefinition 119 = .ok (.goto 4, 3) := by decide +kernel
theorem dX10_judgeDefinition_122 : decode cX10_judgeDefinition 122 = .ok (.iconst 0, 1) := by decide +kernel
theorem dX10_judgeDefinition_123 : decode cX10_judgeDefinition 123 = .ok (.istore_n 3, 1) := by decide +kernel
theorem dX10_judgeDefinition_124 : decode cX10_judgeDefinition 124 = .ok (.iconst 0, 1) := by decide +kernel
theorem dX10_judgeDefinition_125 : decode cX10_judgeDefinition 125 = .ok (.istore 7, 2) := by decide +kernel
theorem dX10_judgeDefinition_127 : decode cX10_judgeDefinition 127 = .ok (.iload 7, 2) := by decide +kernel
theorem dX10_judgeDefinition_129 : decode cX10_judgeDefinition 129 = .ok (.iload 4, 2) := by decide +kernel
theorem dX10_judgeDefinition_131 : decode cX10_judgeDefinition 131 = .ok (.if_icmp .ge 48, 3) := by decide +kernel
theorem dX10_judgeDefinition_134 : decode cX10_judgeDefinition 134 = .ok (.aload_n 0, 1) := by decide +kernel
theorem dX10_judgeDefinition_135 : decode cX10_judgeDefinition 135 = .ok (.getfield 161, 3) := by decide +kernel
theorem dX10_judgeDefinition_138 : decode cX10_judgeDefinition 138 = .ok (.iconst 3, 1) := by decide +kernel
theorem dX10_judgeDefinition_139 : decode cX10_judgeDefinition 139 = .ok (.iload_n 2, 1) := by decide +kernel
theorem dX10_judgeDefinition_140 : decode cX10_judgeDefinition 140 = .ok (.imul, 1) := by decide +kernel
theorem dX10_judgeDefinition_141 : decode cX10_judgeDefinition 141 = .ok (.iload 7, 2) := by decide +kernel
theorem dX10_judgeDefinition_143 : decode cX10_judgeDefinition 143 = .ok (.iadd, 1) := by decide +kernel
theorem dX10_judgeDefinition_144 : decode cX10_judgeDefinition 144 = .ok (.laload, 1) := by decide +kernel
theorem dX10_judgeDefinition_145 : decode cX10_judgeDefinition 145 = .ok (.aload_n 0, 1) := by decide +kernel
theorem dX10_judgeDefinition_146 : decode cX10_judgeDefinition 146 = .ok (.getfield 161, 3) := by decide +kernel
theorem dX10_judgeDefinition_149 : decode cX10_judgeDefinition 149 = .ok (.iload 6, 2) := by decide +kernel
theorem dX10_judgeDefinition_151 : decode cX10_judgeDefinition 151 = .ok (.laload, 1) := by decide +kernel
theorem dX10_judgeDefinition_152 : decode cX10_judgeDefinition 152 = .ok (.lcmp, 1) := by decide +kernel
theorem dX10_judgeDefinition_153 : decode cX10_judgeDefinition 153 = .ok (.ifCond .ne 20, 3) := by decide +kernel
theorem dX10_judgeDefinition_156 : decode cX10_judgeDefinition 156 = .ok (.aload_n 0, 1) := by decide +kernel
theorem dX10_judgeDefinition_157 : decode cX10_judgeDefinition 157 = .ok (.iconst 5, 1) := by decide +kernel
theorem dX10_judgeDefinition_158 : decode cX10_judgeDefinition 158 = .ok (.aload_n 0, 1) := by decide +kernel
theorem dX10_judgeDefinition_159 : decode cX10_judgeDefinition 159 = .ok (.getfield 96, 3) := by decide +kernel
theorem dX10_judgeDefinition_162 : decode cX10_judgeDefinition 162 = .ok (.aload_n 0, 1) := by decide +kernel
theorem dX10_judgeDefinition_163 : decode cX10_judgeDefinition 163 = .ok (.getfield 304, 3) := by decide +kernel
theorem dX10_judgeDefinition_166 : decode cX10_judgeDefinition 166 = .ok (.iload 4, 2) := by decide +kernel
theorem dX10_judgeDefinition_168 : decode cX10_judgeDefinition 168 = .ok (.iaload, 1) := by decide +kernel
theorem dX10_judgeDefinition_169 : decode cX10_judgeDefinition 169 = .ok (.iaload, 1) := by decide +kernel
theorem dX10_judgeDefinition_170 : decode cX10_judgeDefinition 170 = .ok (.invokevirtual 472, 3) := by decide +kernel
theorem dX10_judgeDefinition_173 : decode cX10_judgeDefinition 173 = .ok (.iinc 7 1, 3) := by decide +kernel
theorem dX10_judgeDefinition_176 : decode cX10_judgeDefinition 176 = .ok (.goto (-49), 3) := by decide +kernel
theorem dX10_judgeDefinition_179 : decode cX10_judgeDefinition 179 = .ok (.iinc 4 1, 3) := by decide +kernel
theorem dX10_judgeDefinition_182 : decode cX10_judgeDefinition 182 = .ok (.goto (-167), 3) := by decide +kernel
theorem dX10_judgeDefinition_185 : decode cX10_judgeDefinition 185 = .ok (.aload_n 0, 1) := by decide +kernel
theorem dX10_judgeDefinition_186 : decode cX10_judgeDefinition 186 = .ok (.aload_n 0, 1) := by decide +kernel
theorem dX10_judgeDefinition_187 : decode cX10_judgeDefinition 187 = .ok (.getfield 881, 3) := by decide +kernel
theorem dX10_judgeDefinition_190 : decode cX10_judgeDefinition 190 = .ok (.invokevirtual 887, 3) := by decide +kernel
theorem dX10_judgeDefinition_193 : decode cX10_judgeDefinition 193 = .ok (.aload_n 0, 1) := by decide +kernel
theorem dX10_judgeDefinition_194 : decode cX10_judgeDefinition 194 = .ok (.getfield 200, 3) := by decide +kernel
theorem dX10_judgeDefinition_197 : decode cX10_judgeDefinition 197 = .ok (.iload_n 2, 1) := by decide +kernel
theorem dX10_judgeDefinition_198 : decode cX10_judgeDefinition 198 = .ok (.aload_n 0, 1) := by decide +kernel
theorem dX10_judgeDefinition_199 : decode cX10_judgeDefinition 199 = .ok (.aload_n 0, 1) := by decide +kernel
theorem dX10_judgeDefinition_200 : decode cX10_judgeDefinition 200 = .ok (.getfield 881, 3) := by decide +kernel
theorem dX10_judgeDefinition_203 : decode cX10_judgeDefinition 203 = .ok (.invokevirtual 520, 3) := by decide +kernel
theorem dX10_judgeDefinition_206 : decode cX10_judgeDefinition 206 = .ok (.bastore, 1) := by decide +kernel
theorem dX10_judgeDefinition_207 : decode cX10_judgeDefinition 207 = .ok (.aload_n 0, 1) := by decide +kernel
theorem dX10_judgeDefinition_208 : decode cX10_judgeDefinition 208 = .ok (.getfield 173, 3) := by decide +kernel
theorem dX10_judgeDefinition_211 : decode cX10_judgeDefinition 211 = .ok (.iload_n 2, 1) := by decide +kernel
theorem dX10_judgeDefinition_212 : decode cX10_judgeDefinition 212 = .ok (.aload_n 0, 1) := by decide +kernel
theorem dX10_judgeDefinition_213 : decode cX10_judgeDefinition 213 = .ok (.getfield 130, 3) := by decide +kernel
theorem dX10_judgeDefinition_216 : decode cX10_judgeDefinition 216 = .ok (.aload_n 0, 1) := by decide +kernel
theorem dX10_judgeDefinition_217 : decode cX10_judgeDefinition 217 = .ok (.getfield 881, 3) := by decide +kernel
theorem dX10_judgeDefinition_220 : decode cX10_judgeDefinition 220 = .ok (.iaload, 1) := by decide +kernel
theorem dX10_judgeDefinition_221 : decode cX10_judgeDefinition 221 = .ok (.iastore, 1) := by decide +kernel
theorem dX10_judgeDefinition_222 : decode cX10_judgeDefinition 222 = .ok (.aload_n 0, 1) := by decide +kernel
theorem dX10_judgeDefinition_223 : decode cX10_judgeDefinition 223 = .ok (.getfield 176, 3) := by decide +kernel
theorem dX10_judgeDefinition_226 : decode cX10_judgeDefinition 226 = .ok (.iload_n 2, 1) := by decide +kernel
theorem dX10_judgeDefinition_227 : decode cX10_judgeDefinition 227 = .ok (.aload_n 0, 1) := by decide +kernel
theorem dX10_judgeDefinition_228 : decode cX10_judgeDefinition 228 = .ok (.getfield 133, 3) := by decide +kernel
theorem dX10_judgeDefinition_231 : decode cX10_judgeDefinition 231 = .ok (.aload_n 0, 1) := by decide +kernel
theorem dX10_judgeDefinition_232 : decode cX10_judgeDefinition 232 = .ok (.getfield 881, 3) := by decide +kernel
theorem dX10_judgeDefinition_235 : decode cX10_judgeDefinition 235 = .ok (.iaload, 1) := by decide +kernel
theorem dX10_judgeDefinition_236 : decode cX10_judgeDefinition 236 = .ok (.iastore, 1) := by decide +kernel
theorem dX10_judgeDefinition_237 : decode cX10_judgeDefinition 237 = .ok (.aload_n 0, 1) := by decide +kernel
theorem dX10_judgeDefinition_238 : decode cX10_judgeDefinition 238 = .ok (.getfield 179, 3) := by decide +kernel
theorem dX10_judgeDefinition_241 : decode cX10_judgeDefinition 241 = .ok (.iload_n 2, 1) := by decide +kernel
theorem dX10_judgeDefinition_242 : decode cX10_judgeDefinition 242 = .ok (.aload_n 0, 1) := by decide +kernel
theorem dX10_judgeDefinition_243 : decode cX10_judgeDefinition 243 = .ok (.getfield 136, 3) := by decide +kernel
theorem dX10_judgeDefinition_246 : decode cX10_judgeDefinition 246 = .ok (.aload_n 0, 1) := by decide +kernel
theorem dX10_judgeDefinition_247 : decode cX10_judgeDefinition 247 = .ok (.getfield 881, 3) := by decide +kernel
theorem dX10_judgeDefinition_250 : decode cX10_judgeDefinition 250 = .ok (.iaload, 1) := by decide +kernel
theorem dX10_judgeDefinition_251 : decode cX10_judgeDefinition 251 = .ok (.iastore, 1) := by decide +kernel
theorem dX10_judgeDefinition_252 : decode cX10_judgeDefinition 252 = .ok (.aload_n 0, 1) := by decide +kernel
theorem dX10_judgeDefinition_253 : decode cX10_judgeDefinition 253 = .ok (.getfield 878, 3) := by decide +kernel
theorem dX10_judgeDefinition_256 : decode cX10_judgeDefinition 256 = .ok (.ifCond .lt 21, 3) := by decide +kernel
theorem dX10_judgeDefinition_259 : decode cX10_judgeDefinition 259 = .ok (.iload_n 3, 1) := by decide +kernel
theorem dX10_judgeDefinition_260 : decode cX10_judgeDefinition 260 = .ok (.ifCond .ne 17, 3) := by decide +kernel
theorem dX10_judgeDefinition_263 : decode cX10_judgeDefinition 263 = .ok (.aload_n 0, 1) := by decide +kernel
theorem dX10_judgeDefinition_264 : decode cX10_judgeDefinition 264 = .ok (.iconst 4, 1) := by decide +kernel
theorem dX10_judgeDefinition_265 : decode cX10_judgeDefinition 265 = .ok (.aload_n 0, 1) := by decide +kernel
theorem dX10_judgeDefinition_266 : decode cX10_judgeDefinition 266 = .ok (.getfield 96, 3) := by decide +kernel
theorem dX10_judgeDefinition_269 : decode cX10_judgeDefinition 269 = .ok (.aload_n 0, 1) := by decide +kernel
theorem dX10_judgeDefinition_270 : decode cX10_judgeDefinition 270 = .ok (.getfield 878, 3) := by decide +kernel
theorem dX10_judgeDefinition_273 : decode cX10_judgeDefinition 273 = .ok (.iaload, 1) := by decide +kernel
theorem dX10_judgeDefinition_274 : decode cX10_judgeDefinition 274 = .ok (.invokevirtual 472, 3) := by decide +kernel
theorem dX10_judgeDefinition_277 : decode cX10_judgeDefinition 277 = .ok (.iconst 0, 1) := by decide +kernel
theorem dX10_judgeDefinition_278 : decode cX10_judgeDefinition 278 = .ok (.istore 4, 2) := by decide +kernel
theorem dX10_judgeDefinition_280 : decode cX10_judgeDefinition 280 = .ok (.iload 4, 2) := by decide +kernel
theorem dX10_judgeDefinition_282 : decode cX10_judgeDefinition 282 = .ok (.iload_n 2, 1) := by decide +kernel
theorem dX10_judgeDefinition_283 : decode cX10_judgeDefinition 283 = .ok (.if_icmp .ge 30, 3) := by decide +kernel
theorem dX10_judgeDefinition_286 : decode cX10_judgeDefinition 286 = .ok (.aload_n 0, 1) := by decide +kernel
theorem dX10_judgeDefinition_287 : decode cX10_judgeDefinition 287 = .ok (.iload_n 2, 1) := by decide +kernel
theorem dX10_judgeDefinition_288 : decode cX10_judgeDefinition 288 = .ok (.iload 4, 2) := by decide +kernel
theorem dX10_judgeDefinition_290 : decode cX10_judgeDefinition 290 = .ok (.invokevirtual 890, 3) := by decide +kernel
theorem dX10_judgeDefinition_293 : decode cX10_judgeDefinition 293 = .ok (.ifCond .eq 14, 3) := by decide +kernel
theorem dX10_judgeDefinition_296 : decode cX10_judgeDefinition 296 = .ok (.aload_n 0, 1) := by decide +kernel
theorem dX10_judgeDefinition_297 : decode cX10_judgeDefinition 297 = .ok (.iconst 5, 1) := by decide +kernel
theorem dX10_judgeDefinition_298 : decode cX10_judgeDefinition 298 = .ok (.aload_n 0, 1) := by decide +kernel
theorem dX10_judgeDefinition_299 : decode cX10_judgeDefinition 299 = .ok (.getfield 96, 3) := by decide +kernel
theorem dX10_judgeDefinition_302 : decode cX10_judgeDefinition 302 = .ok (.iconst 0, 1) := by decide +kernel
theorem dX10_judgeDefinition_303 : decode cX10_judgeDefinition 303 = .ok (.iaload, 1) := by decide +kernel
theorem dX10_judgeDefinition_304 : decode cX10_judgeDefinition 304 = .ok (.invokevirtual 472, 3) := by decide +kernel
theorem dX10_judgeDefinition_307 : decode cX10_judgeDefinition 307 = .ok (.iinc 4 1, 3) := by decide +kernel
theorem dX10_judgeDefinition_310 : decode cX10_judgeDefinition 310 = .ok (.goto (-30), 3) := by decide +kernel
theorem dX10_judgeDefinition_313 : decode cX10_judgeDefinition 313 = .ok (.aload_n 0, 1) := by decide +kernel
theorem dX10_judgeDefinition_314 : decode cX10_judgeDefinition 314 = .ok (.getfield 353, 3) := by decide +kernel
theorem dX10_judgeDefinition_317 : decode cX10_judgeDefinition 317 = .ok (.ifCond .le 4, 3) := by decide +kernel
theorem dX10_judgeDefinition_320 : decode cX10_judgeDefinition 320 = .ok (.return_, 1) := by decide +kernel
theorem dX10_judgeDefinition_321 : decode cX10_judgeDefinition 321 = .ok (.aload_n 0, 1) := by decide +kernel
theorem dX10_judgeDefinition_322 : decode cX10_judgeDefinition 322 = .ok (.getfield 878, 3) := by decide +kernel
theorem dX10_judgeDefinition_325 : decode cX10_judgeDefinition 325 = .ok (.ifCond .ge 15, 3) := by decide +kernel
theorem dX10_judgeDefinition_328 : decode cX10_judgeDefinition 328 = .ok (.aload_n 0, 1) := by decide +kernel
theorem dX10_judgeDefinition_329 : decode cX10_judgeDefinition 329 = .ok (.bipush (-9), 2) := by decide +kernel
theorem dX10_judgeDefinition_331 : decode cX10_judgeDefinition 331 = .ok (.putfield 234, 3) := by decide +kernel
theorem dX10_judgeDefinition_334 : decode cX10_judgeDefinition 334 = .ok (.aload_n 0, 1) := by decide +kernel
theorem dX10_judgeDefinition_335 : decode cX10_judgeDefinition 335 = .ok (.iload_n 1, 1) := by decide +kernel
theorem dX10_judgeDefinition_336 : decode cX10_judgeDefinition 336 = .ok (.invokevirtual 893, 3) := by decide +kernel
theorem dX10_judgeDefinition_339 : decode cX10_judgeDefinition 339 = .ok (.return_, 1) := by decide +kernel
theorem dX10_judgeDefinition_340 : decode cX10_judgeDefinition 340 = .ok (.iconst 0, 1) := by decide +kernel
theorem dX10_judgeDefinition_341 : decode cX10_judgeDefinition 341 = .ok (.istore 4, 2) := by decide +kernel
theorem dX10_judgeDefinition_343 : decode cX10_judgeDefinition 343 = .ok (.iload 4, 2) := by decide +kernel
theorem dX10_judgeDefinition_345 : decode cX10_judgeDefinition 345 = .ok (.iconst 4, 1) := by decide +kernel
theorem dX10_judgeDefinition_346 : decode cX10_judgeDefinition 346 = .ok (.if_icmp .ge 117, 3) := by decide +kernel
theorem dX10_judgeDefinition_349 : decode cX10_judgeDefinition 349 = .ok (.iconst 0, 1) := by decide +kernel
theorem dX10_judgeDefinition_350 : decode cX10_judgeDefinition 350 = .ok (.istore 5, 2) := by decide +kernel
theorem dX10_judgeDefinition_352 : decode cX10_judgeDefinition 352 = .ok (.iload 5, 2) := by decide +kernel
theorem dX10_judgeDefinition_354 : decode cX10_judgeDefinition 354 = .ok (.iconst 3, 1) := by decide +kernel
theorem dX10_judgeDefinition_355 : decode cX10_judgeDefinition 355 = .ok (.if_icmp .ge 102, 3) := by decide +kernel
theorem dX10_judgeDefinition_358 : decode cX10_judgeDefinition 358 = .ok (.iconst 0, 1) := by decide +kernel
theorem dX10_judgeDefinition_359 : decode cX10_judgeDefinition 359 = .ok (.istore 6, 2) := by decide +kernel
theorem dX10_judgeDefinition_361 : decode cX10_judgeDefinition 361 = .ok (.iload 6, 2) := by decide +kernel
theorem dX10_judgeDefinition_363 : decode cX10_judgeDefinition 363 = .ok (.iconst 4, 1) := by decide +kernel
theorem dX10_judgeDefinition_364 : decode cX10_judgeDefinition 364 = .ok (.if_icmp .ge 87, 3) := by decide +kernel
theorem dX10_judgeDefinition_367 : decode cX10_judgeDefinition 367 = .ok (.aload_n 0, 1) := by decide +kernel
theorem dX10_judgeDefinition_368 : decode cX10_judgeDefinition 368 = .ok (.getfield 353, 3) := by decide +kernel
theorem dX10_judgeDefinition_371 : decode cX10_judgeDefinition 371 = .ok (.ifCond .ne 80, 3) := by decide +kernel
theorem dX10_judgeDefinition_374 : decode cX10_judgeDefinition 374 = .ok (.aload_n 0, 1) := by decide +kernel
theorem dX10_judgeDefinition_375 : decode cX10_judgeDefinition 375 = .ok (.iload 4, 2) := by decide +kernel
theorem dX10_judgeDefinition_377 : decode cX10_judgeDefinition 377 = .ok (.ifCond .ne 7, 3) := by decide +kernel
theorem dX10_judgeDefinition_380 : decode cX10_judgeDefinition 380 = .ok (.iconst 0, 1) := by decide +kernel
theorem dX10_judgeDefinition_381 : decode cX10_judgeDefinition 381 = .ok (.goto 28, 3) := by decide +kernel
theorem dX10_judgeDefinition_384 : decode cX10_judgeDefinition 384 = .ok (.iload 4, 2) := by decide +kernel
theorem dX10_judgeDefinition_386 : decode cX10_judgeDefinition 386 = .ok (.iconst 1, 1) := by decide +kernel
theorem dX10_judgeDefinition_387 : decode cX10_judgeDefinition 387 = .ok (.if_icmp .ne 7, 3) := by decide +kernel
theorem dX10_judgeDefinition_390 : decode cX10_judgeDefinition 390 = .ok (.iconst 1, 1) := by decide +kernel
theorem dX10_judgeDefinition_391 : decode cX10_judgeDefinition 391 = .ok (.goto 18, 3) := by decide +kernel
theorem dX10_judgeDefinition_394 : decode cX10_judgeDefinition 394 = .ok (.iload 4, 2) := by decide +kernel
theorem dX10_judgeDefinition_396 : decode cX10_judgeDefinition 396 = .ok (.iconst 2, 1) := by decide +kernel
theorem dX10_judgeDefinition_397 : decode cX10_judgeDefinition 397 = .ok (.if_icmp .ne 9, 3) := by decide +kernel
theorem dX10_judgeDefinition_400 : decode cX10_judgeDefinition 400 = .ok (.sipush 10007, 3) := by decide +kernel
theorem dX10_judgeDefinition_403 : decode cX10_judgeDefinition 403 = .ok (.goto 6, 3) := by decide +kernel
theorem dX10_judgeDefinition_406 : decode cX10_judgeDefinition 406 = .ok (.sipush 10000, 3) := by decide +kernel
theorem dX10_judgeDefinition_409 : decode cX10_judgeDefinition 409 = .ok (.putfield 234, 3) := by decide +kernel
theorem dX10_judgeDefinition_412 : decode cX10_judgeDefinition 412 = .ok (.aload_n 0, 1) := by decide +kernel
theorem dX10_judgeDefinition_413 : decode cX10_judgeDefinition 413 = .ok (.iload 5, 2) := by decide +kernel
theorem dX10_judgeDefinition_415 : decode cX10_judgeDefinition 415 = .ok (.putfield 509, 3) := by decide +kernel
theorem dX10_judgeDefinition_418 : decode cX10_judgeDefinition 418 = .ok (.aload_n 0, 1) := by decide +kernel
theorem dX10_judgeDefinition_419 : decode cX10_judgeDefinition 419 = .ok (.iload 6, 2) := by decide +kernel
theorem dX10_judgeDefinition_421 : decode cX10_judgeDefinition 421 = .ok (.putfield 512, 3) := by decide +kernel
theorem dX10_judgeDefinition_424 : decode cX10_judgeDefinition 424 = .ok (.aload_n 0, 1) := by decide +kernel
theorem dX10_judgeDefinition_425 : decode cX10_judgeDefinition 425 = .ok (.iload_n 2, 1) := by decide +kernel
theorem dX10_judgeDefinition_426 : decode cX10_judgeDefinition 426 = .ok (.aload_n 0, 1) := by decide +kernel
theorem dX10_judgeDefinition_427 : decode cX10_judgeDefinition 427 = .ok (.getfield 234, 3) := by decide +kernel
theorem dX10_judgeDefinition_430 : decode cX10_judgeDefinition 430 = .ok (.iload 5, 2) := by decide +kernel
theorem dX10_judgeDefinition_432 : decode cX10_judgeDefinition 432 = .ok (.iload 6, 2) := by decide +kernel
theorem dX10_judgeDefinition_434 : decode cX10_judgeDefinition 434 = .ok (.invokevirtual 575, 3) := by decide +kernel
theorem dX10_judgeDefinition_437 : decode cX10_judgeDefinition 437 = .ok (.ifCond .eq 8, 3) := by decide +kernel
theorem dX10_judgeDefinition_440 : decode cX10_judgeDefinition 440 = .ok (.aload_n 0, 1) := by decide +kernel
theorem dX10_judgeDefinition_441 : decode cX10_judgeDefinition 441 = .ok (.iload_n 1, 1) := by decide +kernel
theorem dX10_judgeDefinition_442 : decode cX10_judgeDefinition 442 = .ok (.invokevirtual 893, 3) := by decide +kernel
theorem dX10_judgeDefinition_445 : decode cX10_judgeDefinition 445 = .ok (.iinc 6 1, 3) := by decide +kernel
theorem dX10_judgeDefinition_448 : decode cX10_judgeDefinition 448 = .ok (.goto (-87), 3) := by decide +kernel
theorem dX10_judgeDefinition_451 : decode cX10_judgeDefinition 451 = .ok (.iinc 5 1, 3) := by decide +kernel
theorem dX10_judgeDefinition_454 : decode cX10_judgeDefinition 454 = .ok (.goto (-102), 3) := by decide +kernel
theorem dX10_judgeDefinition_457 : decode cX10_judgeDefinition 457 = .ok (.iinc 4 1, 3) := by decide +kernel
theorem dX10_judgeDefinition_460 : decode cX10_judgeDefinition 460 = .ok (.goto (-117), 3) := by decide +kernel
theorem dX10_judgeDefinition_463 : decode cX10_judgeDefinition 463 = .ok (.return_, 1) := by decide +kernel
/-! AlgebraHouseModel.judgeDefinition(I)V -/
def P_X10_judgeDefinition_127 (Q : Int → MM → Prop) (K15 : Int → Int → Int → Int → MM → Prop) : Nat → Int → Int → Int → Int → Int → Int → MM → Prop
  | 0, _, _, _, _, _, _, _ => False
  | n + 1, x1, x2, x3, x4, x6, x7, m => (RI x7) ∧ (RI x4) ∧ (if x4 ≤ x7 then K15 x1 x2 x3 (x4 + 1) m else (0 ≤ ((3 * x2) + x7) ∧ ((3 * x2) + x7) < 63) ∧ (0 ≤ x6 ∧ x6 < 63) ∧ (RL (m 608 ((3 * x2) + x7))) ∧ (RL (m 608 x6)) ∧ (if (m 608 ((3 * x2) + x7)) = (m 608 x6) then (0 ≤ x4 ∧ x4 < 3) ∧ (0 ≤ (m 651 x4) ∧ (m 651 x4) < 420) ∧ P_X10_note 5 (m 588 (m 651 x4)) m (fun r1 m1 => P_X10_judgeDefinition_127 Q K15 n x1 x2 x3 x4 x6 (x7 + 1) m1) else P_X10_judgeDefinition_127 Q K15 n x1 x2 x3 x4 x6 (x7 + 1) m))
def P_X10_judgeDefinition_118 (Q : Int → MM → Prop) (K15 : Int → Int → Int → Int → MM → Prop) (x1 : Int) (x2 : Int) (x4 : Int) (x6 : Int) (m : MM) : Prop := ∃ nn, P_X10_judgeDefinition_127 Q K15 nn x1 x2 1 x4 x6 0 m
def P_X10_judgeDefinition_361 (Q : Int → MM → Prop) (K343 : Int → Int → Int → MM → Prop) (K352 : Int → Int → Int → Int → MM → Prop) : Nat → Int → Int → Int → Int → Int → MM → Prop
  | 0, _, _, _, _, _, _ => False
  | n + 1, x1, x2, x4, x5, x6, m => (RI x6) ∧ (if 4 ≤ x6 then K352 x1 x2 x4 (x5 + 1) m else (RI (m 582 13)) ∧ (if (m 582 13) = 0 then ((RI x4)) ∧ ∀ m1 : MM, m1 = up m 582 62 (if x4 = 0 then 0 else (if x4 = 1 then 1 else (if x4 = 2 then 10007 else 10000 : Int) : Int) : Int) → ∀ m2 : MM, m2 = up m1 582 63 x5 → ∀ m3 : MM, m3 = up m2 582 64 x6 → P_X10_canBe x2 (m3 582 62) x5 x6 m3 (fun r1 m4 => (RI r1) ∧ (if r1 = 0 then P_X10_judgeDefinition_361 Q K343 K352 n x1 x2 x4 x5 (x6 + 1) m4 else P_X10_judgeBody x1 m4 (fun r2 m5 => P_X10_judgeDefinition_361 Q K343 K352 n x1 x2 x4 x5 (x6 + 1) m5))) else K352 x1 x2 x4 (x5 + 1) m))
def P_X10_judgeDefinition_352 (Q : Int → MM → Prop) (K343 : Int → Int → Int → MM → Prop) : Nat → Int → Int → Int → Int → MM → Prop
  | 0, _, _, _, _, _ => False
  | n + 1, x1, x2, x4, x5, m => (RI x5) ∧ (if 3 ≤ x5 then K343 x1 x2 (x4 + 1) m else ∃ nn, P_X10_judgeDefinition_361 Q K343 (fun z0 z1 z2 z3 z4 => P_X10_judgeDefinition_352 Q K343 n z0 z1 z2 z3 z4) nn x1 x2 x4 x5 0 m)
def P_X10_judgeDefinition_343 (Q : Int → MM → Prop) : Nat → Int → Int → Int → MM → Prop
  | 0, _, _, _, _ => False
  | n + 1, x1, x2, x4, m => (RI x4) ∧ (if 4 ≤ x4 then Q 0 m else ∃ nn, P_X10_judgeDefinition_352 Q (fun z0 z1 z2 z3 => P_X10_judgeDefinition_343 Q n z0 z1 z2 z3) nn x1 x2 x4 0 m)
def P_X10_judgeDefinition_313 (Q : Int → MM → Prop) (x1 : Int) (x2 : Int) (m : MM) : Prop := (RI (m 582 13)) ∧ (if (m 582 13) ≤ 0 then (RI (m 582 113)) ∧ (if 0 ≤ (m 582 113) then ∃ nn, P_X10_judgeDefinition_343 Q nn x1 x2 0 m else ∀ m1 : MM, m1 = up m 582 62 (-9) → P_X10_judgeBody x1 m1 (fun r1 m2 => Q 0 m2)) else Q 0 m)
def P_X10_judgeDefinition_280 (Q : Int → MM → Prop) : Nat → Int → Int → Int → MM → Prop
  | 0, _, _, _, _ => False
  | n + 1, x1, x2, x4, m => (RI x4) ∧ (RI x2) ∧ (if x2 ≤ x4 then P_X10_judgeDefinition_313 Q x1 x2 m else P_X10_isTwin x2 x4 m (fun r1 m1 => (RI r1) ∧ (if r1 = 0 then P_X10_judgeDefinition_280 Q n x1 x2 (x4 + 1) m1 else P_X10_note 5 (m1 588 0) m1 (fun r2 m2 => P_X10_judgeDefinition_280 Q n x1 x2 (x4 + 1) m2))))
def P_X10_judgeDefinition_185 (Q : Int → MM → Prop) (x1 : Int) (x2 : Int) (x3 : Int) (m : MM) : Prop := P_X10_judgeHead (m 582 112) m (fun r1 m1 => R_X10_hasR 20 0 [(m1 582 112)] m1 (fun r2 m2 => (0 ≤ x2 ∧ x2 < 21) ∧ (r2 = 0 ∨ r2 = 1) ∧ ∀ m3 : MM, m3 = up m2 621 x2 r2 → (0 ≤ (m3 582 112) ∧ (m3 582 112) < 12000) ∧ ∀ m4 : MM, m4 = up m3 612 x2 (m3 598 (m3 582 112)) → (0 ≤ (m4 582 112) ∧ (m4 582 112) < 12000) ∧ ∀ m5 : MM, m5 = up m4 613 x2 (m4 599 (m4 582 112)) → (0 ≤ (m5 582 112) ∧ (m5 582 112) < 12000) ∧ ∀ m6 : MM, m6 = up m5 614 x2 (m5 600 (m5 582 112)) → (RI (m6 582 113)) ∧ (if (m6 582 113) < 0 then ∃ nn, P_X10_judgeDefinition_280 Q nn x1 x2 0 m6 else (RI x3) ∧ (if x3 = 0 then (0 ≤ (m6 582 113) ∧ (m6 582 113) < 420) ∧ P_X10_note 4 (m6 588 (m6 582 113)) m6 (fun r3 m7 => ∃ nn, P_X10_judgeDefinition_280 Q nn x1 x2 0 m7) else ∃ nn, P_X10_judgeDefinition_280 Q nn x1 x2 0 m6))) (fun _ => False))
def P_X10_judgeDefinition_15 (Q : Int → MM → Prop) : Nat → Int → Int → Int → Int → MM → Prop
  | 0, _, _, _, _, _ => False
  | n + 1, x1, x2, x3, x4, m => (0 ≤ x2 ∧ x2 < 21) ∧ (RI x4) ∧ (RI (m 609 x2)) ∧ (if (m 609 x2) ≤ x4 then P_X10_judgeDefinition_185 Q x1 x2 x3 m else (0 ≤ x4 ∧ x4 < 3) ∧ P_X10_judgeHead (m 652 x4) m (fun r1 m1 => R_X10_hasR 20 0 [(m 652 x4)] m1 (fun r2 m2 => (0 ≤ ((3 * x2) + x4) ∧ ((3 * x2) + x4) < 63) ∧ (r2 = 0 ∨ r2 = 1) ∧ ∀ m3 : MM, m3 = up m2 622 ((3 * x2) + x4) r2 → (0 ≤ (m 652 x4) ∧ (m 652 x4) < 12000) ∧ ∀ m4 : MM, m4 = up m3 615 ((3 * x2) + x4) (m3 598 (m 652 x4)) → ∀ m5 : MM, m5 = up m4 616 ((3 * x2) + x4) (m4 599 (m 652 x4)) → ∀ m6 : MM, m6 = up m5 617 ((3 * x2) + x4) (m5 600 (m 652 x4)) → (RI x3) ∧ (if x3 = 0 then (RI (m6 622 ((3 * x2) + x4))) ∧ (if (m6 622 ((3 * x2) + x4)) = 0 then ∃ nn, P_X10_judgeDefinition_127 Q (fun z0 z1 z2 z3 z4 => P_X10_judgeDefinition_15 Q n z0 z1 z2 z3 z4) nn x1 x2 0 x4 ((3 * x2) + x4) 0 m6 else P_X10_judgeDefinition_118 Q (fun z0 z1 z2 z3 z4 => P_X10_judgeDefinition_15 Q n z0 z1 z2 z3 z4) x1 x2 x4 ((3 * x2) + x4) m6) else P_X10_judgeDefinition_118 Q (fun z0 z1 z2 z3 z4 => P_X10_judgeDefinition_15 Q n z0 z1 z2 z3 z4) x1 x2 x4 ((3 * x2) + x4) m6)) (fun _ => False)))
def P_X10_judgeDefinition (x1 : Int) (m : MM) (Q : Int → MM → Prop) : Prop := ∀ m1 : MM, m1 = up m 582 61 (m 582 32) → ∃ nn, P_X10_judgeDefinition_15 Q nn x1 (m 582 32) 0 0 m1
theorem pl_X10_judgeDefinition_127 {f : Nat} {Q : Int → MM → Prop} {T : MM → Prop} (hf : 326 ≤ f) {K15 : Int → Int → Int → Int → MM → Prop} (hK15 : ∀ (x1 : Int) (x2 : Int) (x3 : Int) (x4 : Int) (m : MM), K15 x1 x2 x3 x4 m → B f M_X10_judgeDefinition 15 [vR 582, vI x1, vI x2, vI x3, vI x4, vU, vU, vU] [] m Q T) : ∀ (n : Nat) (x1 : Int) (x2 : Int) (x3 : Int) (x4 : Int) (x6 : Int) (x7 : Int) (m : MM), P_X10_judgeDefinition_127 Q K15 n x1 x2 x3 x4 x6 x7 m → B f M_X10_judgeDefinition 127 [vR 582, vI x1, vI x2, vI x3, vI x4, vU, vI x6, vI x7] [] m Q T := by
  intro n
  induction n with
  | zero => intro x1 x2 x3 x4 x6 x7 m h; exact h.elim
  | succ n ih =>
    intro x1 x2 x3 x4 x6 x7 m h
    have h : (RI x7) ∧ (RI x4) ∧ (if x4 ≤ x7 then K15 x1 x2 x3 (x4 + 1) m else (0 ≤ ((3 * x2) + x7) ∧ ((3 * x2) + x7) < 63) ∧ (0 ≤ x6 ∧ x6 < 63) ∧ (RL (m 608 ((3 * x2) + x7))) ∧ (RL (m 608 x6)) ∧ (if (m 608 ((3 * x2) + x7)) = (m 608 x6) then (0 ≤ x4 ∧ x4 < 3) ∧ (0 ≤ (m 651 x4) ∧ (m 651 x4) < 420) ∧ P_X10_note 5 (m 588 (m 651 x4)) m (fun r1 m1 => P_X10_judgeDefinition_127 Q K15 n x1 x2 x3 x4 x6 (x7 + 1) m1) else P_X10_judgeDefinition_127 Q K15 n x1 x2 x3 x4 x6 (x7 + 1) m)) := h
    refine b_iload dX10_judgeDefinition_127 rfl ?_
    refine b_iload dX10_judgeDefinition_129 rfl ?_
    obtain ⟨g1, h⟩ := h
    obtain ⟨g2, h⟩ := h
    refine b_icmp_ge 179 dX10_judgeDefinition_131 g1 g2 (by decide) (fun c1 => ?_) (fun c1 => ?_)
    · have h := ifT c1 h
      refine b_iinc (ls' := [vR 582, vI x1, vI x2, vI x3, vI (x4 + 1), vU, vI x6, vI x7]) dX10_judgeDefinition_179 rfl rfl ?_
      refine b_goto 15 dX10_judgeDefinition_182 (by decide) ?_
      refine b_fgt [true, true, true, true, true, false, false, false] (ls' := [vR 582, vI x1, vI x2, vI x3, vI (x4 + 1), vU, vU, vU]) rfl rfl ?_
      exact hK15 _ _ _ _ _ h
    · have h := ifF c1 h
      refine b_aload_n dX10_judgeDefinition_134 rfl ?_
      refine b_getR dX10_judgeDefinition_135 fk_X10_161 ly_582 gg_582_37 ?_
      refine b_iconst dX10_judgeDefinition_138 ?_
      refine b_iload_n dX10_judgeDefinition_139 rfl ?_
      refine b_imul dX10_judgeDefinition_140 ?_
      refine b_iload dX10_judgeDefinition_141 rfl ?_
      refine b_iadd dX10_judgeDefinition_143 ?_
      obtain ⟨g3, h⟩ := h
      refine b_lald dX10_judgeDefinition_144 ly_608 g3 ?_
      refine b_aload_n dX10_judgeDefinition_145 rfl ?_
      refine b_getR dX10_judgeDefinition_146 fk_X10_161 ly_582 gg_582_37 ?_
      refine b_iload dX10_judgeDefinition_149 rfl ?_
      obtain ⟨g4, h⟩ := h
      refine b_lald dX10_judgeDefinition_151 ly_608 g4 ?_
      obtain ⟨g5, h⟩ := h
      obtain ⟨g6, h⟩ := h
      refine b_lc_ne 173 dX10_judgeDefinition_152 dX10_judgeDefinition_153 g5 g6 (by decide) (fun c2 => ?_) (fun c2 => ?_)
      · have h := ifF c2 h
        refine b_iinc (ls' := [vR 582, vI x1, vI x2, vI x3, vI x4, vU, vI x6, vI (x7 + 1)]) dX10_judgeDefinition_173 rfl rfl ?_
        refine b_goto 127 dX10_judgeDefinition_176 (by decide) ?_
        exact ih _ _ _ _ _ _ _ h
      · have h := ifT (Decidable.of_not_not c2) h
        refine b_aload_n dX10_judgeDefinition_156 rfl ?_
        refine b_iconst dX10_judgeDefinition_157 ?_
        refine b_aload_n dX10_judgeDefinition_158 rfl ?_
        refine b_getR dX10_judgeDefinition_159 fk_X10_96 ly_582 gg_582_6 ?_
        refine b_aload_n dX10_judgeDefinition_162 rfl ?_
        refine b_getR dX10_judgeDefinition_163 fk_X10_304 ly_582 gg_582_114 ?_
        refine b_iload dX10_judgeDefinition_166 rfl ?_
        obtain ⟨g7, h⟩ := h
        refine b_iald dX10_judgeDefinition_168 ly_651 g7 ?_
        obtain ⟨g8, h⟩ := h
        refine b_iald dX10_judgeDefinition_169 ly_588 g8 ?_
        refine b_cVv (as := [vI 5, vI (m 588 (m 651 x4))]) (st := []) dX10_judgeDefinition_170 mf_X10_note qs129 lk_X10_472 ly_582 rfl (p_X10_note (f := 1) (Nat.le_refl _) _ _ _ h) (by omega) rfl rfl (Nat.le_of_ble_eq_true rfl) (by decide) rfl (fun _ => rfl) (fun r1 m1 h => ?_) (fun _ h => h)
        refine b_iinc (ls' := [vR 582, vI x1, vI x2, vI x3, vI x4, vU, vI x6, vI (x7 + 1)]) dX10_judgeDefinition_173 rfl rfl ?_
        refine b_goto 127 dX10_judgeDefinition_176 (by decide) ?_
        exact ih _ _ _ _ _ _ _ h
theorem pl_X10_judgeDefinition_118 {f : Nat} {Q : Int → MM → Prop} {T : MM → Prop} (hf : 326 ≤ f) {K15 : Int → Int → Int → Int → MM → Prop} (hK15 : ∀ (x1 : Int) (x2 : Int) (x3 : Int) (x4 : Int) (m : MM), K15 x1 x2 x3 x4 m → B f M_X10_judgeDefinition 15 [vR 582, vI x1, vI x2, vI x3, vI x4, vU, vU, vU] [] m Q T) : ∀ (x1 : Int) (x2 : Int) (x4 : Int) (x6 : Int) (m : MM), P_X10_judgeDefinition_118 Q K15 x1 x2 x4 x6 m → B f M_X10_judgeDefinition 118 [vR 582, vI x1, vI x2, vU, vI x4, vU, vI x6, vU] [] m Q T := by
  intro x1 x2 x4 x6 m h
  have h : ∃ nn, P_X10_judgeDefinition_127 Q K15 nn x1 x2 1 x4 x6 0 m := h
  refine b_iconst dX10_judgeDefinition_118 ?_
  refine b_goto 123 dX10_judgeDefinition_119 (by decide) ?_
  refine b_istore_n (ls' := [vR 582, vI x1, vI x2, vI 1, vI x4, vU, vI x6, vU]) dX10_judgeDefinition_123 (Nat.le_of_ble_eq_true rfl) rfl ?_
  refine b_iconst dX10_judgeDefinition_124 ?_
  refine b_istore (ls' := [vR 582, vI x1, vI x2, vI 1, vI x4, vU, vI x6, vI 0]) dX10_judgeDefinition_125 (Nat.le_of_ble_eq_true rfl) rfl ?_
  obtain ⟨nn, h⟩ := h
  exact pl_X10_judgeDefinition_127 hf hK15 nn _ _ _ _ _ _ _ h
theorem pl_X10_judgeDefinition_361 {f : Nat} {Q : Int → MM → Prop} {T : MM → Prop} (hf : 326 ≤ f) {K343 : Int → Int → Int → MM → Prop} {K352 : Int → Int → Int → Int → MM → Prop} (hK343 : ∀ (x1 : Int) (x2 : Int) (x4 : Int) (m : MM), K343 x1 x2 x4 m → B f M_X10_judgeDefinition 343 [vR 582, vI x1, vI x2, vU, vI x4, vU, vU, vU] [] m Q T) (hK352 : ∀ (x1 : Int) (x2 : Int) (x4 : Int) (x5 : Int) (m : MM), K352 x1 x2 x4 x5 m → B f M_X10_judgeDefinition 352 [vR 582, vI x1, vI x2, vU, vI x4, vI x5, vU, vU] [] m Q T) : ∀ (n : Nat) (x1 : Int) (x2 : Int) (x4 : Int) (x5 : Int) (x6 : Int) (m : MM), P_X10_judgeDefinition_361 Q K343 K352 n x1 x2 x4 x5 x6 m → B f M_X10_judgeDefinition 361 [vR 582, vI x1, vI x2, vU, vI x4, vI x5, vI x6, vU] [] m Q T := by
  intro n
  induction n with
  | zero => intro x1 x2 x4 x5 x6 m h; exact h.elim
  | succ n ih =>
    intro x1 x2 x4 x5 x6 m h
    have h : (RI x6) ∧ (if 4 ≤ x6 then K352 x1 x2 x4 (x5 + 1) m else (RI (m 582 13)) ∧ (if (m 582 13) = 0 then ((RI x4)) ∧ ∀ m1 : MM, m1 = up m 582 62 (if x4 = 0 then 0 else (if x4 = 1 then 1 else (if x4 = 2 then 10007 else 10000 : Int) : Int) : Int) → ∀ m2 : MM, m2 = up m1 582 63 x5 → ∀ m3 : MM, m3 = up m2 582 64 x6 → P_X10_canBe x2 (m3 582 62) x5 x6 m3 (fun r1 m4 => (RI r1) ∧ (if r1 = 0 then P_X10_judgeDefinition_361 Q K343 K352 n x1 x2 x4 x5 (x6 + 1) m4 else P_X10_judgeBody x1 m4 (fun r2 m5 => P_X10_judgeDefinition_361 Q K343 K352 n x1 x2 x4 x5 (x6 + 1) m5))) else K352 x1 x2 x4 (x5 + 1) m)) := h
    refine b_iload dX10_judgeDefinition_361 rfl ?_
    refine b_iconst dX10_judgeDefinition_363 ?_
    obtain ⟨g1, h⟩ := h
    refine b_icmp_ge 451 dX10_judgeDefinition_364 g1 (by decide) (by decide) (fun c1 => ?_) (fun c1 => ?_)
    · have h := ifT c1 h
      refine b_iinc (ls' := [vR 582, vI x1, vI x2, vU, vI x4, vI (x5 + 1), vI x6, vU]) dX10_judgeDefinition_451 rfl rfl ?_
      refine b_goto 352 dX10_judgeDefinition_454 (by decide) ?_
      refine b_fgt [true, true, true, false, true, true, false, false] (ls' := [vR 582, vI x1, vI x2, vU, vI x4, vI (x5 + 1), vU, vU]) rfl rfl ?_
      exact hK352 _ _ _ _ _ h
    · have h := ifF c1 h
      refine b_aload_n dX10_judgeDefinition_367 rfl ?_
      refine b_getI dX10_judgeDefinition_368 fk_X10_353 ly_582 ?_
      obtain ⟨g2, h⟩ := h
      refine b_if_ne 451 dX10_judgeDefinition_371 g2 (by decide) (fun c2 => ?_) (fun c2 => ?_)
      · have h := ifF c2 h
        refine b_iinc (ls' := [vR 582, vI x1, vI x2, vU, vI x4, vI (x5 + 1), vI x6, vU]) dX10_judgeDefinition_451 rfl rfl ?_
        refine b_goto 352 dX10_judgeDefinition_454 (by decide) ?_
        refine b_fgt [true, true, true, false, true, true, false, false] (ls' := [vR 582, vI x1, vI x2, vU, vI x4, vI (x5 + 1), vU, vU]) rfl rfl ?_
        exact hK352 _ _ _ _ _ h
      · have h := ifT (Decidable.of_not_not c2) h
        refine b_aload_n dX10_judgeDefinition_374 rfl ?_
        refine b_iload dX10_judgeDefinition_375 rfl ?_
        obtain ⟨hs, h⟩ := h
        have K : B f M_X10_judgeDefinition 409 [vR 582, vI x1, vI x2, vU, vI x4, vI x5, vI x6, vU] [vI (if x4 = 0 then 0 else (if x4 = 1 then 1 else (if x4 = 2 then 10007 else 10000 : Int) : Int) : Int), vR 582] m Q T := by
          clear hs
          refine b_putI dX10_judgeDefinition_409 fk_X10_234 ly_582 (fun m1 em1 => ?_)
          have h := h m1 em1
          refine b_aload_n dX10_judgeDefinition_412 rfl ?_
          refine b_iload dX10_judgeDefinition_413 rfl ?_
          refine b_putI dX10_judgeDefinition_415 fk_X10_509 ly_582 (fun m2 em2 => ?_)
          have h := h m2 em2
          refine b_aload_n dX10_judgeDefinition_418 rfl ?_
          refine b_iload dX10_judgeDefinition_419 rfl ?_
          refine b_putI dX10_judgeDefinition_421 fk_X10_512 ly_582 (fun m3 em3 => ?_)
          have h := h m3 em3
          refine b_aload_n dX10_judgeDefinition_424 rfl ?_
          refine b_iload_n dX10_judgeDefinition_425 rfl ?_
          refine b_aload_n dX10_judgeDefinition_426 rfl ?_
          refine b_getI dX10_judgeDefinition_427 fk_X10_234 ly_582 ?_
          refine b_iload dX10_judgeDefinition_430 rfl ?_
          refine b_iload dX10_judgeDefinition_432 rfl ?_
          refine b_cVi (as := [vI x2, vI (m3 582 62), vI x5, vI x6]) (st := []) dX10_judgeDefinition_434 mf_X10_canBe qs144 lk_X10_575 ly_582 rfl (p_X10_canBe (f := 2) (Nat.le_refl _) _ _ _ _ _ h) (by omega) rfl rfl (Nat.le_of_ble_eq_true rfl) (by decide) rfl (fun _ => rfl) (fun r1 m4 h => ?_) (fun _ h => h)
          obtain ⟨g4, h⟩ := h
          refine b_if_eq 445 dX10_judgeDefinition_437 g4 (by decide) (fun c3 => ?_) (fun c3 => ?_)
          · have h := ifT c3 h
            refine b_iinc (ls' := [vR 582, vI x1, vI x2, vU, vI x4, vI x5, vI (x6 + 1), vU]) dX10_judgeDefinition_445 rfl rfl ?_
            refine b_goto 361 dX10_judgeDefinition_448 (by decide) ?_
            exact ih _ _ _ _ _ _ h
          · have h := ifF c3 h
            refine b_aload_n dX10_judgeDefinition_440 rfl ?_
            refine b_iload_n dX10_judgeDefinition_441 rfl ?_
            refine b_cVv (as := [vI x1]) (st := []) dX10_judgeDefinition_442 mf_X10_judgeBody qs133 lk_X10_893 ly_582 rfl (p_X10_judgeBody (f := 325) (Nat.le_refl _) _ _ h) (by omega) rfl rfl (Nat.le_of_ble_eq_true rfl) (by decide) rfl (fun _ => rfl) (fun r2 m5 h => ?_) (fun _ h => h)
            refine b_iinc (ls' := [vR 582, vI x1, vI x2, vU, vI x4, vI x5, vI (x6 + 1), vU]) dX10_judgeDefinition_445 rfl rfl ?_
            refine b_goto 361 dX10_judgeDefinition_448 (by decide) ?_
            exact ih _ _ _ _ _ _ h
        have g3 := hs
        refine b_if_ne 384 dX10_judgeDefinition_377 g3 (by decide) (fun c4 => ?_) (fun c4 => ?_)
        ·
          refine b_iload dX10_judgeDefinition_384 rfl ?_
          refine b_iconst dX10_judgeDefinition_386 ?_
          refine b_icmp_ne 394 dX10_judgeDefinition_387 g3 (by decide) (by decide) (fun c5 => ?_) (fun c5 => ?_)
          ·
            refine b_iload dX10_judgeDefinition_394 rfl ?_
            refine b_iconst dX10_judgeDefinition_396 ?_
            refine b_icmp_ne 406 dX10_judgeDefinition_397 g3 (by decide) (by decide) (fun c6 => ?_) (fun c6 => ?_)
            ·
              refine b_sipush dX10_judgeDefinition_406 (by decide) ?_
              exact Eq.mp (congrArg (fun z => B f M_X10_judgeDefinition 409 [vR 582, vI x1, vI x2, vU, vI x4, vI x5, vI x6, vU] (vI z :: [vR 582]) m Q T) (show (if x4 = 0 then 0 else (if x4 = 1 then 1 else (if x4 = 2 then 10007 else 10000 : Int) : Int) : Int) = 10000 by rw [if_neg c4, if_neg c5, if_neg c6])) K
            ·
              have c6 := Decidable.of_not_not c6
              refine b_sipush dX10_judgeDefinition_400 (by decide) ?_
              refine b_goto 409 dX10_judgeDefinition_403 (by decide) ?_
              exact Eq.mp (congrArg (fun z => B f M_X10_judgeDefinition 409 [vR 582, vI x1, vI x2, vU, vI x4, vI x5, vI x6, vU] (vI z :: [vR 582]) m Q T) (show (if x4 = 0 then 0 else (if x4 = 1 then 1 else (if x4 = 2 then 10007 else 10000 : Int) : Int) : Int) = 10007 by rw [if_neg c4, if_neg c5, if_pos c6])) K
          ·
            have c5 := Decidable.of_not_not c5
            refine b_iconst dX10_judgeDefinition_390 ?_
            refine b_goto 409 dX10_judgeDefinition_391 (by decide) ?_
            exact Eq.mp (congrArg (fun z => B f M_X10_judgeDefinition 409 [vR 582, vI x1, vI x2, vU, vI x4, vI x5, vI x6, vU] (vI z :: [vR 582]) m Q T) (show (if x4 = 0 then 0 else (if x4 = 1 then 1 else (if x4 = 2 then 10007 else 10000 : Int) : Int) : Int) = 1 by rw [if_neg c4, if_pos c5])) K
        ·
          have c4 := Decidable.of_not_not c4
          refine b_iconst dX10_judgeDefinition_380 ?_
          refine b_goto 409 dX10_judgeDefinition_381 (by decide) ?_
          exact Eq.mp (congrArg (fun z => B f M_X10_judgeDefinition 409 [vR 582, vI x1, vI x2, vU, vI x4, vI x5, vI x6, vU] (vI z :: [vR 582]) m Q T) (show (if x4 = 0 then 0 else (if x4 = 1 then 1 else (if x4 = 2 then 10007 else 10000 : Int) : Int) : Int) = 0 by rw [if_pos c4])) K
theorem pl_X10_judgeDefinition_352 {f : Nat} {Q : Int → MM → Prop} {T : MM → Prop} (hf : 326 ≤ f) {K343 : Int → Int → Int → MM → Prop} (hK343 : ∀ (x1 : Int) (x2 : Int) (x4 : Int) (m : MM), K343 x1 x2 x4 m → B f M_X10_judgeDefinition 343 [vR 582, vI x1, vI x2, vU, vI x4, vU, vU, vU] [] m Q T) : ∀ (n : Nat) (x1 : Int) (x2 : Int) (x4 : Int) (x5 : Int) (m : MM), P_X10_judgeDefinition_352 Q K343 n x1 x2 x4 x5 m → B f M_X10_judgeDefinition 352 [vR 582, vI x1, vI x2, vU, vI x4, vI x5, vU, vU] [] m Q T := by
  intro n
  induction n with
  | zero => intro x1 x2 x4 x5 m h; exact h.elim
  | succ n ih =>
    intro x1 x2 x4 x5 m h
    have h : (RI x5) ∧ (if 3 ≤ x5 then K343 x1 x2 (x4 + 1) m else ∃ nn, P_X10_judgeDefinition_361 Q K343 (fun z0 z1 z2 z3 z4 => P_X10_judgeDefinition_352 Q K343 n z0 z1 z2 z3 z4) nn x1 x2 x4 x5 0 m) := h
    refine b_iload dX10_judgeDefinition_352 rfl ?_
    refine b_iconst dX10_judgeDefinition_354 ?_
    obtain ⟨g1, h⟩ := h
    refine b_icmp_ge 457 dX10_judgeDefinition_355 g1 (by decide) (by decide) (fun c1 => ?_) (fun c1 => ?_)
    · have h := ifT c1 h
      refine b_iinc (ls' := [vR 582, vI x1, vI x2, vU, vI (x4 + 1), vI x5, vU, vU]) dX10_judgeDefinition_457 rfl rfl ?_
      refine b_goto 343 dX10_judgeDefinition_460 (by decide) ?_
      refine b_fgt [true, true, true, false, true, false, false, false] (ls' := [vR 582, vI x1, vI x2, vU, vI (x4 + 1), vU, vU, vU]) rfl rfl ?_
      exact hK343 _ _ _ _ h
    · have h := ifF c1 h
      refine b_iconst dX10_judgeDefinition_358 ?_
      refine b_istore (ls' := [vR 582, vI x1, vI x2, vU, vI x4, vI x5, vI 0, vU]) dX10_judgeDefinition_359 (Nat.le_of_ble_eq_true rfl) rfl ?_
      obtain ⟨nn, h⟩ := h
      exact pl_X10_judgeDefinition_361 hf hK343 (fun _ _ _ _ _ h => ih _ _ _ _ _ h) nn _ _ _ _ _ _ h
theorem pl_X10_judgeDefinition_343 {f : Nat} {Q : Int → MM → Prop} {T : MM → Prop} (hf : 326 ≤ f) : ∀ (n : Nat) (x1 : Int) (x2 : Int) (x4 : Int) (m : MM), P_X10_judgeDefinition_343 Q n x1 x2 x4 m → B f M_X10_judgeDefinition 343 [vR 582, vI x1, vI x2, vU, vI x4, vU, vU, vU] [] m Q T := by
  intro n
  induction n with
  | zero => intro x1 x2 x4 m h; exact h.elim
  | succ n ih =>
    intro x1 x2 x4 m h
    have h : (RI x4) ∧ (if 4 ≤ x4 then Q 0 m else ∃ nn, P_X10_judgeDefinition_352 Q (fun z0 z1 z2 z3 => P_X10_judgeDefinition_343 Q n z0 z1 z2 z3) nn x1 x2 x4 0 m) := h
    refine b_iload dX10_judgeDefinition_343 rfl ?_
    refine b_iconst dX10_judgeDefinition_345 ?_
    obtain ⟨g1, h⟩ := h
    refine b_icmp_ge 463 dX10_judgeDefinition_346 g1 (by decide) (by decide) (fun c1 => ?_) (fun c1 => ?_)
    · have h := ifT c1 h
      exact b_vret dX10_judgeDefinition_463 rfl h
    · have h := ifF c1 h
      refine b_iconst dX10_judgeDefinition_349 ?_
      refine b_istore (ls' := [vR 582, vI x1, vI x2, vU, vI x4, vI 0, vU, vU]) dX10_judgeDefinition_350 (Nat.le_of_ble_eq_true rfl) rfl ?_
      obtain ⟨nn, h⟩ := h
      exact pl_X10_judgeDefinition_352 hf (fun _ _ _ _ h => ih _ _ _ _ h) nn _ _ _ _ _ h
theorem pl_X10_judgeDefinition_313 {f : Nat} {Q : Int → MM → Prop} {T : MM → Prop} (hf : 326 ≤ f) : ∀ (x1 : Int) (x2 : Int) (m : MM), P_X10_judgeDefinition_313 Q x1 x2 m → B f M_X10_judgeDefinition 313 [vR 582, vI x1, vI x2, vU, vU, vU, vU, vU] [] m Q T := by
  intro x1 x2 m h
  have h : (RI (m 582 13)) ∧ (if (m 582 13) ≤ 0 then (RI (m 582 113)) ∧ (if 0 ≤ (m 582 113) then ∃ nn, P_X10_judgeDefinition_343 Q nn x1 x2 0 m else ∀ m1 : MM, m1 = up m 582 62 (-9) → P_X10_judgeBody x1 m1 (fun r1 m2 => Q 0 m2)) else Q 0 m) := h
  refine b_aload_n dX10_judgeDefinition_313 rfl ?_
  refine b_getI dX10_judgeDefinition_314 fk_X10_353 ly_582 ?_
  obtain ⟨g1, h⟩ := h
  refine b_if_le 321 dX10_judgeDefinition_317 g1 (by decide) (fun c1 => ?_) (fun c1 => ?_)
  · have h := ifT c1 h
    refine b_aload_n dX10_judgeDefinition_321 rfl ?_
    refine b_getI dX10_judgeDefinition_322 fk_X10_878 ly_582 ?_
    obtain ⟨g2, h⟩ := h
    refine b_if_ge 340 dX10_judgeDefinition_325 g2 (by decide) (fun c2 => ?_) (fun c2 => ?_)
    · have h := ifT c2 h
      refine b_iconst dX10_judgeDefinition_340 ?_
      refine b_istore (ls' := [vR 582, vI x1, vI x2, vU, vI 0, vU, vU, vU]) dX10_judgeDefinition_341 (Nat.le_of_ble_eq_true rfl) rfl ?_
      obtain ⟨nn, h⟩ := h
      exact pl_X10_judgeDefinition_343 hf nn _ _ _ _ h
    · have h := ifF c2 h
      refine b_aload_n dX10_judgeDefinition_328 rfl ?_
      refine b_bipush dX10_judgeDefinition_329 (by decide) ?_
      refine b_putI dX10_judgeDefinition_331 fk_X10_234 ly_582 (fun m1 em1 => ?_)
      have h := h m1 em1
      refine b_aload_n dX10_judgeDefinition_334 rfl ?_
      refine b_iload_n dX10_judgeDefinition_335 rfl ?_
      refine b_cVv (as := [vI x1]) (st := []) dX10_judgeDefinition_336 mf_X10_judgeBody qs133 lk_X10_893 ly_582 rfl (p_X10_judgeBody (f := 325) (Nat.le_refl _) _ _ h) (by omega) rfl rfl (Nat.le_of_ble_eq_true rfl) (by decide) rfl (fun _ => rfl) (fun r1 m2 h => ?_) (fun _ h => h)
      exact b_vret dX10_judgeDefinition_339 rfl h
  · have h := ifF c1 h
    exact b_vret dX10_judgeDefinition_320 rfl h
theorem pl_X10_judgeDefinition_280 {f : Nat} {Q : Int → MM → Prop} {T : MM → Prop} (hf : 326 ≤ f) : ∀ (n : Nat) (x1 : Int) (x2 : Int) (x4 : Int) (m : MM), P_X10_judgeDefinition_280 Q n x1 x2 x4 m → B f M_X10_judgeDefinition 280 [vR 582, vI x1, vI x2, vU, vI x4, vU, vU, vU] [] m Q T := by
  intro n
  induction n with
  | zero => intro x1 x2 x4 m h; exact h.elim
  | succ n ih =>
    intro x1 x2 x4 m h
    have h : (RI x4) ∧ (RI x2) ∧ (if x2 ≤ x4 then P_X10_judgeDefinition_313 Q x1 x2 m else P_X10_isTwin x2 x4 m (fun r1 m1 => (RI r1) ∧ (if r1 = 0 then P_X10_judgeDefinition_280 Q n x1 x2 (x4 + 1) m1 else P_X10_note 5 (m1 588 0) m1 (fun r2 m2 => P_X10_judgeDefinition_280 Q n x1 x2 (x4 + 1) m2)))) := h
    refine b_iload dX10_judgeDefinition_280 rfl ?_
    refine b_iload_n dX10_judgeDefinition_282 rfl ?_
    obtain ⟨g1, h⟩ := h
    obtain ⟨g2, h⟩ := h
    refine b_icmp_ge 313 dX10_judgeDefinition_283 g1 g2 (by decide) (fun c1 => ?_) (fun c1 => ?_)
    · have h := ifT c1 h
      refine b_fgt [true, true, true, false, false, false, false, false] (ls' := [vR 582, vI x1, vI x2, vU, vU, vU, vU, vU]) rfl rfl ?_
      exact pl_X10_judgeDefinition_313 hf _ _ _ h
    · have h := ifF c1 h
      refine b_aload_n dX10_judgeDefinition_286 rfl ?_
      refine b_iload_n dX10_judgeDefinition_287 rfl ?_
      refine b_iload dX10_judgeDefinition_288 rfl ?_
      refine b_cVi (as := [vI x2, vI x4]) (st := []) dX10_judgeDefinition_290 mf_X10_isTwin qs132 lk_X10_890 ly_582 rfl (p_X10_isTwin (f := 1) (Nat.le_refl _) _ _ _ h) (by omega) rfl rfl (Nat.le_of_ble_eq_true rfl) (by decide) rfl (fun _ => rfl) (fun r1 m1 h => ?_) (fun _ h => h)
      obtain ⟨g3, h⟩ := h
      refine b_if_eq 307 dX10_judgeDefinition_293 g3 (by decide) (fun c2 => ?_) (fun c2 => ?_)
      · have h := ifT c2 h
        refine b_iinc (ls' := [vR 582, vI x1, vI x2, vU, vI (x4 + 1), vU, vU, vU]) dX10_judgeDefinition_307 rfl rfl ?_
        refine b_goto 280 dX10_judgeDefinition_310 (by decide) ?_
        exact ih _ _ _ _ h
      · have h := ifF c2 h
        refine b_aload_n dX10_judgeDefinition_296 rfl ?_
        refine b_iconst dX10_judgeDefinition_297 ?_
        refine b_aload_n dX10_judgeDefinition_298 rfl ?_
        refine b_getR dX10_judgeDefinition_299 fk_X10_96 ly_582 gg_582_6 ?_
        refine b_iconst dX10_judgeDefinition_302 ?_
        refine b_iald dX10_judgeDefinition_303 ly_588 (by decide) ?_
        refine b_cVv (as := [vI 5, vI (m1 588 0)]) (st := []) dX10_judgeDefinition_304 mf_X10_note qs129 lk_X10_472 ly_582 rfl (p_X10_note (f := 1) (Nat.le_refl _) _ _ _ h) (by omega) rfl rfl (Nat.le_of_ble_eq_true rfl) (by decide) rfl (fun _ => rfl) (fun r2 m2 h => ?_) (fun _ h => h)
        refine b_iinc (ls' := [vR 582, vI x1, vI x2, vU, vI (x4 + 1), vU, vU, vU]) dX10_judgeDefinition_307 rfl rfl ?_
        refine b_goto 280 dX10_judgeDefinition_310 (by decide) ?_
        exact ih _ _ _ _ h
theorem pl_X10_judgeDefinition_185 {f : Nat} {Q : Int → MM → Prop} {T : MM → Prop} (hf : 326 ≤ f) : ∀ (x1 : Int) (x2 : Int) (x3 : Int) (m : MM), P_X10_judgeDefinition_185 Q x1 x2 x3 m → B f M_X10_judgeDefinition 185 [vR 582, vI x1, vI x2, vI x3, vU, vU, vU, vU] [] m Q T := by
  intro x1 x2 x3 m h
  have h : P_X10_judgeHead (m 582 112) m (fun r1 m1 => R_X10_hasR 20 0 [(m1 582 112)] m1 (fun r2 m2 => (0 ≤ x2 ∧ x2 < 21) ∧ (r2 = 0 ∨ r2 = 1) ∧ ∀ m3 : MM, m3 = up m2 621 x2 r2 → (0 ≤ (m3 582 112) ∧ (m3 582 112) < 12000) ∧ ∀ m4 : MM, m4 = up m3 612 x2 (m3 598 (m3 582 112)) → (0 ≤ (m4 582 112) ∧ (m4 582 112) < 12000) ∧ ∀ m5 : MM, m5 = up m4 613 x2 (m4 599 (m4 582 112)) → (0 ≤ (m5 582 112) ∧ (m5 582 112) < 12000) ∧ ∀ m6 : MM, m6 = up m5 614 x2 (m5 600 (m5 582 112)) → (RI (m6 582 113)) ∧ (if (m6 582 113) < 0 then ∃ nn, P_X10_judgeDefinition_280 Q nn x1 x2 0 m6 else (RI x3) ∧ (if x3 = 0 then (0 ≤ (m6 582 113) ∧ (m6 582 113) < 420) ∧ P_X10_note 4 (m6 588 (m6 582 113)) m6 (fun r3 m7 => ∃ nn, P_X10_judgeDefinition_280 Q nn x1 x2 0 m7) else ∃ nn, P_X10_judgeDefinition_280 Q nn x1 x2 0 m6))) (fun _ => False)) := h
  refine b_aload_n dX10_judgeDefinition_185 rfl ?_
  refine b_aload_n dX10_judgeDefinition_186 rfl ?_
  refine b_getI dX10_judgeDefinition_187 fk_X10_881 ly_582 ?_
  refine b_cVv (as := [vI (m 582 112)]) (st := []) dX10_judgeDefinition_190 mf_X10_judgeHead qs126 lk_X10_887 ly_582 rfl (p_X10_judgeHead (f := 24) (Nat.le_refl _) _ _ h) (by omega) rfl rfl (Nat.le_of_ble_eq_true rfl) (by decide) rfl (fun _ => rfl) (fun r1 m1 h => ?_) (fun _ h => h)
  refine b_aload_n dX10_judgeDefinition_193 rfl ?_
  refine b_getR dX10_judgeDefinition_194 fk_X10_200 ly_582 gg_582_50 ?_
  refine b_iload_n dX10_judgeDefinition_197 rfl ?_
  refine b_aload_n dX10_judgeDefinition_198 rfl ?_
  refine b_aload_n dX10_judgeDefinition_199 rfl ?_
  refine b_getI dX10_judgeDefinition_200 fk_X10_881 ly_582 ?_
  refine b_cVi (as := [vI (m1 582 112)]) (st := [vI x2, vR 621]) dX10_judgeDefinition_203 mf_X10_hasR qs131 lk_X10_520 ly_582 rfl ((pr_X10_hasR 20 21 (Nat.le_refl _)).1 _ _ _ _ h) (by omega) rfl rfl (Nat.le_of_ble_eq_true rfl) (by decide) rfl (fun _ => rfl) (fun r2 m2 h => ?_) (fun _ h => h.elim)
  obtain ⟨g1, h⟩ := h
  obtain ⟨g2, h⟩ := h
  refine b_zast dX10_judgeDefinition_206 ly_621 g1 g2 (fun m3 em3 => ?_)
  have h := h m3 em3
  refine b_aload_n dX10_judgeDefinition_207 rfl ?_
  refine b_getR dX10_judgeDefinition_208 fk_X10_173 ly_582 gg_582_41 ?_
  refine b_iload_n dX10_judgeDefinition_211 rfl ?_
  refine b_aload_n dX10_judgeDefinition_212 rfl ?_
  refine b_getR dX10_judgeDefinition_213 fk_X10_130 ly_582 gg_582_24 ?_
  refine b_aload_n dX10_judgeDefinition_216 rfl ?_
  refine b_getI dX10_judgeDefinition_217 fk_X10_881 ly_582 ?_
  obtain ⟨g3, h⟩ := h
  refine b_iald dX10_judgeDefinition_220 ly_598 g3 ?_
  refine b_iast dX10_judgeDefinition_221 ly_612 g1 (fun m4 em4 => ?_)
  have h := h m4 em4
  refine b_aload_n dX10_judgeDefinition_222 rfl ?_
  refine b_getR dX10_judgeDefinition_223 fk_X10_176 ly_582 gg_582_42 ?_
  refine b_iload_n dX10_judgeDefinition_226 rfl ?_
  refine b_aload_n dX10_judgeDefinition_227 rfl ?_
  refine b_getR dX10_judgeDefinition_228 fk_X10_133 ly_582 gg_582_25 ?_
  refine b_aload_n dX10_judgeDefinition_231 rfl ?_
  refine b_getI dX10_judgeDefinition_232 fk_X10_881 ly_582 ?_
  obtain ⟨g4, h⟩ := h
  refine b_iald dX10_judgeDefinition_235 ly_599 g4 ?_
  refine b_iast dX10_judgeDefinition_236 ly_613 g1 (fun m5 em5 => ?_)
  have h := h m5 em5
  refine b_aload_n dX10_judgeDefinition_237 rfl ?_
  refine b_getR dX10_judgeDefinition_238 fk_X10_179 ly_582 gg_582_43 ?_
  refine b_iload_n dX10_judgeDefinition_241 rfl ?_
  refine b_aload_n dX10_judgeDefinition_242 rfl ?_
  refine b_getR dX10_judgeDefinition_243 fk_X10_136 ly_582 gg_582_26 ?_
  refine b_aload_n dX10_judgeDefinition_246 rfl ?_
  refine b_getI dX10_judgeDefinition_247 fk_X10_881 ly_582 ?_
  obtain ⟨g5, h⟩ := h
  refine b_iald dX10_judgeDefinition_250 ly_600 g5 ?_
  refine b_iast dX10_judgeDefinition_251 ly_614 g1 (fun m6 em6 => ?_)
  have h := h m6 em6
  refine b_aload_n dX10_judgeDefinition_252 rfl ?_
  refine b_getI dX10_judgeDefinition_253 fk_X10_878 ly_582 ?_
  obtain ⟨g6, h⟩ := h
  refine b_if_lt 277 dX10_judgeDefinition_256 g6 (by decide) (fun c1 => ?_) (fun c1 => ?_)
  · have h := ifT c1 h
    refine b_iconst dX10_judgeDefinition_277 ?_
    refine b_istore (ls' := [vR 582, vI x1, vI x2, vI x3, vI 0, vU, vU, vU]) dX10_judgeDefinition_278 (Nat.le_of_ble_eq_true rfl) rfl ?_
    refine b_fgt [true, true, true, false, true, false, false, false] (ls' := [vR 582, vI x1, vI x2, vU, vI 0, vU, vU, vU]) rfl rfl ?_
    obtain ⟨nn, h⟩ := h
    exact pl_X10_judgeDefinition_280 hf nn _ _ _ _ h
  · have h := ifF c1 h
    refine b_iload_n dX10_judgeDefinition_259 rfl ?_
    obtain ⟨g7, h⟩ := h
    refine b_if_ne 277 dX10_judgeDefinition_260 g7 (by decide) (fun c2 => ?_) (fun c2 => ?_)
    · have h := ifF c2 h
      refine b_iconst dX10_judgeDefinition_277 ?_
      refine b_istore (ls' := [vR 582, vI x1, vI x2, vI x3, vI 0, vU, vU, vU]) dX10_judgeDefinition_278 (Nat.le_of_ble_eq_true rfl) rfl ?_
      refine b_fgt [true, true, true, false, true, false, false, false] (ls' := [vR 582, vI x1, vI x2, vU, vI 0, vU, vU, vU]) rfl rfl ?_
      obtain ⟨nn, h⟩ := h
      exact pl_X10_judgeDefinition_280 hf nn _ _ _ _ h
    · have h := ifT (Decidable.of_not_not c2) h
      refine b_aload_n dX10_judgeDefinition_263 rfl ?_
      refine b_iconst dX10_judgeDefinition_264 ?_
      refine b_aload_n dX10_judgeDefinition_265 rfl ?_
      refine b_getR dX10_judgeDefinition_266 fk_X10_96 ly_582 gg_582_6 ?_
      refine b_aload_n dX10_judgeDefinition_269 rfl ?_
      refine b_getI dX10_judgeDefinition_270 fk_X10_878 ly_582 ?_
      obtain ⟨g8, h⟩ := h
      refine b_iald dX10_judgeDefinition_273 ly_588 g8 ?_
      refine b_cVv (as := [vI 4, vI (m6 588 (m6 582 113))]) (st := []) dX10_judgeDefinition_274 mf_X10_note qs129 lk_X10_472 ly_582 rfl (p_X10_note (f := 1) (Nat.le_refl _) _ _ _ h) (by omega) rfl rfl (Nat.le_of_ble_eq_true rfl) (by decide) rfl (fun _ => rfl) (fun r3 m7 h => ?_) (fun _ h => h)
      refine b_iconst dX10_judgeDefinition_277 ?_
      refine b_istore (ls' := [vR 582, vI x1, vI x2, vI x3, vI 0, vU, vU, vU]) dX10_judgeDefinition_278 (Nat.le_of_ble_eq_true rfl) rfl ?_
      refine b_fgt [true, true, true, false, true, false, false, false] (ls' := [vR 582, vI x1, vI x2, vU, vI 0, vU, vU, vU]) rfl rfl ?_
      obtain ⟨nn, h⟩ := h
      exact pl_X10_judgeDefinition_280 hf nn _ _ _ _ h
theorem pl_X10_judgeDefinition_15 {f : Nat} {Q : Int → MM → Prop} {T : MM → Prop} (hf : 326 ≤ f) : ∀ (n : Nat) (x1 : Int) (x2 : Int) (x3 : Int) (x4 : Int) (m : MM), P_X10_judgeDefinition_15 Q n x1 x2 x3 x4 m → B f M_X10_judgeDefinition 15 [vR 582, vI x1, vI x2, vI x3, vI x4, vU, vU, vU] [] m Q T := by
  intro n
  induction n with
  | zero => intro x1 x2 x3 x4 m h; exact h.elim
  | succ n ih =>
    intro x1 x2 x3 x4 m h
    have h : (0 ≤ x2 ∧ x2 < 21) ∧ (RI x4) ∧ (RI (m 609 x2)) ∧ (if (m 609 x2) ≤ x4 then P_X10_judgeDefinition_185 Q x1 x2 x3 m else (0 ≤ x4 ∧ x4 < 3) ∧ P_X10_judgeHead (m 652 x4) m (fun r1 m1 => R_X10_hasR 20 0 [(m 652 x4)] m1 (fun r2 m2 => (0 ≤ ((3 * x2) + x4) ∧ ((3 * x2) + x4) < 63) ∧ (r2 = 0 ∨ r2 = 1) ∧ ∀ m3 : MM, m3 = up m2 622 ((3 * x2) + x4) r2 → (0 ≤ (m 652 x4) ∧ (m 652 x4) < 12000) ∧ ∀ m4 : MM, m4 = up m3 615 ((3 * x2) + x4) (m3 598 (m 652 x4)) → ∀ m5 : MM, m5 = up m4 616 ((3 * x2) + x4) (m4 599 (m 652 x4)) → ∀ m6 : MM, m6 = up m5 617 ((3 * x2) + x4) (m5 600 (m 652 x4)) → (RI x3) ∧ (if x3 = 0 then (RI (m6 622 ((3 * x2) + x4))) ∧ (if (m6 622 ((3 * x2) + x4)) = 0 then ∃ nn, P_X10_judgeDefinition_127 Q (fun z0 z1 z2 z3 z4 => P_X10_judgeDefinition_15 Q n z0 z1 z2 z3 z4) nn x1 x2 0 x4 ((3 * x2) + x4) 0 m6 else P_X10_judgeDefinition_118 Q (fun z0 z1 z2 z3 z4 => P_X10_judgeDefinition_15 Q n z0 z1 z2 z3 z4) x1 x2 x4 ((3 * x2) + x4) m6) else P_X10_judgeDefinition_118 Q (fun z0 z1 z2 z3 z4 => P_X10_judgeDefinition_15 Q n z0 z1 z2 z3 z4) x1 x2 x4 ((3 * x2) + x4) m6)) (fun _ => False))) := h
    refine b_iload dX10_judgeDefinition_15 rfl ?_
    refine b_aload_n dX10_judgeDefinition_17 rfl ?_
    refine b_getR dX10_judgeDefinition_18 fk_X10_164 ly_582 gg_582_38 ?_
    refine b_iload_n dX10_judgeDefinition_21 rfl ?_
    obtain ⟨g1, h⟩ := h
    refine b_iald dX10_judgeDefinition_22 ly_609 g1 ?_
    obtain ⟨g2, h⟩ := h
    obtain ⟨g3, h⟩ := h
    refine b_icmp_ge 185 dX10_judgeDefinition_23 g2 g3 (by decide) (fun c1 => ?_) (fun c1 => ?_)
    · have h := ifT c1 h
      refine b_fgt [true, true, true, true, false, false, false, false] (ls' := [vR 582, vI x1, vI x2, vI x3, vU, vU, vU, vU]) rfl rfl ?_
      exact pl_X10_judgeDefinition_185 hf _ _ _ _ h
    · have h := ifF c1 h
      refine b_aload_n dX10_judgeDefinition_26 rfl ?_
      refine b_getR dX10_judgeDefinition_27 fk_X10_307 ly_582 gg_582_115 ?_
      refine b_iload dX10_judgeDefinition_30 rfl ?_
      obtain ⟨g4, h⟩ := h
      refine b_iald dX10_judgeDefinition_32 ly_652 g4 ?_
      refine b_istore (ls' := [vR 582, vI x1, vI x2, vI x3, vI x4, vI (m 652 x4), vU, vU]) dX10_judgeDefinition_33 (Nat.le_of_ble_eq_true rfl) rfl ?_
      refine b_iconst dX10_judgeDefinition_35 ?_
      refine b_iload_n dX10_judgeDefinition_36 rfl ?_
      refine b_imul dX10_judgeDefinition_37 ?_
      refine b_iload dX10_judgeDefinition_38 rfl ?_
      refine b_iadd dX10_judgeDefinition_40 ?_
      refine b_istore (ls' := [vR 582, vI x1, vI x2, vI x3, vI x4, vI (m 652 x4), vI ((3 * x2) + x4), vU]) dX10_judgeDefinition_41 (Nat.le_of_ble_eq_true rfl) rfl ?_
      refine b_aload_n dX10_judgeDefinition_43 rfl ?_
      refine b_iload dX10_judgeDefinition_44 rfl ?_
      refine b_cVv (as := [vI (m 652 x4)]) (st := []) dX10_judgeDefinition_46 mf_X10_judgeHead qs126 lk_X10_887 ly_582 rfl (p_X10_judgeHead (f := 24) (Nat.le_refl _) _ _ h) (by omega) rfl rfl (Nat.le_of_ble_eq_true rfl) (by decide) rfl (fun _ => rfl) (fun r1 m1 h => ?_) (fun _ h => h)
      refine b_aload_n dX10_judgeDefinition_49 rfl ?_
      refine b_getR dX10_judgeDefinition_50 fk_X10_203 ly_582 gg_582_51 ?_
      refine b_iload dX10_judgeDefinition_53 rfl ?_
      refine b_aload_n dX10_judgeDefinition_55 rfl ?_
      refine b_iload dX10_judgeDefinition_56 rfl ?_
      refine b_cVi (as := [vI (m 652 x4)]) (st := [vI ((3 * x2) + x4), vR 622]) dX10_judgeDefinition_58 mf_X10_hasR qs131 lk_X10_520 ly_582 rfl ((pr_X10_hasR 20 21 (Nat.le_refl _)).1 _ _ _ _ h) (by omega) rfl rfl (Nat.le_of_ble_eq_true rfl) (by decide) rfl (fun _ => rfl) (fun r2 m2 h => ?_) (fun _ h => h.elim)
      obtain ⟨g5, h⟩ := h
      obtain ⟨g6, h⟩ := h
      refine b_zast dX10_judgeDefinition_61 ly_622 g5 g6 (fun m3 em3 => ?_)
      have h := h m3 em3
      refine b_aload_n dX10_judgeDefinition_62 rfl ?_
      refine b_getR dX10_judgeDefinition_63 fk_X10_182 ly_582 gg_582_44 ?_
      refine b_iload dX10_judgeDefinition_66 rfl ?_
      refine b_aload_n dX10_judgeDefinition_68 rfl ?_
      refine b_getR dX10_judgeDefinition_69 fk_X10_130 ly_582 gg_582_24 ?_
      refine b_iload dX10_judgeDefinition_72 rfl ?_
      obtain ⟨g7, h⟩ := h
      refine b_iald dX10_judgeDefinition_74 ly_598 g7 ?_
      refine b_iast dX10_judgeDefinition_75 ly_615 g5 (fun m4 em4 => ?_)
      have h := h m4 em4
      refine b_aload_n dX10_judgeDefinition_76 rfl ?_
      refine b_getR dX10_judgeDefinition_77 fk_X10_185 ly_582 gg_582_45 ?_
      refine b_iload dX10_judgeDefinition_80 rfl ?_
      refine b_aload_n dX10_judgeDefinition_82 rfl ?_
      refine b_getR dX10_judgeDefinition_83 fk_X10_133 ly_582 gg_582_25 ?_
      refine b_iload dX10_judgeDefinition_86 rfl ?_
      refine b_iald dX10_judgeDefinition_88 ly_599 g7 ?_
      refine b_iast dX10_judgeDefinition_89 ly_616 g5 (fun m5 em5 => ?_)
      have h := h m5 em5
      refine b_aload_n dX10_judgeDefinition_90 rfl ?_
      refine b_getR dX10_judgeDefinition_91 fk_X10_188 ly_582 gg_582_46 ?_
      refine b_iload dX10_judgeDefinition_94 rfl ?_
      refine b_aload_n dX10_judgeDefinition_96 rfl ?_
      refine b_getR dX10_judgeDefinition_97 fk_X10_136 ly_582 gg_582_26 ?_
      refine b_iload dX10_judgeDefinition_100 rfl ?_
      refine b_iald dX10_judgeDefinition_102 ly_600 g7 ?_
      refine b_iast dX10_judgeDefinition_103 ly_617 g5 (fun m6 em6 => ?_)
      have h := h m6 em6
      refine b_iload_n dX10_judgeDefinition_104 rfl ?_
      obtain ⟨g8, h⟩ := h
      refine b_if_ne 118 dX10_judgeDefinition_105 g8 (by decide) (fun c2 => ?_) (fun c2 => ?_)
      · have h := ifF c2 h
        refine b_fgt [true, true, true, false, true, false, true, false] (ls' := [vR 582, vI x1, vI x2, vU, vI x4, vU, vI ((3 * x2) + x4), vU]) rfl rfl ?_
        exact pl_X10_judgeDefinition_118 hf (fun _ _ _ _ _ h => ih _ _ _ _ _ h) _ _ _ _ _ h
      · have h := ifT (Decidable.of_not_not c2) h
        refine b_aload_n dX10_judgeDefinition_108 rfl ?_
        refine b_getR dX10_judgeDefinition_109 fk_X10_203 ly_582 gg_582_51 ?_
        refine b_iload dX10_judgeDefinition_112 rfl ?_
        refine b_zald dX10_judgeDefinition_114 ly_622 g5 ?_
        obtain ⟨g9, h⟩ := h
        refine b_if_eq 122 dX10_judgeDefinition_115 g9 (by decide) (fun c3 => ?_) (fun c3 => ?_)
        · have h := ifT c3 h
          refine b_iconst dX10_judgeDefinition_122 ?_
          refine b_istore_n (ls' := [vR 582, vI x1, vI x2, vI 0, vI x4, vI (m 652 x4), vI ((3 * x2) + x4), vU]) dX10_judgeDefinition_123 (Nat.le_of_ble_eq_true rfl) rfl ?_
          refine b_iconst dX10_judgeDefinition_124 ?_
          refine b_istore (ls' := [vR 582, vI x1, vI x2, vI 0, vI x4, vI (m 652 x4), vI ((3 * x2) + x4), vI 0]) dX10_judgeDefinition_125 (Nat.le_of_ble_eq_true rfl) rfl ?_
          refine b_fgt [true, true, true, true, true, false, true, true] (ls' := [vR 582, vI x1, vI x2, vI 0, vI x4, vU, vI ((3 * x2) + x4), vI 0]) rfl rfl ?_
          obtain ⟨nn, h⟩ := h
          exact pl_X10_judgeDefinition_127 hf (fun _ _ _ _ _ h => ih _ _ _ _ _ h) nn _ _ _ _ _ _ _ h
        · have h := ifF c3 h
          refine b_fgt [true, true, true, false, true, false, true, false] (ls' := [vR 582, vI x1, vI x2, vU, vI x4, vU, vI ((3 * x2) + x4), vU]) rfl rfl ?_
          exact pl_X10_judgeDefinition_118 hf (fun _ _ _ _ _ h => ih _ _ _ _ _ h) _ _ _ _ _ h
theorem p_X10_judgeDefinition {f : Nat} {Q : Int → MM → Prop} {T : MM → Prop} (hf : 326 ≤ f) (x1 : Int) (m : MM) (h : P_X10_judgeDefinition x1 m Q) : CC f M_X10_judgeDefinition [vR 582, vI x1] m Q T := by
  refine CC.of (plainFor_of_name (by decide)) (Nat.le_of_ble_eq_true rfl) (ls := [vR 582, vI x1, vU, vU, vU, vU, vU, vU]) rfl ?_
  have h : ∀ m1 : MM, m1 = up m 582 61 (m 582 32) → ∃ nn, P_X10_judgeDefinition_15 Q nn x1 (m 582 32) 0 0 m1 := h
  refine b_aload_n dX10_judgeDefinition_0 rfl ?_
  refine b_getI dX10_judgeDefinition_1 fk_X10_591 ly_582 ?_
  refine b_istore_n (ls' := [vR 582, vI x1, vI (m 582 32), vU, vU, vU, vU, vU]) dX10_judgeDefinition_4 (Nat.le_of_ble_eq_true rfl) rfl ?_
  refine b_aload_n dX10_judgeDefinition_5 rfl ?_
  refine b_iload_n dX10_judgeDefinition_6 rfl ?_
  refine b_putI dX10_judgeDefinition_7 fk_X10_231 ly_582 (fun m1 em1 => ?_)
  have h := h m1 em1
  refine b_iconst dX10_judgeDefinition_10 ?_
  refine b_istore_n (ls' := [vR 582, vI x1, vI (m 582 32), vI 0, vU, vU, vU, vU]) dX10_judgeDefinition_11 (Nat.le_of_ble_eq_true rfl) rfl ?_
  refine b_iconst dX10_judgeDefinition_12 ?_
  refine b_istore (ls' := [vR 582, vI x1, vI (m 582 32), vI 0, vI 0, vU, vU, vU]) dX10_judgeDefinition_13 (Nat.le_of_ble_eq_true rfl) rfl ?_
  obtain ⟨nn, h⟩ := h
  exact pl_X10_judgeDefinition_15 hf nn _ _ _ _ _ h
theorem dX10_keep_0 : decode cX10_keep 0 = .ok (.aload_n 0, 1) := by decide +kernel
theorem dX10_keep_1 : decode cX10_keep 1 = .ok (.aload_n 0, 1) := by decide +kernel
theorem dX10_keep_2 : decode cX10_keep 2 = .ok (.getfield 523, 3) := by decide +kernel
theorem dX10_keep_5 : decode cX10_keep 5 = .ok (.putfield 301, 3) := by decide +kernel
theorem dX10_keep_8 : decode cX10_keep 8 = .ok (.aload_n 0, 1) := by decide +kernel
theorem dX10_keep_9 : decode cX10_keep 9 = .ok (.dup, 1) := by decide +kernel
theorem dX10_keep_10 : decode cX10_keep 10 = .ok (.getfield 523, 3) := by decide +kernel
theorem dX10_keep_13 : decode cX10_keep 13 = .ok (.iconst 1, 1) := by decide +kernel
theorem dX10_keep_14 : decode cX10_keep 14 = .ok (.iadd, 1) := by decide +kernel
theorem dX10_keep_15 : decode cX10_keep 15 = .ok (.putfield 523, 3) := by decide +kernel
theorem dX10_keep_18 : decode cX10_keep 18 = .ok (.aload_n 0, 1) := by decide +kernel
theorem dX10_keep_19 : decode cX10_keep 19 = .ok (.getfield 215, 3) := by decide +kernel
theorem dX10_keep_22 : decode cX10_keep 22 = .ok (.aload_n 0, 1) := by decide +kernel
theorem dX10_keep_23 : decode cX10_keep 23 = .ok (.getfield 301, 3) := by decide +kernel
theorem dX10_keep_26 : decode cX10_keep 26 = .ok (.aload_n 0, 1) := by decide +kernel
theorem dX10_keep_27 : decode cX10_keep 27 = .ok (.getfield 130, 3) := by decide +kernel
theorem dX10_keep_30 : decode cX10_keep 30 = .ok (.iload_n 1, 1) := by decide +kernel
theorem dX10_keep_31 : decode cX10_keep 31 = .ok (.iaload, 1) := by decide +kernel
theorem dX10_keep_32 : decode cX10_keep 32 = .ok (.iastore, 1) := by decide +kernel
theorem dX10_keep_33 : decode cX10_keep 33 = .ok (.aload_n 0, 1) := by decide +kernel
theorem dX10_keep_34 : decode cX10_keep 34 = .ok (.getfield 218, 3) := by decide +kernel
theorem dX10_keep_37 : decode cX10_keep 37 = .ok (.aload_n 0, 1) := by decide +kernel
theorem dX10_keep_38 : decode cX10_keep 38 = .ok (.getfield 301, 3) := by decide +kernel
theorem dX10_keep_41 : decode cX10_keep 41 = .ok (.aload_n 0, 1) := by decide +kernel
theorem dX10_keep_42 : decode cX10_keep 42 = .ok (.getfield 133, 3) := by decide +kernel
theorem dX10_keep_45 : decode cX10_keep 45 = .ok (.iload_n 1, 1) := by decide +kernel
theorem dX10_keep_46 : decode cX10_keep 46 = .ok (.iaload, 1) := by decide +kernel
theorem dX10_keep_47 : decode cX10_keep 47 = .ok (.iastore, 1) := by decide +kernel
theorem dX10_keep_48 : decode cX10_keep 48 = .ok (.aload_n 0, 1) := by decide +kernel
theorem dX10_keep_49 : decode cX10_keep 49 = .ok (.getfield 221, 3) := by decide +kernel
theorem dX10_keep_52 : decode cX10_keep 52 = .ok (.aload_n 0, 1) := by decide +kernel
theorem dX10_keep_53 : decode cX10_keep 53 = .ok (.getfield 301, 3) := by decide +kernel
theorem dX10_keep_56 : decode cX10_keep 56 = .ok (.aload_n 0, 1) := by decide +kernel
theorem dX10_keep_57 : decode cX10_keep 57 = .ok (.getfield 136, 3) := by decide +kernel
theorem dX10_keep_60 : decode cX10_keep 60 = .ok (.iload_n 1, 1) := by decide +kernel
theorem dX10_keep_61 : decode cX10_keep 61 = .ok (.iaload, 1) := by decide +kernel
theorem dX10_keep_62 : decode cX10_keep 62 = .ok (.iastore, 1) := by decide +kernel
theorem dX10_keep_63 : decode cX10_keep 63 = .ok (.iconst 0, 1) := by decide +kernel
theorem dX10_keep_64 : decode cX10_keep 64 = .ok (.istore 4, 2) := by decide +kernel
theorem dX10_keep_66 : decode cX10_keep 66 = .ok (.iload 4, 2) := by decide +kernel
theorem dX10_keep_68 : decode cX10_keep 68 = .ok (.sipush 882, 3) := by decide +kernel
theorem dX10_keep_71 : decode cX10_keep 71 = .ok (.if_icmp .ge 32, 3) := by decide +kernel
theorem dX10_keep_74 : decode cX10_keep 74 = .ok (.aload_n 0, 1) := by decide +kernel
theorem dX10_keep_75 : decode cX10_keep 75 = .ok (.getfield 225, 3) := by decide +kernel
theorem dX10_keep_78 : decode cX10_keep 78 = .ok (.sipush 882, 3) := by decide +kernel
theorem dX10_keep_81 : decode cX10_keep 81 = .ok (.aload_n 0, 1) := by decide +kernel
theorem dX10_keep_82 : decode cX10_keep 82 = .ok (.getfield 301, 3) := by decide +kernel
theorem dX10_keep_85 : decode cX10_keep 85 = .ok (.imul, 1) := by decide +kernel
theorem dX10_keep_86 : decode cX10_keep 86 = .ok (.iload 4, 2) := by decide +kernel
theorem dX10_keep_88 : decode cX10_keep 88 = .ok (.iadd, 1) := by decide +kernel
theorem dX10_keep_89 : decode cX10_keep 89 = .ok (.aload_n 0, 1) := by decide +kernel
theorem dX10_keep_90 : decode cX10_keep 90 = .ok (.getfield 250, 3) := by decide +kernel
theorem dX10_keep_93 : decode cX10_keep 93 = .ok (.iload 4, 2) := by decide +kernel
theorem dX10_keep_95 : decode cX10_keep 95 = .ok (.laload, 1) := by decide +kernel
theorem dX10_keep_96 : decode cX10_keep 96 = .ok (.lastore, 1) := by decide +kernel
theorem dX10_keep_97 : decode cX10_keep 97 = .ok (.iinc 4 1, 3) := by decide +kernel
theorem dX10_keep_100 : decode cX10_keep 100 = .ok (.goto (-34), 3) := by decide +kernel
theorem dX10_keep_103 : decode cX10_keep 103 = .ok (.iload_n 2, 1) := by decide +kernel
theorem dX10_keep_104 : decode cX10_keep 104 = .ok (.ifCond .ne 4, 3) := by decide +kernel
theorem dX10_keep_107 : decode cX10_keep 107 = .ok (.return_, 1) := by decide +kernel
theorem dX10_keep_108 : decode cX10_keep 108 = .ok (.iload_n 3, 1) := by decide +kernel
theorem dX10_keep_109 : decode cX10_keep 109 = .ok (.ifCond .ge 10, 3) := by decide +kernel
theorem dX10_keep_112 : decode cX10_keep 112 = .ok (.aload_n 0, 1) := by decide +kernel
theorem dX10_keep_113 : decode cX10_keep 113 = .ok (.getfield 554, 3) := by decide +kernel
theorem dX10_keep_116 : decode cX10_keep 116 = .ok (.goto 4, 3) := by decide +kernel
theorem dX10_keep_119 : decode cX10_keep 119 = .ok (.iload_n 3, 1) := by decide +kernel
theorem dX10_keep_120 : decode cX10_keep 120 = .ok (.istore 4, 2) := by decide +kernel
theorem dX10_keep_122 : decode cX10_keep 122 = .ok (.iload_n 3, 1) := by decide +kernel
theorem dX10_keep_123 : decode cX10_keep 123 = .ok (.ifCond .ge 13, 3) := by decide +kernel
theorem dX10_keep_126 : decode cX10_keep 126 = .ok (.aload_n 0, 1) := by decide +kernel
theorem dX10_keep_127 : decode cX10_keep 127 = .ok (.dup, 1) := by decide +kernel
theorem dX10_keep_128 : decode cX10_keep 128 = .ok (.getfield 554, 3) := by decide +kernel
theorem dX10_keep_131 : decode cX10_keep 131 = .ok (.iconst 1, 1) := by decide +kernel
theorem dX10_keep_132 : decode cX10_keep 132 = .ok (.iadd, 1) := by decide +kernel
theorem dX10_keep_133 : decode cX10_keep 133 = .ok (.putfield 554, 3) := by decide +kernel
theorem dX10_keep_136 : decode cX10_keep 136 = .ok (.aload_n 0, 1) := by decide +kernel
theorem dX10_keep_137 : decode cX10_keep 137 = .ok (.getfield 158, 3) := by decide +kernel
theorem dX10_keep_140 : decode cX10_keep 140 = .ok (.iload 4, 2) := by decide +kernel
theorem dX10_keep_142 : decode cX10_keep 142 = .ok (.aload_n 0, 1) := by decide +kernel
theorem dX10_keep_143 : decode cX10_keep 143 = .ok (.getfield 99, 3) := by decide +kernel
theorem dX10_keep_146 : decode cX10_keep 146 = .ok (.iconst 0, 1) := by decide +kernel
theorem dX10_keep_147 : decode cX10_keep 147 = .ok (.laload, 1) := by decide +kernel
theorem dX10_keep_148 : decode cX10_keep 148 = .ok (.lastore, 1) := by decide +kernel
theorem dX10_keep_149 : decode cX10_keep 149 = .ok (.aload_n 0, 1) := by decide +kernel
theorem dX10_keep_150 : decode cX10_keep 150 = .ok (.getfield 206, 3) := by decide +kernel
theorem dX10_keep_153 : decode cX10_keep 153 = .ok (.iload 4, 2) := by decide +kernel
theorem dX10_keep_155 : decode cX10_keep 155 = .ok (.aload_n 0, 1) := by decide +kernel
theorem dX10_keep_156 : decode cX10_keep 156 = .ok (.getfield 130, 3) := by decide +kernel
theorem dX10_keep_159 : decode cX10_keep 159 = .ok (.iload_n 1, 1) := by decide +kernel
theorem dX10_keep_160 : decode cX10_keep 160 = .ok (.iaload, 1) := by decide +kernel
theorem dX10_keep_161 : decode cX10_keep 161 = .ok (.iastore, 1) := by decide +kernel
theorem dX10_keep_162 : decode cX10_keep 162 = .ok (.aload_n 0, 1) := by decide +kernel
theorem dX10_keep_163 : decode cX10_keep 163 = .ok (.getfield 209, 3) := by decide +kernel
theorem dX10_keep_166 : decode cX10_keep 166 = .ok (.iload 4, 2) := by decide +kernel
theorem dX10_keep_168 : decode cX10_keep 168 = .ok (.aload_n 0, 1) := by decide +kernel
theorem dX10_keep_169 : decode cX10_keep 169 = .ok (.getfield 133, 3) := by decide +kernel
theorem dX10_keep_172 : decode cX10_keep 172 = .ok (.iload_n 1, 1) := by decide +kernel
theorem dX10_keep_173 : decode cX10_keep 173 = .ok (.iaload, 1) := by decide +kernel
theorem dX10_keep_174 : decode cX10_keep 174 = .ok (.iastore, 1) := by decide +kernel
theorem dX10_keep_175 : decode cX10_keep 175 = .ok (.aload_n 0, 1) := by decide +kernel
theorem dX10_keep_176 : decode cX10_keep 176 = .ok (.getfield 212, 3) := by decide +kernel
theorem dX10_keep_179 : decode cX10_keep 179 = .ok (.iload 4, 2) := by decide +kernel
theorem dX10_keep_181 : decode cX10_keep 181 = .ok (.aload_n 0, 1) := by decide +kernel
theorem dX10_keep_182 : decode cX10_keep 182 = .ok (.getfield 136, 3) := by decide +kernel
theorem dX10_keep_185 : decode cX10_keep 185 = .ok (.iload_n 1, 1) := by decide +kernel
theorem dX10_keep_186 : decode cX10_keep 186 = .ok (.iaload, 1) := by decide +kernel
theorem dX10_keep_187 : decode cX10_keep 187 = .ok (.iastore, 1) := by decide +kernel
theorem dX10_keep_188 : decode cX10_keep 188 = .ok (.iconst 0, 1) := by decide +kernel
theorem dX10_keep_189 : decode cX10_keep 189 = .ok (.istore 5, 2) := by decide +kernel
theorem dX10_keep_191 : decode cX10_keep 191 = .ok (.iload 5, 2) := by decide +kernel
theorem dX10_keep_193 : decode cX10_keep 193 = .ok (.sipush 882, 3) := by decide +kernel
theorem dX10_keep_196 : decode cX10_keep 196 = .ok (.if_icmp .ge 30, 3) := by decide +kernel
theorem dX10_keep_199 : decode cX10_keep 199 = .ok (.aload_n 0, 1) := by decide +kernel
theorem dX10_keep_200 : decode cX10_keep 200 = .ok (.getfield 228, 3) := by decide +kernel
theorem dX10_keep_203 : decode cX10_keep 203 = .ok (.sipush 882, 3) := by decide +kernel
theorem dX10_keep_206 : decode cX10_keep 206 = .ok (.iload 4, 2) := by decide +kernel
theorem dX10_keep_208 : decode cX10_keep 208 = .ok (.imul, 1) := by decide +kernel
theorem dX10_keep_209 : decode cX10_keep 209 = .ok (.iload 5, 2) := by decide +kernel
theorem dX10_keep_211 : decode cX10_keep 211 = .ok (.iadd, 1) := by decide +kernel
theorem dX10_keep_212 : decode cX10_keep 212 = .ok (.aload_n 0, 1) := by decide +kernel
theorem dX10_keep_213 : decode cX10_keep 213 = .ok (.getfield 250, 3) := by decide +kernel
theorem dX10_keep_216 : decode cX10_keep 216 = .ok (.iload 5, 2) := by decide +kernel
theorem dX10_keep_218 : decode cX10_keep 218 = .ok (.laload, 1) := by decide +kernel
theorem dX10_keep_219 : decode cX10_keep 219 = .ok (.lastore, 1) := by decide +kernel
theorem dX10_keep_220 : decode cX10_keep 220 = .ok (.iinc 5 1, 3) := by decide +kernel
theorem dX10_keep_223 : decode cX10_keep 223 = .ok (.goto (-32), 3) := by decide +kernel
theorem dX10_keep_226 : decode cX10_keep 226 = .ok (.return_, 1) := by decide +kernel
/-! AlgebraHouseModel.keep(IZI)V -/
def P_X10_keep_191 (Q : Int → MM → Prop) : Nat → Int → Int → MM → Prop
  | 0, _, _, _ => False
  | n + 1, x4, x5, m => (RI x5) ∧ (if 882 ≤ x5 then Q 0 m else (0 ≤ x5 ∧ x5 < 1600000) ∧ (0 ≤ ((882 * x4) + x5) ∧ ((882 * x4) + x5) < 17640) ∧ ∀ m1 : MM, m1 = up m 630 ((882 * x4) + x5) (m 635 x5) → P_X10_keep_191 Q n x4 (x5 + 1) m1)
def P_X10_keep_136 (Q : Int → MM → Prop) (x1 : Int) (x4 : Int) (m : MM) : Prop := (0 ≤ x4 ∧ x4 < 20) ∧ ∀ m1 : MM, m1 = up m 607 x4 (m 589 0) → (0 ≤ x1 ∧ x1 < 12000) ∧ ∀ m2 : MM, m2 = up m1 623 x4 (m1 598 x1) → ∀ m3 : MM, m3 = up m2 624 x4 (m2 599 x1) → ∀ m4 : MM, m4 = up m3 625 x4 (m3 600 x1) → ∃ nn, P_X10_keep_191 Q nn x4 0 m4
def P_X10_keep_103 (Q : Int → MM → Prop) (x1 : Int) (x2 : Int) (x3 : Int) (m : MM) : Prop := (RI x2) ∧ (if x2 = 0 then Q 0 m else ((RI x3)) ∧ (RI x3) ∧ (if 0 ≤ x3 then P_X10_keep_136 Q x1 (if 0 ≤ x3 then x3 else (m 582 33) : Int) m else ∀ m1 : MM, m1 = up m 582 33 ((m 582 33) + 1) → P_X10_keep_136 Q x1 (if 0 ≤ x3 then x3 else (m 582 33) : Int) m1))
def P_X10_keep_66 (Q : Int → MM → Prop) : Nat → Int → Int → Int → Int → MM → Prop
  | 0, _, _, _, _, _ => False
  | n + 1, x1, x2, x3, x4, m => (RI x4) ∧ (if 882 ≤ x4 then P_X10_keep_103 Q x1 x2 x3 m else (0 ≤ x4 ∧ x4 < 1600000) ∧ (0 ≤ ((882 * (m 582 111)) + x4) ∧ ((882 * (m 582 111)) + x4) < 176400) ∧ ∀ m1 : MM, m1 = up m 629 ((882 * (m 582 111)) + x4) (m 635 x4) → P_X10_keep_66 Q n x1 x2 x3 (x4 + 1) m1)
def P_X10_keep (x1 : Int) (x2 : Int) (x3 : Int) (m : MM) (Q : Int → MM → Prop) : Prop := ∀ m1 : MM, m1 = up m 582 111 (m 582 34) → ∀ m2 : MM, m2 = up m1 582 34 ((m1 582 34) + 1) → (0 ≤ x1 ∧ x1 < 12000) ∧ (0 ≤ (m2 582 111) ∧ (m2 582 111) < 200) ∧ ∀ m3 : MM, m3 = up m2 626 (m2 582 111) (m2 598 x1) → (0 ≤ (m3 582 111) ∧ (m3 582 111) < 200) ∧ ∀ m4 : MM, m4 = up m3 627 (m3 582 111) (m3 599 x1) → (0 ≤ (m4 582 111) ∧ (m4 582 111) < 200) ∧ ∀ m5 : MM, m5 = up m4 628 (m4 582 111) (m4 600 x1) → ∃ nn, P_X10_keep_66 Q nn x1 x2 x3 0 m5
theorem pl_X10_keep_191 {f : Nat} {Q : Int → MM → Prop} {T : MM → Prop} (hf : 1 ≤ f) : ∀ (n : Nat) (x4 : Int) (x5 : Int) (m : MM), P_X10_keep_191 Q n x4 x5 m → B f M_X10_keep 191 [vR 582, vU, vU, vU, vI x4, vI x5] [] m Q T := by
  intro n
  induction n with
  | zero => intro x4 x5 m h; exact h.elim
  | succ n ih =>
    intro x4 x5 m h
    have h : (RI x5) ∧ (if 882 ≤ x5 then Q 0 m else (0 ≤ x5 ∧ x5 < 1600000) ∧ (0 ≤ ((882 * x4) + x5) ∧ ((882 * x4) + x5) < 17640) ∧ ∀ m1 : MM, m1 = up m 630 ((882 * x4) + x5) (m 635 x5) → P_X10_keep_191 Q n x4 (x5 + 1) m1) := h
    refine b_iload dX10_keep_191 rfl ?_
    refine b_sipush dX10_keep_193 (by decide) ?_
    obtain ⟨g1, h⟩ := h
    refine b_icmp_ge 226 dX10_keep_196 g1 (by decide) (by decide) (fun c1 => ?_) (fun c1 => ?_)
    · have h := ifT c1 h
      exact b_vret dX10_keep_226 rfl h
    · have h := ifF c1 h
      refine b_aload_n dX10_keep_199 rfl ?_
      refine b_getR dX10_keep_200 fk_X10_228 ly_582 gg_582_59 ?_
      refine b_sipush dX10_keep_203 (by decide) ?_
      refine b_iload dX10_keep_206 rfl ?_
      refine b_imul dX10_keep_208 ?_
      refine b_iload dX10_keep_209 rfl ?_
      refine b_iadd dX10_keep_211 ?_
      refine b_aload_n dX10_keep_212 rfl ?_
      refine b_getR dX10_keep_213 fk_X10_250 ly_582 gg_582_85 ?_
      refine b_iload dX10_keep_216 rfl ?_
      obtain ⟨g2, h⟩ := h
      refine b_lald dX10_keep_218 ly_635 g2 ?_
      obtain ⟨g3, h⟩ := h
      refine b_last dX10_keep_219 ly_630 g3 (fun m1 em1 => ?_)
      have h := h m1 em1
      refine b_iinc (ls' := [vR 582, vU, vU, vU, vI x4, vI (x5 + 1)]) dX10_keep_220 rfl rfl ?_
      refine b_goto 191 dX10_keep_223 (by decide) ?_
      exact ih _ _ _ h
theorem pl_X10_keep_136 {f : Nat} {Q : Int → MM → Prop} {T : MM → Prop} (hf : 1 ≤ f) : ∀ (x1 : Int) (x4 : Int) (m : MM), P_X10_keep_136 Q x1 x4 m → B f M_X10_keep 136 [vR 582, vI x1, vU, vU, vI x4, vU] [] m Q T := by
  intro x1 x4 m h
  have h : (0 ≤ x4 ∧ x4 < 20) ∧ ∀ m1 : MM, m1 = up m 607 x4 (m 589 0) → (0 ≤ x1 ∧ x1 < 12000) ∧ ∀ m2 : MM, m2 = up m1 623 x4 (m1 598 x1) → ∀ m3 : MM, m3 = up m2 624 x4 (m2 599 x1) → ∀ m4 : MM, m4 = up m3 625 x4 (m3 600 x1) → ∃ nn, P_X10_keep_191 Q nn x4 0 m4 := h
  refine b_aload_n dX10_keep_136 rfl ?_
  refine b_getR dX10_keep_137 fk_X10_158 ly_582 gg_582_36 ?_
  refine b_iload dX10_keep_140 rfl ?_
  refine b_aload_n dX10_keep_142 rfl ?_
  refine b_getR dX10_keep_143 fk_X10_99 ly_582 gg_582_7 ?_
  refine b_iconst dX10_keep_146 ?_
  refine b_lald dX10_keep_147 ly_589 (by decide) ?_
  obtain ⟨g1, h⟩ := h
  refine b_last dX10_keep_148 ly_607 g1 (fun m1 em1 => ?_)
  have h := h m1 em1
  refine b_aload_n dX10_keep_149 rfl ?_
  refine b_getR dX10_keep_150 fk_X10_206 ly_582 gg_582_52 ?_
  refine b_iload dX10_keep_153 rfl ?_
  refine b_aload_n dX10_keep_155 rfl ?_
  refine b_getR dX10_keep_156 fk_X10_130 ly_582 gg_582_24 ?_
  refine b_iload_n dX10_keep_159 rfl ?_
  obtain ⟨g2, h⟩ := h
  refine b_iald dX10_keep_160 ly_598 g2 ?_
  refine b_iast dX10_keep_161 ly_623 g1 (fun m2 em2 => ?_)
  have h := h m2 em2
  refine b_aload_n dX10_keep_162 rfl ?_
  refine b_getR dX10_keep_163 fk_X10_209 ly_582 gg_582_53 ?_
  refine b_iload dX10_keep_166 rfl ?_
  refine b_aload_n dX10_keep_168 rfl ?_
  refine b_getR dX10_keep_169 fk_X10_133 ly_582 gg_582_25 ?_
  refine b_iload_n dX10_keep_172 rfl ?_
  refine b_iald dX10_keep_173 ly_599 g2 ?_
  refine b_iast dX10_keep_174 ly_624 g1 (fun m3 em3 => ?_)
  have h := h m3 em3
  refine b_aload_n dX10_keep_175 rfl ?_
  refine b_getR dX10_keep_176 fk_X10_212 ly_582 gg_582_54 ?_
  refine b_iload dX10_keep_179 rfl ?_
  refine b_aload_n dX10_keep_181 rfl ?_
  refine b_getR dX10_keep_182 fk_X10_136 ly_582 gg_582_26 ?_
  refine b_iload_n dX10_keep_185 rfl ?_
  refine b_iald dX10_keep_186 ly_600 g2 ?_
  refine b_iast dX10_keep_187 ly_625 g1 (fun m4 em4 => ?_)
  have h := h m4 em4
  refine b_iconst dX10_keep_188 ?_
  refine b_istore (ls' := [vR 582, vI x1, vU, vU, vI x4, vI 0]) dX10_keep_189 (Nat.le_of_ble_eq_true rfl) rfl ?_
  refine b_fgt [true, false, false, false, true, true] (ls' := [vR 582, vU, vU, vU, vI x4, vI 0]) rfl rfl ?_
  obtain ⟨nn, h⟩ := h
  exact pl_X10_keep_191 hf nn _ _ _ h
theorem pl_X10_keep_103 {f : Nat} {Q : Int → MM → Prop} {T : MM → Prop} (hf : 1 ≤ f) : ∀ (x1 : Int) (x2 : Int) (x3 : Int) (m : MM), P_X10_keep_103 Q x1 x2 x3 m → B f M_X10_keep 103 [vR 582, vI x1, vI x2, vI x3, vU, vU] [] m Q T := by
  intro x1 x2 x3 m h
  have h : (RI x2) ∧ (if x2 = 0 then Q 0 m else ((RI x3)) ∧ (RI x3) ∧ (if 0 ≤ x3 then P_X10_keep_136 Q x1 (if 0 ≤ x3 then x3 else (m 582 33) : Int) m else ∀ m1 : MM, m1 = up m 582 33 ((m 582 33) + 1) → P_X10_keep_136 Q x1 (if 0 ≤ x3 then x3 else (m 582 33) : Int) m1)) := h
  refine b_iload_n dX10_keep_103 rfl ?_
  obtain ⟨g1, h⟩ := h
  refine b_if_ne 108 dX10_keep_104 g1 (by decide) (fun c1 => ?_) (fun c1 => ?_)
  · have h := ifF c1 h
    refine b_iload_n dX10_keep_108 rfl ?_
    obtain ⟨hs, h⟩ := h
    have K : B f M_X10_keep 120 [vR 582, vI x1, vI x2, vI x3, vU, vU] [vI (if 0 ≤ x3 then x3 else (m 582 33) : Int)] m Q T := by
      clear hs
      refine b_istore (ls' := [vR 582, vI x1, vI x2, vI x3, vI (if 0 ≤ x3 then x3 else (m 582 33) : Int), vU]) dX10_keep_120 (Nat.le_of_ble_eq_true rfl) rfl ?_
      refine b_iload_n dX10_keep_122 rfl ?_
      obtain ⟨g3, h⟩ := h
      refine b_if_ge 136 dX10_keep_123 g3 (by decide) (fun c2 => ?_) (fun c2 => ?_)
      · have h := ifT c2 h
        refine b_fgt [true, true, false, false, true, false] (ls' := [vR 582, vI x1, vU, vU, vI (if 0 ≤ x3 then x3 else (m 582 33) : Int), vU]) rfl rfl ?_
        exact pl_X10_keep_136 hf _ _ _ h
      · have h := ifF c2 h
        refine b_aload_n dX10_keep_126 rfl ?_
        refine b_dup dX10_keep_127 rfl ?_
        refine b_getI dX10_keep_128 fk_X10_554 ly_582 ?_
        refine b_iconst dX10_keep_131 ?_
        refine b_iadd dX10_keep_132 ?_
        refine b_putI dX10_keep_133 fk_X10_554 ly_582 (fun m1 em1 => ?_)
        have h := h m1 em1
        refine b_fgt [true, true, false, false, true, false] (ls' := [vR 582, vI x1, vU, vU, vI (if 0 ≤ x3 then x3 else (m 582 33) : Int), vU]) rfl rfl ?_
        exact pl_X10_keep_136 hf _ _ _ h
    have g2 := hs
    refine b_if_ge 119 dX10_keep_109 g2 (by decide) (fun c3 => ?_) (fun c3 => ?_)
    ·
      refine b_iload_n dX10_keep_119 rfl ?_
      exact Eq.mp (congrArg (fun z => B f M_X10_keep 120 [vR 582, vI x1, vI x2, vI x3, vU, vU] (vI z :: []) m Q T) (show (if 0 ≤ x3 then x3 else (m 582 33) : Int) = x3 by rw [if_pos c3])) K
    ·
      refine b_aload_n dX10_keep_112 rfl ?_
      refine b_getI dX10_keep_113 fk_X10_554 ly_582 ?_
      refine b_goto 120 dX10_keep_116 (by decide) ?_
      exact Eq.mp (congrArg (fun z => B f M_X10_keep 120 [vR 582, vI x1, vI x2, vI x3, vU, vU] (vI z :: []) m Q T) (show (if 0 ≤ x3 then x3 else (m 582 33) : Int) = (m 582 33) by rw [if_neg c3])) K
  · have h := ifT (Decidable.of_not_not c1) h
    exact b_vret dX10_keep_107 rfl h
theorem pl_X10_keep_66 {f : Nat} {Q : Int → MM → Prop} {T : MM → Prop} (hf : 1 ≤ f) : ∀ (n : Nat) (x1 : Int) (x2 : Int) (x3 : Int) (x4 : Int) (m : MM), P_X10_keep_66 Q n x1 x2 x3 x4 m → B f M_X10_keep 66 [vR 582, vI x1, vI x2, vI x3, vI x4, vU] [] m Q T := by
  intro n
  induction n with
  | zero => intro x1 x2 x3 x4 m h; exact h.elim
  | succ n ih =>
    intro x1 x2 x3 x4 m h
    have h : (RI x4) ∧ (if 882 ≤ x4 then P_X10_keep_103 Q x1 x2 x3 m else (0 ≤ x4 ∧ x4 < 1600000) ∧ (0 ≤ ((882 * (m 582 111)) + x4) ∧ ((882 * (m 582 111)) + x4) < 176400) ∧ ∀ m1 : MM, m1 = up m 629 ((882 * (m 582 111)) + x4) (m 635 x4) → P_X10_keep_66 Q n x1 x2 x3 (x4 + 1) m1) := h
    refine b_iload dX10_keep_66 rfl ?_
    refine b_sipush dX10_keep_68 (by decide) ?_
    obtain ⟨g1, h⟩ := h
    refine b_icmp_ge 103 dX10_keep_71 g1 (by decide) (by decide) (fun c1 => ?_) (fun c1 => ?_)
    · have h := ifT c1 h
      refine b_fgt [true, true, true, true, false, false] (ls' := [vR 582, vI x1, vI x2, vI x3, vU, vU]) rfl rfl ?_
      exact pl_X10_keep_103 hf _ _ _ _ h
    · have h := ifF c1 h
      refine b_aload_n dX10_keep_74 rfl ?_
      refine b_getR dX10_keep_75 fk_X10_225 ly_582 gg_582_58 ?_
      refine b_sipush dX10_keep_78 (by decide) ?_
      refine b_aload_n dX10_keep_81 rfl ?_
      refine b_getI dX10_keep_82 fk_X10_301 ly_582 ?_
      refine b_imul dX10_keep_85 ?_
      refine b_iload dX10_keep_86 rfl ?_
      refine b_iadd dX10_keep_88 ?_
      refine b_aload_n dX10_keep_89 rfl ?_
      refine b_getR dX10_keep_90 fk_X10_250 ly_582 gg_582_85 ?_
      refine b_iload dX10_keep_93 rfl ?_
      obtain ⟨g2, h⟩ := h
      refine b_lald dX10_keep_95 ly_635 g2 ?_
      obtain ⟨g3, h⟩ := h
      refine b_last dX10_keep_96 ly_629 g3 (fun m1 em1 => ?_)
      have h := h m1 em1
      refine b_iinc (ls' := [vR 582, vI x1, vI x2, vI x3, vI (x4 + 1), vU]) dX10_keep_97 rfl rfl ?_
      refine b_goto 66 dX10_keep_100 (by decide) ?_
      exact ih _ _ _ _ _ h
theorem p_X10_keep {f : Nat} {Q : Int → MM → Prop} {T : MM → Prop} (hf : 1 ≤ f) (x1 : Int) (x2 : Int) (x3 : Int) (m : MM) (h : P_X10_keep x1 x2 x3 m Q) : CC f M_X10_keep [vR 582, vI x1, vI x2, vI x3] m Q T := by
  refine CC.of (plainFor_of_name (by decide)) (Nat.le_of_ble_eq_true rfl) (ls := [vR 582, vI x1, vI x2, vI x3, vU, vU]) rfl ?_
  have h : ∀ m1 : MM, m1 = up m 582 111 (m 582 34) → ∀ m2 : MM, m2 = up m1 582 34 ((m1 582 34) + 1) → (0 ≤ x1 ∧ x1 < 12000) ∧ (0 ≤ (m2 582 111) ∧ (m2 582 111) < 200) ∧ ∀ m3 : MM, m3 = up m2 626 (m2 582 111) (m2 598 x1) → (0 ≤ (m3 582 111) ∧ (m3 582 111) < 200) ∧ ∀ m4 : MM, m4 = up m3 627 (m3 582 111) (m3 599 x1) → (0 ≤ (m4 582 111) ∧ (m4 582 111) < 200) ∧ ∀ m5 : MM, m5 = up m4 628 (m4 582 111) (m4 600 x1) → ∃ nn, P_X10_keep_66 Q nn x1 x2 x3 0 m5 := h
  refine b_aload_n dX10_keep_0 rfl ?_
  refine b_aload_n dX10_keep_1 rfl ?_
  refine b_getI dX10_keep_2 fk_X10_523 ly_582 ?_
  refine b_putI dX10_keep_5 fk_X10_301 ly_582 (fun m1 em1 => ?_)
  have h := h m1 em1
  refine b_aload_n dX10_keep_8 rfl ?_
  refine b_dup dX10_keep_9 rfl ?_
  refine b_getI dX10_keep_10 fk_X10_523 ly_582 ?_
  refine b_iconst dX10_keep_13 ?_
  refine b_iadd dX10_keep_14 ?_
  refine b_putI dX10_keep_15 fk_X10_523 ly_582 (fun m2 em2 => ?_)
  have h := h m2 em2
  refine b_aload_n dX10_keep_18 rfl ?_
  refine b_getR dX10_keep_19 fk_X10_215 ly_582 gg_582_55 ?_
  refine b_aload_n dX10_keep_22 rfl ?_
  refine b_getI dX10_keep_23 fk_X10_301 ly_582 ?_
  refine b_aload_n dX10_keep_26 rfl ?_
  refine b_getR dX10_keep_27 fk_X10_130 ly_582 gg_582_24 ?_
  refine b_iload_n dX10_keep_30 rfl ?_
  obtain ⟨g1, h⟩ := h
  refine b_iald dX10_keep_31 ly_598 g1 ?_
  obtain ⟨g2, h⟩ := h
  refine b_iast dX10_keep_32 ly_626 g2 (fun m3 em3 => ?_)
  have h := h m3 em3
  refine b_aload_n dX10_keep_33 rfl ?_
  refine b_getR dX10_keep_34 fk_X10_218 ly_582 gg_582_56 ?_
  refine b_aload_n dX10_keep_37 rfl ?_
  refine b_getI dX10_keep_38 fk_X10_301 ly_582 ?_
  refine b_aload_n dX10_keep_41 rfl ?_
  refine b_getR dX10_keep_42 fk_X10_133 ly_582 gg_582_25 ?_
  refine b_iload_n dX10_keep_45 rfl ?_
  refine b_iald dX10_keep_46 ly_599 g1 ?_
  obtain ⟨g3, h⟩ := h
  refine b_iast dX10_keep_47 ly_627 g3 (fun m4 em4 => ?_)
  have h := h m4 em4
  refine b_aload_n dX10_keep_48 rfl ?_
  refine b_getR dX10_keep_49 fk_X10_221 ly_582 gg_582_57 ?_
  refine b_aload_n dX10_keep_52 rfl ?_
  refine b_getI dX10_keep_53 fk_X10_301 ly_582 ?_
  refine b_aload_n dX10_keep_56 rfl ?_
  refine b_getR dX10_keep_57 fk_X10_136 ly_582 gg_582_26 ?_
  refine b_iload_n dX10_keep_60 rfl ?_
  refine b_iald dX10_keep_61 ly_600 g1 ?_
  obtain ⟨g4, h⟩ := h
  refine b_iast dX10_keep_62 ly_628 g4 (fun m5 em5 => ?_)
  have h := h m5 em5
  refine b_iconst dX10_keep_63 ?_
  refine b_istore (ls' := [vR 582, vI x1, vI x2, vI x3, vI 0, vU]) dX10_keep_64 (Nat.le_of_ble_eq_true rfl) rfl ?_
  obtain ⟨nn, h⟩ := h
  exact pl_X10_keep_66 hf nn _ _ _ _ _ h
theorem dX10_key_0 : decode cX10_key 0 = .ok (.aload_n 0, 1) := by decide +kernel
theorem dX10_key_1 : decode cX10_key 1 = .ok (.lload_n 1, 1) := by decide +kernel
theorem dX10_key_2 : decode cX10_key 2 = .ok (.invokevirtual 365, 3) := by decide +kernel
theorem dX10_key_5 : decode cX10_key 5 = .ok (.ifCond .eq 10, 3) := by decide +kernel
theorem dX10_key_8 : decode cX10_key 8 = .ok (.aload_n 0, 1) := by decide +kernel
theorem dX10_key_9 : decode cX10_key 9 = .ok (.invokevirtual 362, 3) := by decide +kernel
theorem dX10_key_12 : decode cX10_key 12 = .ok (.goto 8, 3) := by decide +kernel
theorem dX10_key_15 : decode cX10_key 15 = .ok (.aload_n 0, 1) := by decide +kernel
theorem dX10_key_16 : decode cX10_key 16 = .ok (.iconst 1, 1) := by decide +kernel
theorem dX10_key_17 : decode cX10_key 17 = .ok (.invokevirtual 356, 3) := by decide +kernel
theorem dX10_key_20 : decode cX10_key 20 = .ok (.return_, 1) := by decide +kernel
/-! AlgebraHouseModel.key(J)V -/
def P_X10_key (x1 : Int) (m : MM) (Q : Int → MM → Prop) : Prop := P_X10_isKey x1 m (fun r1 m1 => (RI r1) ∧ (if r1 = 0 then P_X10_fail 1 m1 (fun r2 m2 => Q 0 m2) else P_X10_accept m1 (fun r3 m3 => Q 0 m3)))
theorem p_X10_key {f : Nat} {Q : Int → MM → Prop} {T : MM → Prop} (hf : 3 ≤ f) (x1 : Int) (m : MM) (h : P_X10_key x1 m Q) : CC f M_X10_key [vR 582, vL x1] m Q T := by
  refine CC.of (plainFor_of_name (by decide)) (Nat.le_of_ble_eq_true rfl) (ls := [vR 582, vL x1, vU]) rfl ?_
  have h : P_X10_isKey x1 m (fun r1 m1 => (RI r1) ∧ (if r1 = 0 then P_X10_fail 1 m1 (fun r2 m2 => Q 0 m2) else P_X10_accept m1 (fun r3 m3 => Q 0 m3))) := h
  refine b_aload_n dX10_key_0 rfl ?_
  refine b_lload_n dX10_key_1 rfl ?_
  refine b_cVi (as := [vL x1]) (st := []) dX10_key_2 mf_X10_isKey qs108 lk_X10_365 ly_582 rfl (p_X10_isKey (f := 1) (Nat.le_refl _) _ _ h) (by omega) rfl rfl (Nat.le_of_ble_eq_true rfl) (by decide) rfl (fun _ => rfl) (fun r1 m1 h => ?_) (fun _ h => h)
  obtain ⟨g1, h⟩ := h
  refine b_if_eq 15 dX10_key_5 g1 (by decide) (fun c1 => ?_) (fun c1 => ?_)
  · have h := ifT c1 h
    refine b_aload_n dX10_key_15 rfl ?_
    refine b_iconst dX10_key_16 ?_
    refine b_cVv (as := [vI 1]) (st := []) dX10_key_17 mf_X10_fail qs101 lk_X10_356 ly_582 rfl (p_X10_fail (f := 1) (Nat.le_refl _) _ _ h) (by omega) rfl rfl (Nat.le_of_ble_eq_true rfl) (by decide) rfl (fun _ => rfl) (fun r2 m2 h => ?_) (fun _ h => h)
    exact b_vret dX10_key_20 rfl h
  · have h := ifF c1 h
    refine b_aload_n dX10_key_8 rfl ?_
    refine b_cVv (as := []) (st := []) dX10_key_9 mf_X10_accept qs100 lk_X10_362 ly_582 rfl (p_X10_accept (f := 2) (Nat.le_refl _) _ h) (by omega) rfl rfl (Nat.le_of_ble_eq_true rfl) (by decide) rfl (fun _ => rfl) (fun r3 m3 h => ?_) (fun _ h => h)
    refine b_goto 20 dX10_key_12 (by decide) ?_
    exact b_vret dX10_key_20 rfl h
theorem dX10_need_0 : decode cX10_need 0 = .ok (.aload_n 0, 1) := by decide +kernel
theorem dX10_need_1 : decode cX10_need 1 = .ok (.getfield 324, 3) := by decide +kernel
theorem dX10_need_4 : decode cX10_need 4 = .ok (.istore_n 2, 1) := by decide +kernel
theorem dX10_need_5 : decode cX10_need 5 = .ok (.aload_n 0, 1) := by decide +kernel
theorem dX10_need_6 : decode cX10_need 6 = .ok (.getfield 347, 3) := by decide +kernel
theorem dX10_need_9 : decode cX10_need 9 = .ok (.ifCond .le 5, 3) := by decide +kernel
theorem dX10_need_12 : decode cX10_need 12 = .ok (.iload_n 2, 1) := by decide +kernel
theorem dX10_need_13 : decode cX10_need 13 = .ok (.ireturn, 1) := by decide +kernel
theorem dX10_need_14 : decode cX10_need 14 = .ok (.aload_n 0, 1) := by decide +kernel
theorem dX10_need_15 : decode cX10_need 15 = .ok (.getfield 93, 3) := by decide +kernel
theorem dX10_need_18 : decode cX10_need 18 = .ok (.aload_n 0, 1) := by decide +kernel
theorem dX10_need_19 : decode cX10_need 19 = .ok (.getfield 324, 3) := by decide +kernel
theorem dX10_need_22 : decode cX10_need 22 = .ok (.iaload, 1) := by decide +kernel
theorem dX10_need_23 : decode cX10_need 23 = .ok (.iload_n 1, 1) := by decide +kernel
theorem dX10_need_24 : decode cX10_need 24 = .ok (.if_icmp .ne 10, 3) := by decide +kernel
theorem dX10_need_27 : decode cX10_need 27 = .ok (.aload_n 0, 1) := by decide +kernel
theorem dX10_need_28 : decode cX10_need 28 = .ok (.invokevirtual 362, 3) := by decide +kernel
theorem dX10_need_31 : decode cX10_need 31 = .ok (.goto 8, 3) := by decide +kernel
theorem dX10_need_34 : decode cX10_need 34 = .ok (.aload_n 0, 1) := by decide +kernel
theorem dX10_need_35 : decode cX10_need 35 = .ok (.iconst 1, 1) := by decide +kernel
theorem dX10_need_36 : decode cX10_need 36 = .ok (.invokevirtual 356, 3) := by decide +kernel
theorem dX10_need_39 : decode cX10_need 39 = .ok (.iload_n 2, 1) := by decide +kernel
theorem dX10_need_40 : decode cX10_need 40 = .ok (.ireturn, 1) := by decide +kernel
/-! AlgebraHouseModel.need(I)I -/
def P_X10_need (x1 : Int) (m : MM) (Q : Int → MM → Prop) : Prop := (RI (m 582 10)) ∧ (if (m 582 10) ≤ 0 then (0 ≤ (m 582 9) ∧ (m 582 9) < 420) ∧ (RI (m 587 (m 582 9))) ∧ (RI x1) ∧ (if (m 587 (m 582 9)) = x1 then P_X10_accept m (fun r2 m2 => Q (m 582 9) m2) else P_X10_fail 1 m (fun r1 m1 => Q (m 582 9) m1)) else Q (m 582 9) m)
theorem p_X10_need {f : Nat} {Q : Int → MM → Prop} {T : MM → Prop} (hf : 3 ≤ f) (x1 : Int) (m : MM) (h : P_X10_need x1 m Q) : CC f M_X10_need [vR 582, vI x1] m Q T := by
  refine CC.of (plainFor_of_name (by decide)) (Nat.le_of_ble_eq_true rfl) (ls := [vR 582, vI x1, vU]) rfl ?_
  have h : (RI (m 582 10)) ∧ (if (m 582 10) ≤ 0 then (0 ≤ (m 582 9) ∧ (m 582 9) < 420) ∧ (RI (m 587 (m 582 9))) ∧ (RI x1) ∧ (if (m 587 (m 582 9)) = x1 then P_X10_accept m (fun r2 m2 => Q (m 582 9) m2) else P_X10_fail 1 m (fun r1 m1 => Q (m 582 9) m1)) else Q (m 582 9) m) := h
  refine b_aload_n dX10_need_0 rfl ?_
  refine b_getI dX10_need_1 fk_X10_324 ly_582 ?_
  refine b_istore_n (ls' := [vR 582, vI x1, vI (m 582 9)]) dX10_need_4 (Nat.le_of_ble_eq_true rfl) rfl ?_
  refine b_aload_n dX10_need_5 rfl ?_
  refine b_getI dX10_need_6 fk_X10_347 ly_582 ?_
  obtain ⟨g1, h⟩ := h
  refine b_if_le 14 dX10_need_9 g1 (by decide) (fun c1 => ?_) (fun c1 => ?_)
  · have h := ifT c1 h
    refine b_aload_n dX10_need_14 rfl ?_
    refine b_getR dX10_need_15 fk_X10_93 ly_582 gg_582_5 ?_
    refine b_aload_n dX10_need_18 rfl ?_
    refine b_getI dX10_need_19 fk_X10_324 ly_582 ?_
    obtain ⟨g2, h⟩ := h
    refine b_iald dX10_need_22 ly_587 g2 ?_
    refine b_iload_n dX10_need_23 rfl ?_
    obtain ⟨g3, h⟩ := h
    obtain ⟨g4, h⟩ := h
    refine b_icmp_ne 34 dX10_need_24 g3 g4 (by decide) (fun c2 => ?_) (fun c2 => ?_)
    · have h := ifF c2 h
      refine b_aload_n dX10_need_34 rfl ?_
      refine b_iconst dX10_need_35 ?_
      refine b_cVv (as := [vI 1]) (st := []) dX10_need_36 mf_X10_fail qs101 lk_X10_356 ly_582 rfl (p_X10_fail (f := 1) (Nat.le_refl _) _ _ h) (by omega) rfl rfl (Nat.le_of_ble_eq_true rfl) (by decide) rfl (fun _ => rfl) (fun r1 m1 h => ?_) (fun _ h => h)
      refine b_iload_n dX10_need_39 rfl ?_
      exact b_iret dX10_need_40 rfl h
    · have h := ifT (Decidable.of_not_not c2) h
      refine b_aload_n dX10_need_27 rfl ?_
      refine b_cVv (as := []) (st := []) dX10_need_28 mf_X10_accept qs100 lk_X10_362 ly_582 rfl (p_X10_accept (f := 2) (Nat.le_refl _) _ h) (by omega) rfl rfl (Nat.le_of_ble_eq_true rfl) (by decide) rfl (fun _ => rfl) (fun r2 m2 h => ?_) (fun _ h => h)
      refine b_goto 39 dX10_need_31 (by decide) ?_
      refine b_iload_n dX10_need_39 rfl ?_
      exact b_iret dX10_need_40 rfl h
  · have h := ifF c1 h
    refine b_iload_n dX10_need_12 rfl ?_
    exact b_iret dX10_need_13 rfl h
theorem dX10_opens_0 : decode cX10_opens 0 = .ok (.aload_n 0, 1) := by decide +kernel
theorem dX10_opens_1 : decode cX10_opens 1 = .ok (.dup, 1) := by decide +kernel
theorem dX10_opens_2 : decode cX10_opens 2 = .ok (.getfield 369, 3) := by decide +kernel
theorem dX10_opens_5 : decode cX10_opens 5 = .ok (.iconst 1, 1) := by decide +kernel
theorem dX10_opens_6 : decode cX10_opens 6 = .ok (.iadd, 1) := by decide +kernel
theorem dX10_opens_7 : decode cX10_opens 7 = .ok (.putfield 369, 3) := by decide +kernel
theorem dX10_opens_10 : decode cX10_opens 10 = .ok (.aload_n 0, 1) := by decide +kernel
theorem dX10_opens_11 : decode cX10_opens 11 = .ok (.getfield 369, 3) := by decide +kernel
theorem dX10_opens_14 : decode cX10_opens 14 = .ok (.bipush 12, 2) := by decide +kernel
theorem dX10_opens_16 : decode cX10_opens 16 = .ok (.if_icmp .le 25, 3) := by decide +kernel
theorem dX10_opens_19 : decode cX10_opens 19 = .ok (.aload_n 0, 1) := by decide +kernel
theorem dX10_opens_20 : decode cX10_opens 20 = .ok (.getfield 347, 3) := by decide +kernel
theorem dX10_opens_23 : decode cX10_opens 23 = .ok (.ifCond .ne 18, 3) := by decide +kernel
theorem dX10_opens_26 : decode cX10_opens 26 = .ok (.aload_n 0, 1) := by decide +kernel
theorem dX10_opens_27 : decode cX10_opens 27 = .ok (.iconst 2, 1) := by decide +kernel
theorem dX10_opens_28 : decode cX10_opens 28 = .ok (.putfield 347, 3) := by decide +kernel
theorem dX10_opens_31 : decode cX10_opens 31 = .ok (.aload_n 0, 1) := by decide +kernel
theorem dX10_opens_32 : decode cX10_opens 32 = .ok (.aload_n 0, 1) := by decide +kernel
theorem dX10_opens_33 : decode cX10_opens 33 = .ok (.getfield 96, 3) := by decide +kernel
theorem dX10_opens_36 : decode cX10_opens 36 = .ok (.iload_n 1, 1) := by decide +kernel
theorem dX10_opens_37 : decode cX10_opens 37 = .ok (.iaload, 1) := by decide +kernel
theorem dX10_opens_38 : decode cX10_opens 38 = .ok (.putfield 102, 3) := by decide +kernel
theorem dX10_opens_41 : decode cX10_opens 41 = .ok (.return_, 1) := by decide +kernel
/-! AlgebraHouseModel.opens(I)V -/
def P_X10_opens (x1 : Int) (m : MM) (Q : Int → MM → Prop) : Prop := ∀ m1 : MM, m1 = up m 582 12 ((m 582 12) + 1) → (RI (m1 582 12)) ∧ (if (m1 582 12) ≤ 12 then Q 0 m1 else (RI (m1 582 10)) ∧ (if (m1 582 10) = 0 then ∀ m2 : MM, m2 = up m1 582 10 2 → (0 ≤ x1 ∧ x1 < 420) ∧ ∀ m3 : MM, m3 = up m2 582 11 (m2 588 x1) → Q 0 m3 else Q 0 m1))
theorem p_X10_opens {f : Nat} {Q : Int → MM → Prop} {T : MM → Prop} (hf : 1 ≤ f) (x1 : Int) (m : MM) (h : P_X10_opens x1 m Q) : CC f M_X10_opens [vR 582, vI x1] m Q T := by
  refine CC.of (plainFor_of_name (by decide)) (Nat.le_of_ble_eq_true rfl) (ls := [vR 582, vI x1]) rfl ?_
  have h : ∀ m1 : MM, m1 = up m 582 12 ((m 582 12) + 1) → (RI (m1 582 12)) ∧ (if (m1 582 12) ≤ 12 then Q 0 m1 else (RI (m1 582 10)) ∧ (if (m1 582 10) = 0 then ∀ m2 : MM, m2 = up m1 582 10 2 → (0 ≤ x1 ∧ x1 < 420) ∧ ∀ m3 : MM, m3 = up m2 582 11 (m2 588 x1) → Q 0 m3 else Q 0 m1)) := h
  refine b_aload_n dX10_opens_0 rfl ?_
  refine b_dup dX10_opens_1 rfl ?_
  refine b_getI dX10_opens_2 fk_X10_369 ly_582 ?_
  refine b_iconst dX10_opens_5 ?_
  refine b_iadd dX10_opens_6 ?_
  refine b_putI dX10_opens_7 fk_X10_369 ly_582 (fun m1 em1 => ?_)
  have h := h m1 em1
  refine b_aload_n dX10_opens_10 rfl ?_
  refine b_getI dX10_opens_11 fk_X10_369 ly_582 ?_
  refine b_bipush dX10_opens_14 (by decide) ?_
  obtain ⟨g1, h⟩ := h
  refine b_icmp_le 41 dX10_opens_16 g1 (by decide) (by decide) (fun c1 => ?_) (fun c1 => ?_)
  · have h := ifT c1 h
    exact b_vret dX10_opens_41 rfl h
  · have h := ifF c1 h
    refine b_aload_n dX10_opens_19 rfl ?_
    refine b_getI dX10_opens_20 fk_X10_347 ly_582 ?_
    obtain ⟨g2, h⟩ := h
    refine b_if_ne 41 dX10_opens_23 g2 (by decide) (fun c2 => ?_) (fun c2 => ?_)
    · have h := ifF c2 h
      exact b_vret dX10_opens_41 rfl h
    · have h := ifT (Decidable.of_not_not c2) h
      refine b_aload_n dX10_opens_26 rfl ?_
      refine b_iconst dX10_opens_27 ?_
      refine b_putI dX10_opens_28 fk_X10_347 ly_582 (fun m2 em2 => ?_)
      have h := h m2 em2
      refine b_aload_n dX10_opens_31 rfl ?_
      refine b_aload_n dX10_opens_32 rfl ?_
      refine b_getR dX10_opens_33 fk_X10_96 ly_582 gg_582_6 ?_
      refine b_iload_n dX10_opens_36 rfl ?_
      obtain ⟨g3, h⟩ := h
      refine b_iald dX10_opens_37 ly_588 g3 ?_
      refine b_putI dX10_opens_38 fk_X10_102 ly_582 (fun m3 em3 => ?_)
      have h := h m3 em3
      exact b_vret dX10_opens_41 rfl h
theorem dX10_openWith_0 : decode cX10_openWith 0 = .ok (.aload_n 0, 1) := by decide +kernel
theorem dX10_openWith_1 : decode cX10_openWith 1 = .ok (.getfield 324, 3) := by decide +kernel
theorem dX10_openWith_4 : decode cX10_openWith 4 = .ok (.istore_n 2, 1) := by decide +kernel
theorem dX10_openWith_5 : decode cX10_openWith 5 = .ok (.aload_n 0, 1) := by decide +kernel
theorem dX10_openWith_6 : decode cX10_openWith 6 = .ok (.iload_n 1, 1) := by decide +kernel
theorem dX10_openWith_7 : decode cX10_openWith 7 = .ok (.invokevirtual 372, 3) := by decide +kernel
theorem dX10_openWith_10 : decode cX10_openWith 10 = .ok (.aload_n 0, 1) := by decide +kernel
theorem dX10_openWith_11 : decode cX10_openWith 11 = .ok (.iload_n 2, 1) := by decide +kernel
theorem dX10_openWith_12 : decode cX10_openWith 12 = .ok (.invokevirtual 375, 3) := by decide +kernel
theorem dX10_openWith_15 : decode cX10_openWith 15 = .ok (.return_, 1) := by decide +kernel
/-! AlgebraHouseModel.openWith(I)V -/
def P_X10_openWith (x1 : Int) (m : MM) (Q : Int → MM → Prop) : Prop := P_X10_sign x1 m (fun r1 m1 => P_X10_opens (m 582 9) m1 (fun r2 m2 => Q 0 m2))
theorem p_X10_openWith {f : Nat} {Q : Int → MM → Prop} {T : MM → Prop} (hf : 4 ≤ f) (x1 : Int) (m : MM) (h : P_X10_openWith x1 m Q) : CC f M_X10_openWith [vR 582, vI x1] m Q T := by
  refine CC.of (plainFor_of_name (by decide)) (Nat.le_of_ble_eq_true rfl) (ls := [vR 582, vI x1, vU]) rfl ?_
  have h : P_X10_sign x1 m (fun r1 m1 => P_X10_opens (m 582 9) m1 (fun r2 m2 => Q 0 m2)) := h
  refine b_aload_n dX10_openWith_0 rfl ?_
  refine b_getI dX10_openWith_1 fk_X10_324 ly_582 ?_
  refine b_istore_n (ls' := [vR 582, vI x1, vI (m 582 9)]) dX10_openWith_4 (Nat.le_of_ble_eq_true rfl) rfl ?_
  refine b_aload_n dX10_openWith_5 rfl ?_
  refine b_iload_n dX10_openWith_6 rfl ?_
  refine b_cVv (as := [vI x1]) (st := []) dX10_openWith_7 mf_X10_sign qs103 lk_X10_372 ly_582 rfl (p_X10_sign (f := 3) (Nat.le_refl _) _ _ h) (by omega) rfl rfl (Nat.le_of_ble_eq_true rfl) (by decide) rfl (fun _ => rfl) (fun r1 m1 h => ?_) (fun _ h => h)
  refine b_aload_n dX10_openWith_10 rfl ?_
  refine b_iload_n dX10_openWith_11 rfl ?_
  refine b_cVv (as := [vI (m 582 9)]) (st := []) dX10_openWith_12 mf_X10_opens qs105 lk_X10_375 ly_582 rfl (p_X10_opens (f := 1) (Nat.le_refl _) _ _ h) (by omega) rfl rfl (Nat.le_of_ble_eq_true rfl) (by decide) rfl (fun _ => rfl) (fun r2 m2 h => ?_) (fun _ h => h)
  exact b_vret dX10_openWith_15 rfl h
theorem dX10_node_0 : decode cX10_node 0 = .ok (.aload_n 0, 1) := by decide +kernel
theorem dX10_node_1 : decode cX10_node 1 = .ok (.getfield 378, 3) := by decide +kernel
theorem dX10_node_4 : decode cX10_node 4 = .ok (.istore 6, 2) := by decide +kernel
theorem dX10_node_6 : decode cX10_node 6 = .ok (.aload_n 0, 1) := by decide +kernel
theorem dX10_node_7 : decode cX10_node 7 = .ok (.dup, 1) := by decide +kernel
theorem dX10_node_8 : decode cX10_node 8 = .ok (.getfield 378, 3) := by decide +kernel
theorem dX10_node_11 : decode cX10_node 11 = .ok (.iconst 1, 1) := by decide +kernel
theorem dX10_node_12 : decode cX10_node 12 = .ok (.iadd, 1) := by decide +kernel
theorem dX10_node_13 : decode cX10_node 13 = .ok (.putfield 378, 3) := by decide +kernel
theorem dX10_node_16 : decode cX10_node 16 = .ok (.aload_n 0, 1) := by decide +kernel
theorem dX10_node_17 : decode cX10_node 17 = .ok (.getfield 106, 3) := by decide +kernel
theorem dX10_node_20 : decode cX10_node 20 = .ok (.iload 6, 2) := by decide +kernel
theorem dX10_node_22 : decode cX10_node 22 = .ok (.iload_n 1, 1) := by decide +kernel
theorem dX10_node_23 : decode cX10_node 23 = .ok (.iastore, 1) := by decide +kernel
theorem dX10_node_24 : decode cX10_node 24 = .ok (.aload_n 0, 1) := by decide +kernel
theorem dX10_node_25 : decode cX10_node 25 = .ok (.getfield 109, 3) := by decide +kernel
theorem dX10_node_28 : decode cX10_node 28 = .ok (.iload 6, 2) := by decide +kernel
theorem dX10_node_30 : decode cX10_node 30 = .ok (.iload_n 2, 1) := by decide +kernel
theorem dX10_node_31 : decode cX10_node 31 = .ok (.iastore, 1) := by decide +kernel
theorem dX10_node_32 : decode cX10_node 32 = .ok (.aload_n 0, 1) := by decide +kernel
theorem dX10_node_33 : decode cX10_node 33 = .ok (.getfield 112, 3) := by decide +kernel
theorem dX10_node_36 : decode cX10_node 36 = .ok (.iload 6, 2) := by decide +kernel
theorem dX10_node_38 : decode cX10_node 38 = .ok (.iload_n 3, 1) := by decide +kernel
theorem dX10_node_39 : decode cX10_node 39 = .ok (.iastore, 1) := by decide +kernel
theorem dX10_node_40 : decode cX10_node 40 = .ok (.aload_n 0, 1) := by decide +kernel
theorem dX10_node_41 : decode cX10_node 41 = .ok (.getfield 115, 3) := by decide +kernel
theorem dX10_node_44 : decode cX10_node 44 = .ok (.iload 6, 2) := by decide +kernel
theorem dX10_node_46 : decode cX10_node 46 = .ok (.iload 4, 2) := by decide +kernel
theorem dX10_node_48 : decode cX10_node 48 = .ok (.iastore, 1) := by decide +kernel
theorem dX10_node_49 : decode cX10_node 49 = .ok (.aload_n 0, 1) := by decide +kernel
theorem dX10_node_50 : decode cX10_node 50 = .ok (.getfield 118, 3) := by decide +kernel
theorem dX10_node_53 : decode cX10_node 53 = .ok (.iload 6, 2) := by decide +kernel
theorem dX10_node_55 : decode cX10_node 55 = .ok (.iconst (-1), 1) := by decide +kernel
theorem dX10_node_56 : decode cX10_node 56 = .ok (.iastore, 1) := by decide +kernel
theorem dX10_node_57 : decode cX10_node 57 = .ok (.aload_n 0, 1) := by decide +kernel
theorem dX10_node_58 : decode cX10_node 58 = .ok (.getfield 121, 3) := by decide +kernel
theorem dX10_node_61 : decode cX10_node 61 = .ok (.iload 6, 2) := by decide +kernel
theorem dX10_node_63 : decode cX10_node 63 = .ok (.aload_n 0, 1) := by decide +kernel
theorem dX10_node_64 : decode cX10_node 64 = .ok (.getfield 96, 3) := by decide +kernel
theorem dX10_node_67 : decode cX10_node 67 = .ok (.iload 5, 2) := by decide +kernel
theorem dX10_node_69 : decode cX10_node 69 = .ok (.iaload, 1) := by decide +kernel
theorem dX10_node_70 : decode cX10_node 70 = .ok (.iastore, 1) := by decide +kernel
theorem dX10_node_71 : decode cX10_node 71 = .ok (.aload_n 0, 1) := by decide +kernel
theorem dX10_node_72 : decode cX10_node 72 = .ok (.getfield 124, 3) := by decide +kernel
theorem dX10_node_75 : decode cX10_node 75 = .ok (.iload 6, 2) := by decide +kernel
theorem dX10_node_77 : decode cX10_node 77 = .ok (.iconst (-1), 1) := by decide +kernel
theorem dX10_node_78 : decode cX10_node 78 = .ok (.iastore, 1) := by decide +kernel
theorem dX10_node_79 : decode cX10_node 79 = .ok (.aload_n 0, 1) := by decide +kernel
theorem dX10_node_80 : decode cX10_node 80 = .ok (.getfield 127, 3) := by decide +kernel
theorem dX10_node_83 : decode cX10_node 83 = .ok (.iload 6, 2) := by decide +kernel
theorem dX10_node_85 : decode cX10_node 85 = .ok (.iconst (-1), 1) := by decide +kernel
theorem dX10_node_86 : decode cX10_node 86 = .ok (.iastore, 1) := by decide +kernel
theorem dX10_node_87 : decode cX10_node 87 = .ok (.aload_n 0, 1) := by decide +kernel
theorem dX10_node_88 : decode cX10_node 88 = .ok (.getfield 130, 3) := by decide +kernel
theorem dX10_node_91 : decode cX10_node 91 = .ok (.iload 6, 2) := by decide +kernel
theorem dX10_node_93 : decode cX10_node 93 = .ok (.bipush (-9), 2) := by decide +kernel
theorem dX10_node_95 : decode cX10_node 95 = .ok (.iastore, 1) := by decide +kernel
theorem dX10_node_96 : decode cX10_node 96 = .ok (.aload_n 0, 1) := by decide +kernel
theorem dX10_node_97 : decode cX10_node 97 = .ok (.getfield 133, 3) := by decide +kernel
theorem dX10_node_100 : decode cX10_node 100 = .ok (.iload 6, 2) := by decide +kernel
theorem dX10_node_102 : decode cX10_node 102 = .ok (.iconst 0, 1) := by decide +kernel
theorem dX10_node_103 : decode cX10_node 103 = .ok (.iastore, 1) := by decide +kernel
theorem dX10_node_104 : decode cX10_node 104 = .ok (.aload_n 0, 1) := by decide +kernel
theorem dX10_node_105 : decode cX10_node 105 = .ok (.getfield 136, 3) := by decide +kernel
theorem dX10_node_108 : decode cX10_node 108 = .ok (.iload 6, 2) := by decide +kernel
theorem dX10_node_110 : decode cX10_node 110 = .ok (.iconst 0, 1) := by decide +kernel
theorem dX10_node_111 : decode cX10_node 111 = .ok (.iastore, 1) := by decide +kernel
theorem dX10_node_112 : decode cX10_node 112 = .ok (.aload_n 0, 1) := by decide +kernel
theorem dX10_node_113 : decode cX10_node 113 = .ok (.getfield 139, 3) := by decide +kernel
theorem dX10_node_116 : decode cX10_node 116 = .ok (.iload 6, 2) := by decide +kernel
theorem dX10_node_118 : decode cX10_node 118 = .ok (.bipush (-9), 2) := by decide +kernel
theorem dX10_node_120 : decode cX10_node 120 = .ok (.iastore, 1) := by decide +kernel
theorem dX10_node_121 : decode cX10_node 121 = .ok (.aload_n 0, 1) := by decide +kernel
theorem dX10_node_122 : decode cX10_node 122 = .ok (.getfield 142, 3) := by decide +kernel
theorem dX10_node_125 : decode cX10_node 125 = .ok (.iload 6, 2) := by decide +kernel
theorem dX10_node_127 : decode cX10_node 127 = .ok (.iconst 0, 1) := by decide +kernel
theorem dX10_node_128 : decode cX10_node 128 = .ok (.iastore, 1) := by decide +kernel
theorem dX10_node_129 : decode cX10_node 129 = .ok (.aload_n 0, 1) := by decide +kernel
theorem dX10_node_130 : decode cX10_node 130 = .ok (.getfield 145, 3) := by decide +kernel
theorem dX10_node_133 : decode cX10_node 133 = .ok (.iload 6, 2) := by decide +kernel
theorem dX10_node_135 : decode cX10_node 135 = .ok (.iconst 0, 1) := by decide +kernel
theorem dX10_node_136 : decode cX10_node 136 = .ok (.iastore, 1) := by decide +kernel
theorem dX10_node_137 : decode cX10_node 137 = .ok (.aload_n 0, 1) := by decide +kernel
theorem dX10_node_138 : decode cX10_node 138 = .ok (.getfield 148, 3) := by decide +kernel
theorem dX10_node_141 : decode cX10_node 141 = .ok (.iload 6, 2) := by decide +kernel
theorem dX10_node_143 : decode cX10_node 143 = .ok (.iconst 0, 1) := by decide +kernel
theorem dX10_node_144 : decode cX10_node 144 = .ok (.bastore, 1) := by decide +kernel
theorem dX10_node_145 : decode cX10_node 145 = .ok (.aload_n 0, 1) := by decide +kernel
theorem dX10_node_146 : decode cX10_node 146 = .ok (.getfield 152, 3) := by decide +kernel
theorem dX10_node_149 : decode cX10_node 149 = .ok (.iload 6, 2) := by decide +kernel
theorem dX10_node_151 : decode cX10_node 151 = .ok (.aload_n 0, 1) := by decide +kernel
theorem dX10_node_152 : decode cX10_node 152 = .ok (.getfield 99, 3) := by decide +kernel
theorem dX10_node_155 : decode cX10_node 155 = .ok (.iload 5, 2) := by decide +kernel
theorem dX10_node_157 : decode cX10_node 157 = .ok (.laload, 1) := by decide +kernel
theorem dX10_node_158 : decode cX10_node 158 = .ok (.lastore, 1) := by decide +kernel
theorem dX10_node_159 : decode cX10_node 159 = .ok (.iload 6, 2) := by decide +kernel
theorem dX10_node_161 : decode cX10_node 161 = .ok (.ireturn, 1) := by decide +kernel
/-! AlgebraHouseModel.node(IIIII)I -/
def P_X10_node (x1 : Int) (x2 : Int) (x3 : Int) (x4 : Int) (x5 : Int) (m : MM) (Q : Int → MM → Prop) : Prop := ∀ m1 : MM, m1 = up m 582 15 ((m 582 15) + 1) → (0 ≤ (m 582 15) ∧ (m 582 15) < 12000) ∧ ∀ m2 : MM, m2 = up m1 590 (m 582 15) x1 → ∀ m3 : MM, m3 = up m2 591 (m 582 15) x2 → ∀ m4 : MM, m4 = up m3 592 (m 582 15) x3 → ∀ m5 : MM, m5 = up m4 593 (m 582 15) x4 → ∀ m6 : MM, m6 = up m5 594 (m 582 15) (-1) → (0 ≤ x5 ∧ x5 < 420) ∧ ∀ m7 : MM, m7 = up m6 595 (m 582 15) (m6 588 x5) → ∀ m8 : MM, m8 = up m7 596 (m 582 15) (-1) → ∀ m9 : MM, m9 = up m8 597 (m 582 15) (-1) → ∀ m10 : MM, m10 = up m9 598 (m 582 15) (-9) → ∀ m11 : MM, m11 = up m10 599 (m 582 15) 0 → ∀ m12 : MM, m12 = up m11 600 (m 582 15) 0 → ∀ m13 : MM, m13 = up m12 601 (m 582 15) (-9) → ∀ m14 : MM, m14 = up m13 602 (m 582 15) 0 → ∀ m15 : MM, m15 = up m14 603 (m 582 15) 0 → ∀ m16 : MM, m16 = up m15 604 (m 582 15) 0 → ∀ m17 : MM, m17 = up m16 605 (m 582 15) (m16 589 x5) → Q (m 582 15) m17
theorem p_X10_node {f : Nat} {Q : Int → MM → Prop} {T : MM → Prop} (hf : 1 ≤ f) (x1 : Int) (x2 : Int) (x3 : Int) (x4 : Int) (x5 : Int) (m : MM) (h : P_X10_node x1 x2 x3 x4 x5 m Q) : CC f M_X10_node [vR 582, vI x1, vI x2, vI x3, vI x4, vI x5] m Q T := by
  refine CC.of (plainFor_of_name (by decide)) (Nat.le_of_ble_eq_true rfl) (ls := [vR 582, vI x1, vI x2, vI x3, vI x4, vI x5, vU]) rfl ?_
  have h : ∀ m1 : MM, m1 = up m 582 15 ((m 582 15) + 1) → (0 ≤ (m 582 15) ∧ (m 582 15) < 12000) ∧ ∀ m2 : MM, m2 = up m1 590 (m 582 15) x1 → ∀ m3 : MM, m3 = up m2 591 (m 582 15) x2 → ∀ m4 : MM, m4 = up m3 592 (m 582 15) x3 → ∀ m5 : MM, m5 = up m4 593 (m 582 15) x4 → ∀ m6 : MM, m6 = up m5 594 (m 582 15) (-1) → (0 ≤ x5 ∧ x5 < 420) ∧ ∀ m7 : MM, m7 = up m6 595 (m 582 15) (m6 588 x5) → ∀ m8 : MM, m8 = up m7 596 (m 582 15) (-1) → ∀ m9 : MM, m9 = up m8 597 (m 582 15) (-1) → ∀ m10 : MM, m10 = up m9 598 (m 582 15) (-9) → ∀ m11 : MM, m11 = up m10 599 (m 582 15) 0 → ∀ m12 : MM, m12 = up m11 600 (m 582 15) 0 → ∀ m13 : MM, m13 = up m12 601 (m 582 15) (-9) → ∀ m14 : MM, m14 = up m13 602 (m 582 15) 0 → ∀ m15 : MM, m15 = up m14 603 (m 582 15) 0 → ∀ m16 : MM, m16 = up m15 604 (m 582 15) 0 → ∀ m17 : MM, m17 = up m16 605 (m 582 15) (m16 589 x5) → Q (m 582 15) m17 := h
  refine b_aload_n dX10_node_0 rfl ?_
  refine b_getI dX10_node_1 fk_X10_378 ly_582 ?_
  refine b_istore (ls' := [vR 582, vI x1, vI x2, vI x3, vI x4, vI x5, vI (m 582 15)]) dX10_node_4 (Nat.le_of_ble_eq_true rfl) rfl ?_
  refine b_aload_n dX10_node_6 rfl ?_
  refine b_dup dX10_node_7 rfl ?_
  refine b_getI dX10_node_8 fk_X10_378 ly_582 ?_
  refine b_iconst dX10_node_11 ?_
  refine b_iadd dX10_node_12 ?_
  refine b_putI dX10_node_13 fk_X10_378 ly_582 (fun m1 em1 => ?_)
  have h := h m1 em1
  refine b_aload_n dX10_node_16 rfl ?_
  refine b_getR dX10_node_17 fk_X10_106 ly_582 gg_582_16 ?_
  refine b_iload dX10_node_20 rfl ?_
  refine b_iload_n dX10_node_22 rfl ?_
  obtain ⟨g1, h⟩ := h
  refine b_iast dX10_node_23 ly_590 g1 (fun m2 em2 => ?_)
  have h := h m2 em2
  refine b_aload_n dX10_node_24 rfl ?_
  refine b_getR dX10_node_25 fk_X10_109 ly_582 gg_582_17 ?_
  refine b_iload dX10_node_28 rfl ?_
  refine b_iload_n dX10_node_30 rfl ?_
  refine b_iast dX10_node_31 ly_591 g1 (fun m3 em3 => ?_)
  have h := h m3 em3
  refine b_aload_n dX10_node_32 rfl ?_
  refine b_getR dX10_node_33 fk_X10_112 ly_582 gg_582_18 ?_
  refine b_iload dX10_node_36 rfl ?_
  refine b_iload_n dX10_node_38 rfl ?_
  refine b_iast dX10_node_39 ly_592 g1 (fun m4 em4 => ?_)
  have h := h m4 em4
  refine b_aload_n dX10_node_40 rfl ?_
  refine b_getR dX10_node_41 fk_X10_115 ly_582 gg_582_19 ?_
  refine b_iload dX10_node_44 rfl ?_
  refine b_iload dX10_node_46 rfl ?_
  refine b_iast dX10_node_48 ly_593 g1 (fun m5 em5 => ?_)
  have h := h m5 em5
  refine b_aload_n dX10_node_49 rfl ?_
  refine b_getR dX10_node_50 fk_X10_118 ly_582 gg_582_20 ?_
  refine b_iload dX10_node_53 rfl ?_
  refine b_iconst dX10_node_55 ?_
  refine b_iast dX10_node_56 ly_594 g1 (fun m6 em6 => ?_)
  have h := h m6 em6
  refine b_aload_n dX10_node_57 rfl ?_
  refine b_getR dX10_node_58 fk_X10_121 ly_582 gg_582_21 ?_
  refine b_iload dX10_node_61 rfl ?_
  refine b_aload_n dX10_node_63 rfl ?_
  refine b_getR dX10_node_64 fk_X10_96 ly_582 gg_582_6 ?_
  refine b_iload dX10_node_67 rfl ?_
  obtain ⟨g2, h⟩ := h
  refine b_iald dX10_node_69 ly_588 g2 ?_
  refine b_iast dX10_node_70 ly_595 g1 (fun m7 em7 => ?_)
  have h := h m7 em7
  refine b_aload_n dX10_node_71 rfl ?_
  refine b_getR dX10_node_72 fk_X10_124 ly_582 gg_582_22 ?_
  refine b_iload dX10_node_75 rfl ?_
  refine b_iconst dX10_node_77 ?_
  refine b_iast dX10_node_78 ly_596 g1 (fun m8 em8 => ?_)
  have h := h m8 em8
  refine b_aload_n dX10_node_79 rfl ?_
  refine b_getR dX10_node_80 fk_X10_127 ly_582 gg_582_23 ?_
  refine b_iload dX10_node_83 rfl ?_
  refine b_iconst dX10_node_85 ?_
  refine b_iast dX10_node_86 ly_597 g1 (fun m9 em9 => ?_)
  have h := h m9 em9
  refine b_aload_n dX10_node_87 rfl ?_
  refine b_getR dX10_node_88 fk_X10_130 ly_582 gg_582_24 ?_
  refine b_iload dX10_node_91 rfl ?_
  refine b_bipush dX10_node_93 (by decide) ?_
  refine b_iast dX10_node_95 ly_598 g1 (fun m10 em10 => ?_)
  have h := h m10 em10
  refine b_aload_n dX10_node_96 rfl ?_
  refine b_getR dX10_node_97 fk_X10_133 ly_582 gg_582_25 ?_
  refine b_iload dX10_node_100 rfl ?_
  refine b_iconst dX10_node_102 ?_
  refine b_iast dX10_node_103 ly_599 g1 (fun m11 em11 => ?_)
  have h := h m11 em11
  refine b_aload_n dX10_node_104 rfl ?_
  refine b_getR dX10_node_105 fk_X10_136 ly_582 gg_582_26 ?_
  refine b_iload dX10_node_108 rfl ?_
  refine b_iconst dX10_node_110 ?_
  refine b_iast dX10_node_111 ly_600 g1 (fun m12 em12 => ?_)
  have h := h m12 em12
  refine b_aload_n dX10_node_112 rfl ?_
  refine b_getR dX10_node_113 fk_X10_139 ly_582 gg_582_27 ?_
  refine b_iload dX10_node_116 rfl ?_
  refine b_bipush dX10_node_118 (by decide) ?_
  refine b_iast dX10_node_120 ly_601 g1 (fun m13 em13 => ?_)
  have h := h m13 em13
  refine b_aload_n dX10_node_121 rfl ?_
  refine b_getR dX10_node_122 fk_X10_142 ly_582 gg_582_28 ?_
  refine b_iload dX10_node_125 rfl ?_
  refine b_iconst dX10_node_127 ?_
  refine b_iast dX10_node_128 ly_602 g1 (fun m14 em14 => ?_)
  have h := h m14 em14
  refine b_aload_n dX10_node_129 rfl ?_
  refine b_getR dX10_node_130 fk_X10_145 ly_582 gg_582_29 ?_
  refine b_iload dX10_node_133 rfl ?_
  refine b_iconst dX10_node_135 ?_
  refine b_iast dX10_node_136 ly_603 g1 (fun m15 em15 => ?_)
  have h := h m15 em15
  refine b_aload_n dX10_node_137 rfl ?_
  refine b_getR dX10_node_138 fk_X10_148 ly_582 gg_582_30 ?_
  refine b_iload dX10_node_141 rfl ?_
  refine b_iconst dX10_node_143 ?_
  refine b_zast dX10_node_144 ly_604 g1 (Or.inl rfl) (fun m16 em16 => ?_)
  have h := h m16 em16
  refine b_aload_n dX10_node_145 rfl ?_
  refine b_getR dX10_node_146 fk_X10_152 ly_582 gg_582_31 ?_
  refine b_iload dX10_node_149 rfl ?_
  refine b_aload_n dX10_node_151 rfl ?_
  refine b_getR dX10_node_152 fk_X10_99 ly_582 gg_582_7 ?_
  refine b_iload dX10_node_155 rfl ?_
  refine b_lald dX10_node_157 ly_589 g2 ?_
  refine b_last dX10_node_158 ly_605 g1 (fun m17 em17 => ?_)
  have h := h m17 em17
  refine b_iload dX10_node_159 rfl ?_
  exact b_iret dX10_node_161 rfl h
theorem dX10_takesSign_0 : decode cX10_takesSign 0 = .ok (.aload_n 0, 1) := by decide +kernel
theorem dX10_takesSign_1 : decode cX10_takesSign 1 = .ok (.iload_n 1, 1) := by decide +kernel
theorem dX10_takesSign_2 : decode cX10_takesSign 2 = .ok (.invokevirtual 359, 3) := by decide +kernel
theorem dX10_takesSign_5 : decode cX10_takesSign 5 = .ok (.ifCond .ne 5, 3) := by decide +kernel
theorem dX10_takesSign_8 : decode cX10_takesSign 8 = .ok (.iconst 0, 1) := by decide +kernel
theorem dX10_takesSign_9 : decode cX10_takesSign 9 = .ok (.ireturn, 1) := by decide +kernel
theorem dX10_takesSign_10 : decode cX10_takesSign 10 = .ok (.aload_n 0, 1) := by decide +kernel
theorem dX10_takesSign_11 : decode cX10_takesSign 11 = .ok (.invokevirtual 362, 3) := by decide +kernel
theorem dX10_takesSign_14 : decode cX10_takesSign 14 = .ok (.iconst 1, 1) := by decide +kernel
theorem dX10_takesSign_15 : decode cX10_takesSign 15 = .ok (.ireturn, 1) := by decide +kernel
/-! AlgebraHouseModel.takesSign(I)Z -/
def P_X10_takesSign (x1 : Int) (m : MM) (Q : Int → MM → Prop) : Prop := P_X10_isSign x1 m (fun r1 m1 => (RI r1) ∧ (if r1 = 0 then Q 0 m1 else P_X10_accept m1 (fun r2 m2 => Q 1 m2)))
theorem p_X10_takesSign {f : Nat} {Q : Int → MM → Prop} {T : MM → Prop} (hf : 3 ≤ f) (x1 : Int) (m : MM) (h : P_X10_takesSign x1 m Q) : CC f M_X10_takesSign [vR 582, vI x1] m Q T := by
  refine CC.of (plainFor_of_name (by decide)) (Nat.le_of_ble_eq_true rfl) (ls := [vR 582, vI x1]) rfl ?_
  have h : P_X10_isSign x1 m (fun r1 m1 => (RI r1) ∧ (if r1 = 0 then Q 0 m1 else P_X10_accept m1 (fun r2 m2 => Q 1 m2))) := h
  refine b_aload_n dX10_takesSign_0 rfl ?_
  refine b_iload_n dX10_takesSign_1 rfl ?_
  refine b_cVi (as := [vI x1]) (st := []) dX10_takesSign_2 mf_X10_isSign qs104 lk_X10_359 ly_582 rfl (p_X10_isSign (f := 1) (Nat.le_refl _) _ _ h) (by omega) rfl rfl (Nat.le_of_ble_eq_true rfl) (by decide) rfl (fun _ => rfl) (fun r1 m1 h => ?_) (fun _ h => h)
  obtain ⟨g1, h⟩ := h
  refine b_if_ne 10 dX10_takesSign_5 g1 (by decide) (fun c1 => ?_) (fun c1 => ?_)
  · have h := ifF c1 h
    refine b_aload_n dX10_takesSign_10 rfl ?_
    refine b_cVv (as := []) (st := []) dX10_takesSign_11 mf_X10_accept qs100 lk_X10_362 ly_582 rfl (p_X10_accept (f := 2) (Nat.le_refl _) _ h) (by omega) rfl rfl (Nat.le_of_ble_eq_true rfl) (by decide) rfl (fun _ => rfl) (fun r2 m2 h => ?_) (fun _ h => h)
    refine b_iconst dX10_takesSign_14 ?_
    exact b_zret dX10_takesSign_15 rfl (Or.inr rfl) h
  · have h := ifT (Decidable.of_not_not c1) h
    refine b_iconst dX10_takesSign_8 ?_
    exact b_zret dX10_takesSign_9 rfl (Or.inl rfl) h
theorem dX10_takesKey_0 : decode cX10_takesKey 0 = .ok (.aload_n 0, 1) := by decide +kernel
theorem dX10_takesKey_1 : decode cX10_takesKey 1 = .ok (.lload_n 1, 1) := by decide +kernel
theorem dX10_takesKey_2 : decode cX10_takesKey 2 = .ok (.invokevirtual 365, 3) := by decide +kernel
theorem dX10_takesKey_5 : decode cX10_takesKey 5 = .ok (.ifCond .ne 5, 3) := by decide +kernel
theorem dX10_takesKey_8 : decode cX10_takesKey 8 = .ok (.iconst 0, 1) := by decide +kernel
theorem dX10_takesKey_9 : decode cX10_takesKey 9 = .ok (.ireturn, 1) := by decide +kernel
theorem dX10_takesKey_10 : decode cX10_takesKey 10 = .ok (.aload_n 0, 1) := by decide +kernel
theorem dX10_takesKey_11 : decode cX10_takesKey 11 = .ok (.invokevirtual 362, 3) := by decide +kernel
theorem dX10_takesKey_14 : decode cX10_takesKey 14 = .ok (.iconst 1, 1) := by decide +kernel
theorem dX10_takesKey_15 : decode cX10_takesKey 15 = .ok (.ireturn, 1) := by decide +kernel
/-! AlgebraHouseModel.takesKey(J)Z -/
def P_X10_takesKey (x1 : Int) (m : MM) (Q : Int → MM → Prop) : Prop := P_X10_isKey x1 m (fun r1 m1 => (RI r1) ∧ (if r1 = 0 then Q 0 m1 else P_X10_accept m1 (fun r2 m2 => Q 1 m2)))
theorem p_X10_takesKey {f : Nat} {Q : Int → MM → Prop} {T : MM → Prop} (hf : 3 ≤ f) (x1 : Int) (m : MM) (h : P_X10_takesKey x1 m Q) : CC f M_X10_takesKey [vR 582, vL x1] m Q T := by
  refine CC.of (plainFor_of_name (by decide)) (Nat.le_of_ble_eq_true rfl) (ls := [vR 582, vL x1, vU]) rfl ?_
  have h : P_X10_isKey x1 m (fun r1 m1 => (RI r1) ∧ (if r1 = 0 then Q 0 m1 else P_X10_accept m1 (fun r2 m2 => Q 1 m2))) := h
  refine b_aload_n dX10_takesKey_0 rfl ?_
  refine b_lload_n dX10_takesKey_1 rfl ?_
  refine b_cVi (as := [vL x1]) (st := []) dX10_takesKey_2 mf_X10_isKey qs108 lk_X10_365 ly_582 rfl (p_X10_isKey (f := 1) (Nat.le_refl _) _ _ h) (by omega) rfl rfl (Nat.le_of_ble_eq_true rfl) (by decide) rfl (fun _ => rfl) (fun r1 m1 h => ?_) (fun _ h => h)
  obtain ⟨g1, h⟩ := h
  refine b_if_ne 10 dX10_takesKey_5 g1 (by decide) (fun c1 => ?_) (fun c1 => ?_)
  · have h := ifF c1 h
    refine b_aload_n dX10_takesKey_10 rfl ?_
    refine b_cVv (as := []) (st := []) dX10_takesKey_11 mf_X10_accept qs100 lk_X10_362 ly_582 rfl (p_X10_accept (f := 2) (Nat.le_refl _) _ h) (by omega) rfl rfl (Nat.le_of_ble_eq_true rfl) (by decide) rfl (fun _ => rfl) (fun r2 m2 h => ?_) (fun _ h => h)
    refine b_iconst dX10_takesKey_14 ?_
    exact b_zret dX10_takesKey_15 rfl (Or.inr rfl) h
  · have h := ifT (Decidable.of_not_not c1) h
    refine b_iconst dX10_takesKey_8 ?_
    exact b_zret dX10_takesKey_9 rfl (Or.inl rfl) h
theorem dX10_readRing_0 : decode cX10_readRing 0 = .ok (.aload_n 0, 1) := by decide +kernel
theorem dX10_readRing_1 : decode cX10_readRing 1 = .ok (.getfield 324, 3) := by decide +kernel
theorem dX10_readRing_4 : decode cX10_readRing 4 = .ok (.istore_n 1, 1) := by decide +kernel
theorem dX10_readRing_5 : decode cX10_readRing 5 = .ok (.aload_n 0, 1) := by decide +kernel
theorem dX10_readRing_6 : decode cX10_readRing 6 = .ok (.bipush 28, 2) := by decide +kernel
theorem dX10_readRing_8 : decode cX10_readRing 8 = .ok (.iconst (-1), 1) := by decide +kernel
theorem dX10_readRing_9 : decode cX10_readRing 9 = .ok (.iconst (-1), 1) := by decide +kernel
theorem dX10_readRing_10 : decode cX10_readRing 10 = .ok (.iconst (-1), 1) := by decide +kernel
theorem dX10_readRing_11 : decode cX10_readRing 11 = .ok (.iload_n 1, 1) := by decide +kernel
theorem dX10_readRing_12 : decode cX10_readRing 12 = .ok (.invokevirtual 381, 3) := by decide +kernel
theorem dX10_readRing_15 : decode cX10_readRing 15 = .ok (.istore_n 2, 1) := by decide +kernel
theorem dX10_readRing_16 : decode cX10_readRing 16 = .ok (.aload_n 0, 1) := by decide +kernel
theorem dX10_readRing_17 : decode cX10_readRing 17 = .ok (.getfield 347, 3) := by decide +kernel
theorem dX10_readRing_20 : decode cX10_readRing 20 = .ok (.ifCond .le 5, 3) := by decide +kernel
theorem dX10_readRing_23 : decode cX10_readRing 23 = .ok (.iload_n 2, 1) := by decide +kernel
theorem dX10_readRing_24 : decode cX10_readRing 24 = .ok (.ireturn, 1) := by decide +kernel
theorem dX10_readRing_25 : decode cX10_readRing 25 = .ok (.aload_n 0, 1) := by decide +kernel
theorem dX10_readRing_26 : decode cX10_readRing 26 = .ok (.ldc2_w 37, 3) := by decide +kernel
theorem dX10_readRing_29 : decode cX10_readRing 29 = .ok (.invokevirtual 365, 3) := by decide +kernel
theorem dX10_readRing_32 : decode cX10_readRing 32 = .ok (.ifCond .eq 7, 3) := by decide +kernel
theorem dX10_readRing_35 : decode cX10_readRing 35 = .ok (.iconst 0, 1) := by decide +kernel
theorem dX10_readRing_36 : decode cX10_readRing 36 = .ok (.goto 89, 3) := by decide +kernel
theorem dX10_readRing_39 : decode cX10_readRing 39 = .ok (.aload_n 0, 1) := by decide +kernel
theorem dX10_readRing_40 : decode cX10_readRing 40 = .ok (.ldc2_w 39, 3) := by decide +kernel
theorem dX10_readRing_43 : decode cX10_readRing 43 = .ok (.invokevirtual 365, 3) := by decide +kernel
theorem dX10_readRing_46 : decode cX10_readRing 46 = .ok (.ifCond .eq 7, 3) := by decide +kernel
theorem dX10_readRing_49 : decode cX10_readRing 49 = .ok (.iconst 1, 1) := by decide +kernel
theorem dX10_readRing_50 : decode cX10_readRing 50 = .ok (.goto 75, 3) := by decide +kernel
theorem dX10_readRing_53 : decode cX10_readRing 53 = .ok (.aload_n 0, 1) := by decide +kernel
theorem dX10_readRing_54 : decode cX10_readRing 54 = .ok (.ldc2_w 41, 3) := by decide +kernel
theorem dX10_readRing_57 : decode cX10_readRing 57 = .ok (.invokevirtual 365, 3) := by decide +kernel
theorem dX10_readRing_60 : decode cX10_readRing 60 = .ok (.ifCond .eq 7, 3) := by decide +kernel
theorem dX10_readRing_63 : decode cX10_readRing 63 = .ok (.iconst 2, 1) := by decide +kernel
theorem dX10_readRing_64 : decode cX10_readRing 64 = .ok (.goto 61, 3) := by decide +kernel
theorem dX10_readRing_67 : decode cX10_readRing 67 = .ok (.aload_n 0, 1) := by decide +kernel
theorem dX10_readRing_68 : decode cX10_readRing 68 = .ok (.ldc2_w 43, 3) := by decide +kernel
theorem dX10_readRing_71 : decode cX10_readRing 71 = .ok (.invokevirtual 365, 3) := by decide +kernel
theorem dX10_readRing_74 : decode cX10_readRing 74 = .ok (.ifCond .eq 7, 3) := by decide +kernel
theorem dX10_readRing_77 : decode cX10_readRing 77 = .ok (.iconst 3, 1) := by decide +kernel
theorem dX10_readRing_78 : decode cX10_readRing 78 = .ok (.goto 47, 3) := by decide +kernel
theorem dX10_readRing_81 : decode cX10_readRing 81 = .ok (.aload_n 0, 1) := by decide +kernel
theorem dX10_readRing_82 : decode cX10_readRing 82 = .ok (.ldc2_w 49, 3) := by decide +kernel
theorem dX10_readRing_85 : decode cX10_readRing 85 = .ok (.invokevirtual 365, 3) := by decide +kernel
theorem dX10_readRing_88 : decode cX10_readRing 88 = .ok (.ifCond .eq 7, 3) := by decide +kernel
theorem dX10_readRing_91 : decode cX10_readRing 91 = .ok (.iconst 4, 1) := by decide +kernel
theorem dX10_readRing_92 : decode cX10_readRing 92 = .ok (.goto 33, 3) := by decide +kernel
theorem dX10_readRing_95 : decode cX10_readRing 95 = .ok (.aload_n 0, 1) := by decide +kernel
theorem dX10_readRing_96 : decode cX10_readRing 96 = .ok (.ldc2_w 45, 3) := by decide +kernel
theorem dX10_readRing_99 : decode cX10_readRing 99 = .ok (.invokevirtual 365, 3) := by decide +kernel
theorem dX10_readRing_102 : decode cX10_readRing 102 = .ok (.ifCond .eq 7, 3) := by decide +kernel
theorem dX10_readRing_105 : decode cX10_readRing 105 = .ok (.iconst 5, 1) := by decide +kernel
theorem dX10_readRing_106 : decode cX10_readRing 106 = .ok (.goto 19, 3) := by decide +kernel
theorem dX10_readRing_109 : decode cX10_readRing 109 = .ok (.aload_n 0, 1) := by decide +kernel
theorem dX10_readRing_110 : decode cX10_readRing 110 = .ok (.ldc2_w 47, 3) := by decide +kernel
theorem dX10_readRing_113 : decode cX10_readRing 113 = .ok (.invokevirtual 365, 3) := by decide +kernel
theorem dX10_readRing_116 : decode cX10_readRing 116 = .ok (.ifCond .eq 8, 3) := by decide +kernel
theorem dX10_readRing_119 : decode cX10_readRing 119 = .ok (.bipush 6, 2) := by decide +kernel
theorem dX10_readRing_121 : decode cX10_readRing 121 = .ok (.goto 4, 3) := by decide +kernel
theorem dX10_readRing_124 : decode cX10_readRing 124 = .ok (.iconst (-1), 1) := by decide +kernel
theorem dX10_readRing_125 : decode cX10_readRing 125 = .ok (.istore_n 3, 1) := by decide +kernel
theorem dX10_readRing_126 : decode cX10_readRing 126 = .ok (.iload_n 3, 1) := by decide +kernel
theorem dX10_readRing_127 : decode cX10_readRing 127 = .ok (.ifCond .ge 10, 3) := by decide +kernel
theorem dX10_readRing_130 : decode cX10_readRing 130 = .ok (.aload_n 0, 1) := by decide +kernel
theorem dX10_readRing_131 : decode cX10_readRing 131 = .ok (.iconst 1, 1) := by decide +kernel
theorem dX10_readRing_132 : decode cX10_readRing 132 = .ok (.invokevirtual 356, 3) := by decide +kernel
theorem dX10_readRing_135 : decode cX10_readRing 135 = .ok (.iload_n 2, 1) := by decide +kernel
theorem dX10_readRing_136 : decode cX10_readRing 136 = .ok (.ireturn, 1) := by decide +kernel
theorem dX10_readRing_137 : decode cX10_readRing 137 = .ok (.aload_n 0, 1) := by decide +kernel
theorem dX10_readRing_138 : decode cX10_readRing 138 = .ok (.invokevirtual 362, 3) := by decide +kernel
theorem dX10_readRing_141 : decode cX10_readRing 141 = .ok (.aload_n 0, 1) := by decide +kernel
theorem dX10_readRing_142 : decode cX10_readRing 142 = .ok (.getfield 127, 3) := by decide +kernel
theorem dX10_readRing_145 : decode cX10_readRing 145 = .ok (.iload_n 2, 1) := by decide +kernel
theorem dX10_readRing_146 : decode cX10_readRing 146 = .ok (.iload_n 3, 1) := by decide +kernel
theorem dX10_readRing_147 : decode cX10_readRing 147 = .ok (.iastore, 1) := by decide +kernel
theorem dX10_readRing_148 : decode cX10_readRing 148 = .ok (.iload_n 3, 1) := by decide +kernel
theorem dX10_readRing_149 : decode cX10_readRing 149 = .ok (.iconst 3, 1) := by decide +kernel
theorem dX10_readRing_150 : decode cX10_readRing 150 = .ok (.if_icmp .lt 8, 3) := by decide +kernel
theorem dX10_readRing_153 : decode cX10_readRing 153 = .ok (.iload_n 3, 1) := by decide +kernel
theorem dX10_readRing_154 : decode cX10_readRing 154 = .ok (.iconst 4, 1) := by decide +kernel
theorem dX10_readRing_155 : decode cX10_readRing 155 = .ok (.if_icmp .ne 5, 3) := by decide +kernel
theorem dX10_readRing_158 : decode cX10_readRing 158 = .ok (.iload_n 2, 1) := by decide +kernel
theorem dX10_readRing_159 : decode cX10_readRing 159 = .ok (.ireturn, 1) := by decide +kernel
theorem dX10_readRing_160 : decode cX10_readRing 160 = .ok (.aload_n 0, 1) := by decide +kernel
theorem dX10_readRing_161 : decode cX10_readRing 161 = .ok (.bipush 40, 2) := by decide +kernel
theorem dX10_readRing_163 : decode cX10_readRing 163 = .ok (.invokevirtual 385, 3) := by decide +kernel
theorem dX10_readRing_166 : decode cX10_readRing 166 = .ok (.iload_n 3, 1) := by decide +kernel
theorem dX10_readRing_167 : decode cX10_readRing 167 = .ok (.iconst 5, 1) := by decide +kernel
theorem dX10_readRing_168 : decode cX10_readRing 168 = .ok (.if_icmp .eq 36, 3) := by decide +kernel
theorem dX10_readRing_171 : decode cX10_readRing 171 = .ok (.aload_n 0, 1) := by decide +kernel
theorem dX10_readRing_172 : decode cX10_readRing 172 = .ok (.iconst 4, 1) := by decide +kernel
theorem dX10_readRing_173 : decode cX10_readRing 173 = .ok (.invokevirtual 388, 3) := by decide +kernel
theorem dX10_readRing_176 : decode cX10_readRing 176 = .ok (.istore 4, 2) := by decide +kernel
theorem dX10_readRing_178 : decode cX10_readRing 178 = .ok (.aload_n 0, 1) := by decide +kernel
theorem dX10_readRing_179 : decode cX10_readRing 179 = .ok (.getfield 152, 3) := by decide +kernel
theorem dX10_readRing_182 : decode cX10_readRing 182 = .ok (.iload_n 2, 1) := by decide +kernel
theorem dX10_readRing_183 : decode cX10_readRing 183 = .ok (.aload_n 0, 1) := by decide +kernel
theorem dX10_readRing_184 : decode cX10_readRing 184 = .ok (.getfield 99, 3) := by decide +kernel
theorem dX10_readRing_187 : decode cX10_readRing 187 = .ok (.iload 4, 2) := by decide +kernel
theorem dX10_readRing_189 : decode cX10_readRing 189 = .ok (.laload, 1) := by decide +kernel
theorem dX10_readRing_190 : decode cX10_readRing 190 = .ok (.lastore, 1) := by decide +kernel
theorem dX10_readRing_191 : decode cX10_readRing 191 = .ok (.aload_n 0, 1) := by decide +kernel
theorem dX10_readRing_192 : decode cX10_readRing 192 = .ok (.getfield 112, 3) := by decide +kernel
theorem dX10_readRing_195 : decode cX10_readRing 195 = .ok (.iload_n 2, 1) := by decide +kernel
theorem dX10_readRing_196 : decode cX10_readRing 196 = .ok (.aload_n 0, 1) := by decide +kernel
theorem dX10_readRing_197 : decode cX10_readRing 197 = .ok (.getfield 96, 3) := by decide +kernel
theorem dX10_readRing_200 : decode cX10_readRing 200 = .ok (.iload 4, 2) := by decide +kernel
theorem dX10_readRing_202 : decode cX10_readRing 202 = .ok (.iaload, 1) := by decide +kernel
theorem dX10_readRing_203 : decode cX10_readRing 203 = .ok (.iastore, 1) := by decide +kernel
theorem dX10_readRing_204 : decode cX10_readRing 204 = .ok (.iload_n 3, 1) := by decide +kernel
theorem dX10_readRing_205 : decode cX10_readRing 205 = .ok (.bipush 6, 2) := by decide +kernel
theorem dX10_readRing_207 : decode cX10_readRing 207 = .ok (.if_icmp .ne 9, 3) := by decide +kernel
theorem dX10_readRing_210 : decode cX10_readRing 210 = .ok (.aload_n 0, 1) := by decide +kernel
theorem dX10_readRing_211 : decode cX10_readRing 211 = .ok (.bipush 44, 2) := by decide +kernel
theorem dX10_readRing_213 : decode cX10_readRing 213 = .ok (.invokevirtual 372, 3) := by decide +kernel
theorem dX10_readRing_216 : decode cX10_readRing 216 = .ok (.iload_n 3, 1) := by decide +kernel
theorem dX10_readRing_217 : decode cX10_readRing 217 = .ok (.iconst 3, 1) := by decide +kernel
theorem dX10_readRing_218 : decode cX10_readRing 218 = .ok (.if_icmp .eq 17, 3) := by decide +kernel
theorem dX10_readRing_221 : decode cX10_readRing 221 = .ok (.aload_n 0, 1) := by decide +kernel
theorem dX10_readRing_222 : decode cX10_readRing 222 = .ok (.invokevirtual 392, 3) := by decide +kernel
theorem dX10_readRing_225 : decode cX10_readRing 225 = .ok (.istore 4, 2) := by decide +kernel
theorem dX10_readRing_227 : decode cX10_readRing 227 = .ok (.aload_n 0, 1) := by decide +kernel
theorem dX10_readRing_228 : decode cX10_readRing 228 = .ok (.getfield 109, 3) := by decide +kernel
theorem dX10_readRing_231 : decode cX10_readRing 231 = .ok (.iload_n 2, 1) := by decide +kernel
theorem dX10_readRing_232 : decode cX10_readRing 232 = .ok (.iload 4, 2) := by decide +kernel
theorem dX10_readRing_234 : decode cX10_readRing 234 = .ok (.iastore, 1) := by decide +kernel
theorem dX10_readRing_235 : decode cX10_readRing 235 = .ok (.aload_n 0, 1) := by decide +kernel
theorem dX10_readRing_236 : decode cX10_readRing 236 = .ok (.bipush 41, 2) := by decide +kernel
theorem dX10_readRing_238 : decode cX10_readRing 238 = .ok (.invokevirtual 396, 3) := by decide +kernel
theorem dX10_readRing_241 : decode cX10_readRing 241 = .ok (.iload_n 2, 1) := by decide +kernel
theorem dX10_readRing_242 : decode cX10_readRing 242 = .ok (.ireturn, 1) := by decide +kernel
/-! AlgebraHouseModel.readRing()I -/
def P_X10_readRing_235 (rec : Nat → List Int → MM → (Int → MM → Prop) → (MM → Prop) → Prop) (Q : Int → MM → Prop) (T : MM → Prop) (x2 : Int) (m : MM) : Prop := P_X10_closeWith 41 m (fun r1 m1 => Q x2 m1)
def P_X10_readRing_216 (rec : Nat → List Int → MM → (Int → MM → Prop) → (MM → Prop) → Prop) (Q : Int → MM → Prop) (T : MM → Prop) (x2 : Int) (x3 : Int) (m : MM) : Prop := (RI x3) ∧ (if x3 = 3 then P_X10_readRing_235 rec Q T x2 m else rec 0 [] m (fun r1 m1 => (0 ≤ x2 ∧ x2 < 12000) ∧ ∀ m2 : MM, m2 = up m1 591 x2 r1 → P_X10_readRing_235 rec Q T x2 m2) T)
def P_X10_readRing_204 (rec : Nat → List Int → MM → (Int → MM → Prop) → (MM → Prop) → Prop) (Q : Int → MM → Prop) (T : MM → Prop) (x2 : Int) (x3 : Int) (m : MM) : Prop := (RI x3) ∧ (if x3 = 6 then P_X10_sign 44 m (fun r1 m1 => P_X10_readRing_216 rec Q T x2 x3 m1) else P_X10_readRing_216 rec Q T x2 x3 m)
def P_X10_readRing_125 (rec : Nat → List Int → MM → (Int → MM → Prop) → (MM → Prop) → Prop) (Q : Int → MM → Prop) (T : MM → Prop) (x2 : Int) (s0 : Int) (m : MM) : Prop := (RI s0) ∧ (if 0 ≤ s0 then P_X10_accept m (fun r1 m1 => (0 ≤ x2 ∧ x2 < 12000) ∧ ∀ m2 : MM, m2 = up m1 597 x2 s0 → (if s0 < 3 then Q x2 m2 else (if s0 = 4 then Q x2 m2 else P_X10_openWith 40 m2 (fun r2 m3 => (if s0 = 5 then P_X10_readRing_204 rec Q T x2 s0 m3 else P_X10_need 4 m3 (fun r3 m4 => (0 ≤ r3 ∧ r3 < 420) ∧ ∀ m5 : MM, m5 = up m4 605 x2 (m4 589 r3) → ∀ m6 : MM, m6 = up m5 592 x2 (m5 588 r3) → P_X10_readRing_204 rec Q T x2 s0 m6)))))) else P_X10_fail 1 m (fun r4 m7 => Q x2 m7))
def W_X10_readRing (rec : Nat → List Int → MM → (Int → MM → Prop) → (MM → Prop) → Prop) (m : MM) (Q : Int → MM → Prop) (T : MM → Prop) : Prop := P_X10_node 28 (-1) (-1) (-1) (m 582 9) m (fun r1 m1 => (RI (m1 582 10)) ∧ (if (m1 582 10) ≤ 0 then P_X10_isKey 90 m1 (fun r2 m2 => (RI r2) ∧ (if r2 = 0 then P_X10_isKey 81 m2 (fun r3 m3 => (RI r3) ∧ (if r3 = 0 then P_X10_isKey 66 m3 (fun r4 m4 => (RI r4) ∧ (if r4 = 0 then P_X10_isKey 70 m4 (fun r5 m5 => (RI r5) ∧ (if r5 = 0 then P_X10_isKey 82 m5 (fun r6 m6 => (RI r6) ∧ (if r6 = 0 then P_X10_isKey 80 m6 (fun r7 m7 => (RI r7) ∧ (if r7 = 0 then P_X10_isKey 77 m7 (fun r8 m8 => (RI r8) ∧ (if r8 = 0 then P_X10_readRing_125 rec Q T r1 (-1) m8 else P_X10_readRing_125 rec Q T r1 6 m8)) else P_X10_readRing_125 rec Q T r1 5 m7)) else P_X10_readRing_125 rec Q T r1 4 m6)) else P_X10_readRing_125 rec Q T r1 3 m5)) else P_X10_readRing_125 rec Q T r1 2 m4)) else P_X10_readRing_125 rec Q T r1 1 m3)) else P_X10_readRing_125 rec Q T r1 0 m2)) else Q r1 m1))
def HR_X10_readRing (rec : Nat → List Int → MM → (Int → MM → Prop) → (MM → Prop) → Prop) (fr : Nat) : Prop := (∀ (m : MM) (Q : Int → MM → Prop) (T : MM → Prop), rec 0 [] m Q T → CC fr M_X10_readRing [vR 582] m Q T) ∧ True
theorem pl_X10_readRing_235 {f : Nat} {Q : Int → MM → Prop} {T : MM → Prop} {rec : Nat → List Int → MM → (Int → MM → Prop) → (MM → Prop) → Prop} {fr : Nat} (hrec : HR_X10_readRing rec fr) (hf : 5 ≤ f ∧ fr + 1 ≤ f) : ∀ (x2 : Int) (m : MM), P_X10_readRing_235 rec Q T x2 m → B f M_X10_readRing 235 [vR 582, vU, vI x2, vU, vU] [] m Q T := by
  intro x2 m h
  have h : P_X10_closeWith 41 m (fun r1 m1 => Q x2 m1) := h
  refine b_aload_n dX10_readRing_235 rfl ?_
  refine b_bipush dX10_readRing_236 (by decide) ?_
  refine b_cVv (as := [vI 41]) (st := []) dX10_readRing_238 mf_X10_closeWith qs109 lk_X10_396 ly_582 rfl (p_X10_closeWith (f := 4) (Nat.le_refl _) _ _ h) (by omega) rfl rfl (Nat.le_of_ble_eq_true rfl) (by decide) rfl (fun _ => rfl) (fun r1 m1 h => ?_) (fun _ h => h)
  refine b_iload_n dX10_readRing_241 rfl ?_
  exact b_iret dX10_readRing_242 rfl h
theorem pl_X10_readRing_216 {f : Nat} {Q : Int → MM → Prop} {T : MM → Prop} {rec : Nat → List Int → MM → (Int → MM → Prop) → (MM → Prop) → Prop} {fr : Nat} (hrec : HR_X10_readRing rec fr) (hf : 5 ≤ f ∧ fr + 1 ≤ f) : ∀ (x2 : Int) (x3 : Int) (m : MM), P_X10_readRing_216 rec Q T x2 x3 m → B f M_X10_readRing 216 [vR 582, vU, vI x2, vI x3, vU] [] m Q T := by
  intro x2 x3 m h
  have h : (RI x3) ∧ (if x3 = 3 then P_X10_readRing_235 rec Q T x2 m else rec 0 [] m (fun r1 m1 => (0 ≤ x2 ∧ x2 < 12000) ∧ ∀ m2 : MM, m2 = up m1 591 x2 r1 → P_X10_readRing_235 rec Q T x2 m2) T) := h
  refine b_iload_n dX10_readRing_216 rfl ?_
  refine b_iconst dX10_readRing_217 ?_
  obtain ⟨g1, h⟩ := h
  refine b_icmp_eq 235 dX10_readRing_218 g1 (by decide) (by decide) (fun c1 => ?_) (fun c1 => ?_)
  · have h := ifT c1 h
    refine b_fgt [true, false, true, false, false] (ls' := [vR 582, vU, vI x2, vU, vU]) rfl rfl ?_
    exact pl_X10_readRing_235 hrec hf _ _ h
  · have h := ifF c1 h
    refine b_aload_n dX10_readRing_221 rfl ?_
    refine b_cVi (as := []) (st := []) dX10_readRing_222 mf_X10_readRing qs106 lk_X10_392 ly_582 rfl (hrec.1 _ _ _ h) (by omega) rfl rfl (Nat.le_of_ble_eq_true rfl) (by decide) rfl (fun _ => rfl) (fun r1 m1 h => ?_) (fun _ h => h)
    refine b_istore (ls' := [vR 582, vU, vI x2, vI x3, vI r1]) dX10_readRing_225 (Nat.le_of_ble_eq_true rfl) rfl ?_
    refine b_aload_n dX10_readRing_227 rfl ?_
    refine b_getR dX10_readRing_228 fk_X10_109 ly_582 gg_582_17 ?_
    refine b_iload_n dX10_readRing_231 rfl ?_
    refine b_iload dX10_readRing_232 rfl ?_
    obtain ⟨g2, h⟩ := h
    refine b_iast dX10_readRing_234 ly_591 g2 (fun m2 em2 => ?_)
    have h := h m2 em2
    refine b_fgt [true, false, true, false, false] (ls' := [vR 582, vU, vI x2, vU, vU]) rfl rfl ?_
    exact pl_X10_readRing_235 hrec hf _ _ h
theorem pl_X10_readRing_204 {f : Nat} {Q : Int → MM → Prop} {T : MM → Prop} {rec : Nat → List Int → MM → (Int → MM → Prop) → (MM → Prop) → Prop} {fr : Nat} (hrec : HR_X10_readRing rec fr) (hf : 5 ≤ f ∧ fr + 1 ≤ f) : ∀ (x2 : Int) (x3 : Int) (m : MM), P_X10_readRing_204 rec Q T x2 x3 m → B f M_X10_readRing 204 [vR 582, vU, vI x2, vI x3, vU] [] m Q T := by
  intro x2 x3 m h
  have h : (RI x3) ∧ (if x3 = 6 then P_X10_sign 44 m (fun r1 m1 => P_X10_readRing_216 rec Q T x2 x3 m1) else P_X10_readRing_216 rec Q T x2 x3 m) := h
  refine b_iload_n dX10_readRing_204 rfl ?_
  refine b_bipush dX10_readRing_205 (by decide) ?_
  obtain ⟨g1, h⟩ := h
  refine b_icmp_ne 216 dX10_readRing_207 g1 (by decide) (by decide) (fun c1 => ?_) (fun c1 => ?_)
  · have h := ifF c1 h
    exact pl_X10_readRing_216 hrec hf _ _ _ h
  · have h := ifT (Decidable.of_not_not c1) h
    refine b_aload_n dX10_readRing_210 rfl ?_
    refine b_bipush dX10_readRing_211 (by decide) ?_
    refine b_cVv (as := [vI 44]) (st := []) dX10_readRing_213 mf_X10_sign qs103 lk_X10_372 ly_582 rfl (p_X10_sign (f := 3) (Nat.le_refl _) _ _ h) (by omega) rfl rfl (Nat.le_of_ble_eq_true rfl) (by decide) rfl (fun _ => rfl) (fun r1 m1 h => ?_) (fun _ h => h)
    exact pl_X10_readRing_216 hrec hf _ _ _ h
theorem pl_X10_readRing_125 {f : Nat} {Q : Int → MM → Prop} {T : MM → Prop} {rec : Nat → List Int → MM → (Int → MM → Prop) → (MM → Prop) → Prop} {fr : Nat} (hrec : HR_X10_readRing rec fr) (hf : 5 ≤ f ∧ fr + 1 ≤ f) : ∀ (x2 : Int) (s0 : Int) (m : MM), P_X10_readRing_125 rec Q T x2 s0 m → B f M_X10_readRing 125 [vR 582, vU, vI x2, vU, vU] [vI s0] m Q T := by
  intro x2 s0 m h
  have h : (RI s0) ∧ (if 0 ≤ s0 then P_X10_accept m (fun r1 m1 => (0 ≤ x2 ∧ x2 < 12000) ∧ ∀ m2 : MM, m2 = up m1 597 x2 s0 → (if s0 < 3 then Q x2 m2 else (if s0 = 4 then Q x2 m2 else P_X10_openWith 40 m2 (fun r2 m3 => (if s0 = 5 then P_X10_readRing_204 rec Q T x2 s0 m3 else P_X10_need 4 m3 (fun r3 m4 => (0 ≤ r3 ∧ r3 < 420) ∧ ∀ m5 : MM, m5 = up m4 605 x2 (m4 589 r3) → ∀ m6 : MM, m6 = up m5 592 x2 (m5 588 r3) → P_X10_readRing_204 rec Q T x2 s0 m6)))))) else P_X10_fail 1 m (fun r4 m7 => Q x2 m7)) := h
  refine b_istore_n (ls' := [vR 582, vU, vI x2, vI s0, vU]) dX10_readRing_125 (Nat.le_of_ble_eq_true rfl) rfl ?_
  refine b_iload_n dX10_readRing_126 rfl ?_
  obtain ⟨g1, h⟩ := h
  refine b_if_ge 137 dX10_readRing_127 g1 (by decide) (fun c1 => ?_) (fun c1 => ?_)
  · have h := ifT c1 h
    refine b_aload_n dX10_readRing_137 rfl ?_
    refine b_cVv (as := []) (st := []) dX10_readRing_138 mf_X10_accept qs100 lk_X10_362 ly_582 rfl (p_X10_accept (f := 2) (Nat.le_refl _) _ h) (by omega) rfl rfl (Nat.le_of_ble_eq_true rfl) (by decide) rfl (fun _ => rfl) (fun r1 m1 h => ?_) (fun _ h => h)
    refine b_aload_n dX10_readRing_141 rfl ?_
    refine b_getR dX10_readRing_142 fk_X10_127 ly_582 gg_582_23 ?_
    refine b_iload_n dX10_readRing_145 rfl ?_
    refine b_iload_n dX10_readRing_146 rfl ?_
    obtain ⟨g2, h⟩ := h
    refine b_iast dX10_readRing_147 ly_597 g2 (fun m2 em2 => ?_)
    have h := h m2 em2
    refine b_iload_n dX10_readRing_148 rfl ?_
    refine b_iconst dX10_readRing_149 ?_
    refine b_icmp_lt 158 dX10_readRing_150 g1 (by decide) (by decide) (fun c2 => ?_) (fun c2 => ?_)
    · have h := ifT c2 h
      refine b_iload_n dX10_readRing_158 rfl ?_
      exact b_iret dX10_readRing_159 rfl h
    · have h := ifF c2 h
      refine b_iload_n dX10_readRing_153 rfl ?_
      refine b_iconst dX10_readRing_154 ?_
      refine b_icmp_ne 160 dX10_readRing_155 g1 (by decide) (by decide) (fun c3 => ?_) (fun c3 => ?_)
      · have h := ifF c3 h
        refine b_aload_n dX10_readRing_160 rfl ?_
        refine b_bipush dX10_readRing_161 (by decide) ?_
        refine b_cVv (as := [vI 40]) (st := []) dX10_readRing_163 mf_X10_openWith qs102 lk_X10_385 ly_582 rfl (p_X10_openWith (f := 4) (Nat.le_refl _) _ _ h) (by omega) rfl rfl (Nat.le_of_ble_eq_true rfl) (by decide) rfl (fun _ => rfl) (fun r2 m3 h => ?_) (fun _ h => h)
        refine b_iload_n dX10_readRing_166 rfl ?_
        refine b_iconst dX10_readRing_167 ?_
        refine b_icmp_eq 204 dX10_readRing_168 g1 (by decide) (by decide) (fun c4 => ?_) (fun c4 => ?_)
        · have h := ifT c4 h
          exact pl_X10_readRing_204 hrec hf _ _ _ h
        · have h := ifF c4 h
          refine b_aload_n dX10_readRing_171 rfl ?_
          refine b_iconst dX10_readRing_172 ?_
          refine b_cVi (as := [vI 4]) (st := []) dX10_readRing_173 mf_X10_need qs99 lk_X10_388 ly_582 rfl (p_X10_need (f := 3) (Nat.le_refl _) _ _ h) (by omega) rfl rfl (Nat.le_of_ble_eq_true rfl) (by decide) rfl (fun _ => rfl) (fun r3 m4 h => ?_) (fun _ h => h)
          refine b_istore (ls' := [vR 582, vU, vI x2, vI s0, vI r3]) dX10_readRing_176 (Nat.le_of_ble_eq_true rfl) rfl ?_
          refine b_aload_n dX10_readRing_178 rfl ?_
          refine b_getR dX10_readRing_179 fk_X10_152 ly_582 gg_582_31 ?_
          refine b_iload_n dX10_readRing_182 rfl ?_
          refine b_aload_n dX10_readRing_183 rfl ?_
          refine b_getR dX10_readRing_184 fk_X10_99 ly_582 gg_582_7 ?_
          refine b_iload dX10_readRing_187 rfl ?_
          obtain ⟨g3, h⟩ := h
          refine b_lald dX10_readRing_189 ly_589 g3 ?_
          refine b_last dX10_readRing_190 ly_605 g2 (fun m5 em5 => ?_)
          have h := h m5 em5
          refine b_aload_n dX10_readRing_191 rfl ?_
          refine b_getR dX10_readRing_192 fk_X10_112 ly_582 gg_582_18 ?_
          refine b_iload_n dX10_readRing_195 rfl ?_
          refine b_aload_n dX10_readRing_196 rfl ?_
          refine b_getR dX10_readRing_197 fk_X10_96 ly_582 gg_582_6 ?_
          refine b_iload dX10_readRing_200 rfl ?_
          refine b_iald dX10_readRing_202 ly_588 g3 ?_
          refine b_iast dX10_readRing_203 ly_592 g2 (fun m6 em6 => ?_)
          have h := h m6 em6
          refine b_fgt [true, false, true, true, false] (ls' := [vR 582, vU, vI x2, vI s0, vU]) rfl rfl ?_
          exact pl_X10_readRing_204 hrec hf _ _ _ h
      · have h := ifT (Decidable.of_not_not c3) h
        refine b_iload_n dX10_readRing_158 rfl ?_
        exact b_iret dX10_readRing_159 rfl h
  · have h := ifF c1 h
    refine b_aload_n dX10_readRing_130 rfl ?_
    refine b_iconst dX10_readRing_131 ?_
    refine b_cVv (as := [vI 1]) (st := []) dX10_readRing_132 mf_X10_fail qs101 lk_X10_356 ly_582 rfl (p_X10_fail (f := 1) (Nat.le_refl _) _ _ h) (by omega) rfl rfl (Nat.le_of_ble_eq_true rfl) (by decide) rfl (fun _ => rfl) (fun r4 m7 h => ?_) (fun _ h => h)
    refine b_iload_n dX10_readRing_135 rfl ?_
    exact b_iret dX10_readRing_136 rfl h
theorem w_X10_readRing {f : Nat} {Q : Int → MM → Prop} {T : MM → Prop} {rec : Nat → List Int → MM → (Int → MM → Prop) → (MM → Prop) → Prop} {fr : Nat} (hrec : HR_X10_readRing rec fr) (hf : 5 ≤ f ∧ fr + 1 ≤ f) (m : MM) (h : W_X10_readRing rec m Q T) : CC f M_X10_readRing [vR 582] m Q T := by
  refine CC.of (plainFor_of_name (by decide)) (Nat.le_of_ble_eq_true rfl) (ls := [vR 582, vU, vU, vU, vU]) rfl ?_
  have h : P_X10_node 28 (-1) (-1) (-1) (m 582 9) m (fun r1 m1 => (RI (m1 582 10)) ∧ (if (m1 582 10) ≤ 0 then P_X10_isKey 90 m1 (fun r2 m2 => (RI r2) ∧ (if r2 = 0 then P_X10_isKey 81 m2 (fun r3 m3 => (RI r3) ∧ (if r3 = 0 then P_X10_isKey 66 m3 (fun r4 m4 => (RI r4) ∧ (if r4 = 0 then P_X10_isKey 70 m4 (fun r5 m5 => (RI r5) ∧ (if r5 = 0 then P_X10_isKey 82 m5 (fun r6 m6 => (RI r6) ∧ (if r6 = 0 then P_X10_isKey 80 m6 (fun r7 m7 => (RI r7) ∧ (if r7 = 0 then P_X10_isKey 77 m7 (fun r8 m8 => (RI r8) ∧ (if r8 = 0 then P_X10_readRing_125 rec Q T r1 (-1) m8 else P_X10_readRing_125 rec Q T r1 6 m8)) else P_X10_readRing_125 rec Q T r1 5 m7)) else P_X10_readRing_125 rec Q T r1 4 m6)) else P_X10_readRing_125 rec Q T r1 3 m5)) else P_X10_readRing_125 rec Q T r1 2 m4)) else P_X10_readRing_125 rec Q T r1 1 m3)) else P_X10_readRing_125 rec Q T r1 0 m2)) else Q r1 m1)) := h
  refine b_aload_n dX10_readRing_0 rfl ?_
  refine b_getI dX10_readRing_1 fk_X10_324 ly_582 ?_
  refine b_istore_n (ls' := [vR 582, vI (m 582 9), vU, vU, vU]) dX10_readRing_4 (Nat.le_of_ble_eq_true rfl) rfl ?_
  refine b_aload_n dX10_readRing_5 rfl ?_
  refine b_bipush dX10_readRing_6 (by decide) ?_
  refine b_iconst dX10_readRing_8 ?_
  refine b_iconst dX10_readRing_9 ?_
  refine b_iconst dX10_readRing_10 ?_
  refine b_iload_n dX10_readRing_11 rfl ?_
  refine b_cVi (as := [vI 28, vI (-1), vI (-1), vI (-1), vI (m 582 9)]) (st := []) dX10_readRing_12 mf_X10_node qs107 lk_X10_381 ly_582 rfl (p_X10_node (f := 1) (Nat.le_refl _) _ _ _ _ _ _ h) (by omega) rfl rfl (Nat.le_of_ble_eq_true rfl) (by decide) rfl (fun _ => rfl) (fun r1 m1 h => ?_) (fun _ h => h)
  refine b_istore_n (ls' := [vR 582, vI (m 582 9), vI r1, vU, vU]) dX10_readRing_15 (Nat.le_of_ble_eq_true rfl) rfl ?_
  refine b_aload_n dX10_readRing_16 rfl ?_
  refine b_getI dX10_readRing_17 fk_X10_347 ly_582 ?_
  obtain ⟨g1, h⟩ := h
  refine b_if_le 25 dX10_readRing_20 g1 (by decide) (fun c1 => ?_) (fun c1 => ?_)
  · have h := ifT c1 h
    refine b_aload_n dX10_readRing_25 rfl ?_
    refine b_ldc2 (90) dX10_readRing_26 q1631 (by decide) ?_
    refine b_cVi (as := [vL 90]) (st := []) dX10_readRing_29 mf_X10_isKey qs108 lk_X10_365 ly_582 rfl (p_X10_isKey (f := 1) (Nat.le_refl _) _ _ h) (by omega) rfl rfl (Nat.le_of_ble_eq_true rfl) (by decide) rfl (fun _ => rfl) (fun r2 m2 h => ?_) (fun _ h => h)
    obtain ⟨g2, h⟩ := h
    refine b_if_eq 39 dX10_readRing_32 g2 (by decide) (fun c2 => ?_) (fun c2 => ?_)
    · have h := ifT c2 h
      refine b_aload_n dX10_readRing_39 rfl ?_
      refine b_ldc2 (81) dX10_readRing_40 q1632 (by decide) ?_
      refine b_cVi (as := [vL 81]) (st := []) dX10_readRing_43 mf_X10_isKey qs108 lk_X10_365 ly_582 rfl (p_X10_isKey (f := 1) (Nat.le_refl _) _ _ h) (by omega) rfl rfl (Nat.le_of_ble_eq_true rfl) (by decide) rfl (fun _ => rfl) (fun r3 m3 h => ?_) (fun _ h => h)
      obtain ⟨g3, h⟩ := h
      refine b_if_eq 53 dX10_readRing_46 g3 (by decide) (fun c3 => ?_) (fun c3 => ?_)
      · have h := ifT c3 h
        refine b_aload_n dX10_readRing_53 rfl ?_
        refine b_ldc2 (66) dX10_readRing_54 q1633 (by decide) ?_
        refine b_cVi (as := [vL 66]) (st := []) dX10_readRing_57 mf_X10_isKey qs108 lk_X10_365 ly_582 rfl (p_X10_isKey (f := 1) (Nat.le_refl _) _ _ h) (by omega) rfl rfl (Nat.le_of_ble_eq_true rfl) (by decide) rfl (fun _ => rfl) (fun r4 m4 h => ?_) (fun _ h => h)
        obtain ⟨g4, h⟩ := h
        refine b_if_eq 67 dX10_readRing_60 g4 (by decide) (fun c4 => ?_) (fun c4 => ?_)
        · have h := ifT c4 h
          refine b_aload_n dX10_readRing_67 rfl ?_
          refine b_ldc2 (70) dX10_readRing_68 q1634 (by decide) ?_
          refine b_cVi (as := [vL 70]) (st := []) dX10_readRing_71 mf_X10_isKey qs108 lk_X10_365 ly_582 rfl (p_X10_isKey (f := 1) (Nat.le_refl _) _ _ h) (by omega) rfl rfl (Nat.le_of_ble_eq_true rfl) (by decide) rfl (fun _ => rfl) (fun r5 m5 h => ?_) (fun _ h => h)
          obtain ⟨g5, h⟩ := h
          refine b_if_eq 81 dX10_readRing_74 g5 (by decide) (fun c5 => ?_) (fun c5 => ?_)
          · have h := ifT c5 h
            refine b_aload_n dX10_readRing_81 rfl ?_
            refine b_ldc2 (82) dX10_readRing_82 q1637 (by decide) ?_
            refine b_cVi (as := [vL 82]) (st := []) dX10_readRing_85 mf_X10_isKey qs108 lk_X10_365 ly_582 rfl (p_X10_isKey (f := 1) (Nat.le_refl _) _ _ h) (by omega) rfl rfl (Nat.le_of_ble_eq_true rfl) (by decide) rfl (fun _ => rfl) (fun r6 m6 h => ?_) (fun _ h => h)
            obtain ⟨g6, h⟩ := h
            refine b_if_eq 95 dX10_readRing_88 g6 (by decide) (fun c6 => ?_) (fun c6 => ?_)
            · have h := ifT c6 h
              refine b_aload_n dX10_readRing_95 rfl ?_
              refine b_ldc2 (80) dX10_readRing_96 q1635 (by decide) ?_
              refine b_cVi (as := [vL 80]) (st := []) dX10_readRing_99 mf_X10_isKey qs108 lk_X10_365 ly_582 rfl (p_X10_isKey (f := 1) (Nat.le_refl _) _ _ h) (by omega) rfl rfl (Nat.le_of_ble_eq_true rfl) (by decide) rfl (fun _ => rfl) (fun r7 m7 h => ?_) (fun _ h => h)
              obtain ⟨g7, h⟩ := h
              refine b_if_eq 109 dX10_readRing_102 g7 (by decide) (fun c7 => ?_) (fun c7 => ?_)
              · have h := ifT c7 h
                refine b_aload_n dX10_readRing_109 rfl ?_
                refine b_ldc2 (77) dX10_readRing_110 q1636 (by decide) ?_
                refine b_cVi (as := [vL 77]) (st := []) dX10_readRing_113 mf_X10_isKey qs108 lk_X10_365 ly_582 rfl (p_X10_isKey (f := 1) (Nat.le_refl _) _ _ h) (by omega) rfl rfl (Nat.le_of_ble_eq_true rfl) (by decide) rfl (fun _ => rfl) (fun r8 m8 h => ?_) (fun _ h => h)
                obtain ⟨g8, h⟩ := h
                refine b_if_eq 124 dX10_readRing_116 g8 (by decide) (fun c8 => ?_) (fun c8 => ?_)
                · have h := ifT c8 h
                  refine b_iconst dX10_readRing_124 ?_
                  refine b_fgt [true, false, true, false, false] (ls' := [vR 582, vU, vI r1, vU, vU]) rfl rfl ?_
                  exact pl_X10_readRing_125 hrec hf _ _ _ h
                · have h := ifF c8 h
                  refine b_bipush dX10_readRing_119 (by decide) ?_
                  refine b_goto 125 dX10_readRing_121 (by decide) ?_
                  refine b_fgt [true, false, true, false, false] (ls' := [vR 582, vU, vI r1, vU, vU]) rfl rfl ?_
                  exact pl_X10_readRing_125 hrec hf _ _ _ h
              · have h := ifF c7 h
                refine b_iconst dX10_readRing_105 ?_
                refine b_goto 125 dX10_readRing_106 (by decide) ?_
                refine b_fgt [true, false, true, false, false] (ls' := [vR 582, vU, vI r1, vU, vU]) rfl rfl ?_
                exact pl_X10_readRing_125 hrec hf _ _ _ h
            · have h := ifF c6 h
              refine b_iconst dX10_readRing_91 ?_
              refine b_goto 125 dX10_readRing_92 (by decide) ?_
              refine b_fgt [true, false, true, false, false] (ls' := [vR 582, vU, vI r1, vU, vU]) rfl rfl ?_
              exact pl_X10_readRing_125 hrec hf _ _ _ h
          · have h := ifF c5 h
            refine b_iconst dX10_readRing_77 ?_
            refine b_goto 125 dX10_readRing_78 (by decide) ?_
            refine b_fgt [true, false, true, false, false] (ls' := [vR 582, vU, vI r1, vU, vU]) rfl rfl ?_
            exact pl_X10_readRing_125 hrec hf _ _ _ h
        · have h := ifF c4 h
          refine b_iconst dX10_readRing_63 ?_
          refine b_goto 125 dX10_readRing_64 (by decide) ?_
          refine b_fgt [true, false, true, false, false] (ls' := [vR 582, vU, vI r1, vU, vU]) rfl rfl ?_
          exact pl_X10_readRing_125 hrec hf _ _ _ h
      · have h := ifF c3 h
        refine b_iconst dX10_readRing_49 ?_
        refine b_goto 125 dX10_readRing_50 (by decide) ?_
        refine b_fgt [true, false, true, false, false] (ls' := [vR 582, vU, vI r1, vU, vU]) rfl rfl ?_
        exact pl_X10_readRing_125 hrec hf _ _ _ h
    · have h := ifF c2 h
      refine b_iconst dX10_readRing_35 ?_
      refine b_goto 125 dX10_readRing_36 (by decide) ?_
      refine b_fgt [true, false, true, false, false] (ls' := [vR 582, vU, vI r1, vU, vU]) rfl rfl ?_
      exact pl_X10_readRing_125 hrec hf _ _ _ h
  · have h := ifF c1 h
    refine b_iload_n dX10_readRing_23 rfl ?_
    exact b_iret dX10_readRing_24 rfl h
def R_X10_readRing : Nat → Nat → List Int → MM → (Int → MM → Prop) → (MM → Prop) → Prop
  | 0, _, _, _, _, _ => False
  | d + 1, i, as, m, Q, T => match i, as with
    | 0, [] => W_X10_readRing (R_X10_readRing d) m Q T
    | _, _ => False
theorem pr_X10_readRing : ∀ d f : Nat, 5 + d ≤ f → HR_X10_readRing (R_X10_readRing d) f := by
  intro d
  induction d with
  | zero => intro f hf; exact ⟨fun _ _ _ h => h.elim, trivial⟩
  | succ d ih =>
    intro f hf
    have hr := ih (f - 1) (by omega)
    exact ⟨fun m _ _ h => w_X10_readRing hr (show 5 ≤ f ∧ f - 1 + 1 ≤ f by omega) m h, trivial⟩
theorem dX10_readAnd_0 : decode cX10_readAnd 0 = .ok (.aload_n 0, 1) := by decide +kernel
theorem dX10_readAnd_1 : decode cX10_readAnd 1 = .ok (.invokevirtual 415, 3) := by decide +kernel
theorem dX10_readAnd_4 : decode cX10_readAnd 4 = .ok (.istore_n 1, 1) := by decide +kernel
theorem dX10_readAnd_5 : decode cX10_readAnd 5 = .ok (.aload_n 0, 1) := by decide +kernel
theorem dX10_readAnd_6 : decode cX10_readAnd 6 = .ok (.ldc2_w 15, 3) := by decide +kernel
theorem dX10_readAnd_9 : decode cX10_readAnd 9 = .ok (.invokevirtual 365, 3) := by decide +kernel
theorem dX10_readAnd_12 : decode cX10_readAnd 12 = .ok (.ifCond .eq 31, 3) := by decide +kernel
theorem dX10_readAnd_15 : decode cX10_readAnd 15 = .ok (.aload_n 0, 1) := by decide +kernel
theorem dX10_readAnd_16 : decode cX10_readAnd 16 = .ok (.getfield 324, 3) := by decide +kernel
theorem dX10_readAnd_19 : decode cX10_readAnd 19 = .ok (.istore_n 2, 1) := by decide +kernel
theorem dX10_readAnd_20 : decode cX10_readAnd 20 = .ok (.aload_n 0, 1) := by decide +kernel
theorem dX10_readAnd_21 : decode cX10_readAnd 21 = .ok (.invokevirtual 362, 3) := by decide +kernel
theorem dX10_readAnd_24 : decode cX10_readAnd 24 = .ok (.aload_n 0, 1) := by decide +kernel
theorem dX10_readAnd_25 : decode cX10_readAnd 25 = .ok (.invokevirtual 415, 3) := by decide +kernel
theorem dX10_readAnd_28 : decode cX10_readAnd 28 = .ok (.istore_n 3, 1) := by decide +kernel
theorem dX10_readAnd_29 : decode cX10_readAnd 29 = .ok (.aload_n 0, 1) := by decide +kernel
theorem dX10_readAnd_30 : decode cX10_readAnd 30 = .ok (.bipush 12, 2) := by decide +kernel
theorem dX10_readAnd_32 : decode cX10_readAnd 32 = .ok (.iload_n 1, 1) := by decide +kernel
theorem dX10_readAnd_33 : decode cX10_readAnd 33 = .ok (.iload_n 3, 1) := by decide +kernel
theorem dX10_readAnd_34 : decode cX10_readAnd 34 = .ok (.iconst (-1), 1) := by decide +kernel
theorem dX10_readAnd_35 : decode cX10_readAnd 35 = .ok (.iload_n 2, 1) := by decide +kernel
theorem dX10_readAnd_36 : decode cX10_readAnd 36 = .ok (.invokevirtual 381, 3) := by decide +kernel
theorem dX10_readAnd_39 : decode cX10_readAnd 39 = .ok (.istore_n 1, 1) := by decide +kernel
theorem dX10_readAnd_40 : decode cX10_readAnd 40 = .ok (.goto (-35), 3) := by decide +kernel
theorem dX10_readAnd_43 : decode cX10_readAnd 43 = .ok (.iload_n 1, 1) := by decide +kernel
theorem dX10_readAnd_44 : decode cX10_readAnd 44 = .ok (.ireturn, 1) := by decide +kernel
/-! AlgebraHouseModel.readAnd()I -/
def P_X10_readAnd_5 (rec : Nat → List Int → MM → (Int → MM → Prop) → (MM → Prop) → Prop) (Q : Int → MM → Prop) (T : MM → Prop) : Nat → Int → MM → Prop
  | 0, _, _ => False
  | n + 1, x1, m => P_X10_isKey 6385252 m (fun r1 m1 => (RI r1) ∧ (if r1 = 0 then Q x1 m1 else P_X10_accept m1 (fun r2 m2 => rec 6 [] m2 (fun r3 m3 => P_X10_node 12 x1 r3 (-1) (m1 582 9) m3 (fun r4 m4 => P_X10_readAnd_5 rec Q T n r4 m4)) T)))
def W_X10_readAnd (rec : Nat → List Int → MM → (Int → MM → Prop) → (MM → Prop) → Prop) (m : MM) (Q : Int → MM → Prop) (T : MM → Prop) : Prop := rec 6 [] m (fun r1 m1 => ∃ nn, P_X10_readAnd_5 rec Q T nn r1 m1) T
theorem dX10_readAtom_0 : decode cX10_readAtom 0 = .ok (.aload_n 0, 1) := by decide +kernel
theorem dX10_readAtom_1 : decode cX10_readAtom 1 = .ok (.getfield 324, 3) := by decide +kernel
theorem dX10_readAtom_4 : decode cX10_readAtom 4 = .ok (.istore_n 1, 1) := by decide +kernel
theorem dX10_readAtom_5 : decode cX10_readAtom 5 = .ok (.aload_n 0, 1) := by decide +kernel
theorem dX10_readAtom_6 : decode cX10_readAtom 6 = .ok (.getfield 347, 3) := by decide +kernel
theorem dX10_readAtom_9 : decode cX10_readAtom 9 = .ok (.ifCond .le 5, 3) := by decide +kernel
theorem dX10_readAtom_12 : decode cX10_readAtom 12 = .ok (.iconst 0, 1) := by decide +kernel
theorem dX10_readAtom_13 : decode cX10_readAtom 13 = .ok (.ireturn, 1) := by decide +kernel
theorem dX10_readAtom_14 : decode cX10_readAtom 14 = .ok (.aload_n 0, 1) := by decide +kernel
theorem dX10_readAtom_15 : decode cX10_readAtom 15 = .ok (.getfield 93, 3) := by decide +kernel
theorem dX10_readAtom_18 : decode cX10_readAtom 18 = .ok (.aload_n 0, 1) := by decide +kernel
theorem dX10_readAtom_19 : decode cX10_readAtom 19 = .ok (.getfield 324, 3) := by decide +kernel
theorem dX10_readAtom_22 : decode cX10_readAtom 22 = .ok (.iaload, 1) := by decide +kernel
theorem dX10_readAtom_23 : decode cX10_readAtom 23 = .ok (.istore_n 2, 1) := by decide +kernel
theorem dX10_readAtom_24 : decode cX10_readAtom 24 = .ok (.iload_n 2, 1) := by decide +kernel
theorem dX10_readAtom_25 : decode cX10_readAtom 25 = .ok (.iconst 4, 1) := by decide +kernel
theorem dX10_readAtom_26 : decode cX10_readAtom 26 = .ok (.if_icmp .ne 17, 3) := by decide +kernel
theorem dX10_readAtom_29 : decode cX10_readAtom 29 = .ok (.aload_n 0, 1) := by decide +kernel
theorem dX10_readAtom_30 : decode cX10_readAtom 30 = .ok (.invokevirtual 362, 3) := by decide +kernel
theorem dX10_readAtom_33 : decode cX10_readAtom 33 = .ok (.aload_n 0, 1) := by decide +kernel
theorem dX10_readAtom_34 : decode cX10_readAtom 34 = .ok (.iconst 0, 1) := by decide +kernel
theorem dX10_readAtom_35 : decode cX10_readAtom 35 = .ok (.iconst (-1), 1) := by decide +kernel
theorem dX10_readAtom_36 : decode cX10_readAtom 36 = .ok (.iconst (-1), 1) := by decide +kernel
theorem dX10_readAtom_37 : decode cX10_readAtom 37 = .ok (.iconst (-1), 1) := by decide +kernel
theorem dX10_readAtom_38 : decode cX10_readAtom 38 = .ok (.iload_n 1, 1) := by decide +kernel
theorem dX10_readAtom_39 : decode cX10_readAtom 39 = .ok (.invokevirtual 381, 3) := by decide +kernel
theorem dX10_readAtom_42 : decode cX10_readAtom 42 = .ok (.ireturn, 1) := by decide +kernel
theorem dX10_readAtom_43 : decode cX10_readAtom 43 = .ok (.aload_n 0, 1) := by decide +kernel
theorem dX10_readAtom_44 : decode cX10_readAtom 44 = .ok (.ldc2_w 33, 3) := by decide +kernel
theorem dX10_readAtom_47 : decode cX10_readAtom 47 = .ok (.invokevirtual 399, 3) := by decide +kernel
theorem dX10_readAtom_50 : decode cX10_readAtom 50 = .ok (.ifCond .eq 13, 3) := by decide +kernel
theorem dX10_readAtom_53 : decode cX10_readAtom 53 = .ok (.aload_n 0, 1) := by decide +kernel
theorem dX10_readAtom_54 : decode cX10_readAtom 54 = .ok (.iconst 1, 1) := by decide +kernel
theorem dX10_readAtom_55 : decode cX10_readAtom 55 = .ok (.iconst (-1), 1) := by decide +kernel
theorem dX10_readAtom_56 : decode cX10_readAtom 56 = .ok (.iconst (-1), 1) := by decide +kernel
theorem dX10_readAtom_57 : decode cX10_readAtom 57 = .ok (.iconst (-1), 1) := by decide +kernel
theorem dX10_readAtom_58 : decode cX10_readAtom 58 = .ok (.iload_n 1, 1) := by decide +kernel
theorem dX10_readAtom_59 : decode cX10_readAtom 59 = .ok (.invokevirtual 381, 3) := by decide +kernel
theorem dX10_readAtom_62 : decode cX10_readAtom 62 = .ok (.ireturn, 1) := by decide +kernel
theorem dX10_readAtom_63 : decode cX10_readAtom 63 = .ok (.aload_n 0, 1) := by decide +kernel
theorem dX10_readAtom_64 : decode cX10_readAtom 64 = .ok (.ldc2_w 35, 3) := by decide +kernel
theorem dX10_readAtom_67 : decode cX10_readAtom 67 = .ok (.invokevirtual 399, 3) := by decide +kernel
theorem dX10_readAtom_70 : decode cX10_readAtom 70 = .ok (.ifCond .eq 13, 3) := by decide +kernel
theorem dX10_readAtom_73 : decode cX10_readAtom 73 = .ok (.aload_n 0, 1) := by decide +kernel
theorem dX10_readAtom_74 : decode cX10_readAtom 74 = .ok (.iconst 2, 1) := by decide +kernel
theorem dX10_readAtom_75 : decode cX10_readAtom 75 = .ok (.iconst (-1), 1) := by decide +kernel
theorem dX10_readAtom_76 : decode cX10_readAtom 76 = .ok (.iconst (-1), 1) := by decide +kernel
theorem dX10_readAtom_77 : decode cX10_readAtom 77 = .ok (.iconst (-1), 1) := by decide +kernel
theorem dX10_readAtom_78 : decode cX10_readAtom 78 = .ok (.iload_n 1, 1) := by decide +kernel
theorem dX10_readAtom_79 : decode cX10_readAtom 79 = .ok (.invokevirtual 381, 3) := by decide +kernel
theorem dX10_readAtom_82 : decode cX10_readAtom 82 = .ok (.ireturn, 1) := by decide +kernel
theorem dX10_readAtom_83 : decode cX10_readAtom 83 = .ok (.aload_n 0, 1) := by decide +kernel
theorem dX10_readAtom_84 : decode cX10_readAtom 84 = .ok (.bipush 37, 2) := by decide +kernel
theorem dX10_readAtom_86 : decode cX10_readAtom 86 = .ok (.invokevirtual 430, 3) := by decide +kernel
theorem dX10_readAtom_89 : decode cX10_readAtom 89 = .ok (.ifCond .eq 36, 3) := by decide +kernel
theorem dX10_readAtom_92 : decode cX10_readAtom 92 = .ok (.aload_n 0, 1) := by decide +kernel
theorem dX10_readAtom_93 : decode cX10_readAtom 93 = .ok (.iconst 4, 1) := by decide +kernel
theorem dX10_readAtom_94 : decode cX10_readAtom 94 = .ok (.invokevirtual 388, 3) := by decide +kernel
theorem dX10_readAtom_97 : decode cX10_readAtom 97 = .ok (.istore_n 3, 1) := by decide +kernel
theorem dX10_readAtom_98 : decode cX10_readAtom 98 = .ok (.aload_n 0, 1) := by decide +kernel
theorem dX10_readAtom_99 : decode cX10_readAtom 99 = .ok (.iconst 3, 1) := by decide +kernel
theorem dX10_readAtom_100 : decode cX10_readAtom 100 = .ok (.iconst (-1), 1) := by decide +kernel
theorem dX10_readAtom_101 : decode cX10_readAtom 101 = .ok (.iconst (-1), 1) := by decide +kernel
theorem dX10_readAtom_102 : decode cX10_readAtom 102 = .ok (.iconst (-1), 1) := by decide +kernel
theorem dX10_readAtom_103 : decode cX10_readAtom 103 = .ok (.iload_n 1, 1) := by decide +kernel
theorem dX10_readAtom_104 : decode cX10_readAtom 104 = .ok (.invokevirtual 381, 3) := by decide +kernel
theorem dX10_readAtom_107 : decode cX10_readAtom 107 = .ok (.istore 4, 2) := by decide +kernel
theorem dX10_readAtom_109 : decode cX10_readAtom 109 = .ok (.aload_n 0, 1) := by decide +kernel
theorem dX10_readAtom_110 : decode cX10_readAtom 110 = .ok (.getfield 152, 3) := by decide +kernel
theorem dX10_readAtom_113 : decode cX10_readAtom 113 = .ok (.iload 4, 2) := by decide +kernel
theorem dX10_readAtom_115 : decode cX10_readAtom 115 = .ok (.aload_n 0, 1) := by decide +kernel
theorem dX10_readAtom_116 : decode cX10_readAtom 116 = .ok (.getfield 99, 3) := by decide +kernel
theorem dX10_readAtom_119 : decode cX10_readAtom 119 = .ok (.iload_n 3, 1) := by decide +kernel
theorem dX10_readAtom_120 : decode cX10_readAtom 120 = .ok (.laload, 1) := by decide +kernel
theorem dX10_readAtom_121 : decode cX10_readAtom 121 = .ok (.lastore, 1) := by decide +kernel
theorem dX10_readAtom_122 : decode cX10_readAtom 122 = .ok (.iload 4, 2) := by decide +kernel
theorem dX10_readAtom_124 : decode cX10_readAtom 124 = .ok (.ireturn, 1) := by decide +kernel
theorem dX10_readAtom_125 : decode cX10_readAtom 125 = .ok (.iload_n 2, 1) := by decide +kernel
theorem dX10_readAtom_126 : decode cX10_readAtom 126 = .ok (.iconst 1, 1) := by decide +kernel
theorem dX10_readAtom_127 : decode cX10_readAtom 127 = .ok (.if_icmp .eq 8, 3) := by decide +kernel
theorem dX10_readAtom_130 : decode cX10_readAtom 130 = .ok (.iload_n 2, 1) := by decide +kernel
theorem dX10_readAtom_131 : decode cX10_readAtom 131 = .ok (.iconst 3, 1) := by decide +kernel
theorem dX10_readAtom_132 : decode cX10_readAtom 132 = .ok (.if_icmp .ne 70, 3) := by decide +kernel
theorem dX10_readAtom_135 : decode cX10_readAtom 135 = .ok (.aload_n 0, 1) := by decide +kernel
theorem dX10_readAtom_136 : decode cX10_readAtom 136 = .ok (.invokevirtual 362, 3) := by decide +kernel
theorem dX10_readAtom_139 : decode cX10_readAtom 139 = .ok (.iload_n 2, 1) := by decide +kernel
theorem dX10_readAtom_140 : decode cX10_readAtom 140 = .ok (.iconst 1, 1) := by decide +kernel
theorem dX10_readAtom_141 : decode cX10_readAtom 141 = .ok (.if_icmp .ne 22, 3) := by decide +kernel
theorem dX10_readAtom_144 : decode cX10_readAtom 144 = .ok (.aload_n 0, 1) := by decide +kernel
theorem dX10_readAtom_145 : decode cX10_readAtom 145 = .ok (.bipush 40, 2) := by decide +kernel
theorem dX10_readAtom_147 : decode cX10_readAtom 147 = .ok (.invokevirtual 359, 3) := by decide +kernel
theorem dX10_readAtom_150 : decode cX10_readAtom 150 = .ok (.ifCond .ne 13, 3) := by decide +kernel
theorem dX10_readAtom_153 : decode cX10_readAtom 153 = .ok (.aload_n 0, 1) := by decide +kernel
theorem dX10_readAtom_154 : decode cX10_readAtom 154 = .ok (.iconst 4, 1) := by decide +kernel
theorem dX10_readAtom_155 : decode cX10_readAtom 155 = .ok (.iconst (-1), 1) := by decide +kernel
theorem dX10_readAtom_156 : decode cX10_readAtom 156 = .ok (.iconst (-1), 1) := by decide +kernel
theorem dX10_readAtom_157 : decode cX10_readAtom 157 = .ok (.iconst (-1), 1) := by decide +kernel
theorem dX10_readAtom_158 : decode cX10_readAtom 158 = .ok (.iload_n 1, 1) := by decide +kernel
theorem dX10_readAtom_159 : decode cX10_readAtom 159 = .ok (.invokevirtual 381, 3) := by decide +kernel
theorem dX10_readAtom_162 : decode cX10_readAtom 162 = .ok (.ireturn, 1) := by decide +kernel
theorem dX10_readAtom_163 : decode cX10_readAtom 163 = .ok (.aload_n 0, 1) := by decide +kernel
theorem dX10_readAtom_164 : decode cX10_readAtom 164 = .ok (.bipush 40, 2) := by decide +kernel
theorem dX10_readAtom_166 : decode cX10_readAtom 166 = .ok (.invokevirtual 385, 3) := by decide +kernel
theorem dX10_readAtom_169 : decode cX10_readAtom 169 = .ok (.aload_n 0, 1) := by decide +kernel
theorem dX10_readAtom_170 : decode cX10_readAtom 170 = .ok (.bipush 26, 2) := by decide +kernel
theorem dX10_readAtom_172 : decode cX10_readAtom 172 = .ok (.invokevirtual 439, 3) := by decide +kernel
theorem dX10_readAtom_175 : decode cX10_readAtom 175 = .ok (.istore_n 3, 1) := by decide +kernel
theorem dX10_readAtom_176 : decode cX10_readAtom 176 = .ok (.aload_n 0, 1) := by decide +kernel
theorem dX10_readAtom_177 : decode cX10_readAtom 177 = .ok (.bipush 41, 2) := by decide +kernel
theorem dX10_readAtom_179 : decode cX10_readAtom 179 = .ok (.invokevirtual 396, 3) := by decide +kernel
theorem dX10_readAtom_182 : decode cX10_readAtom 182 = .ok (.aload_n 0, 1) := by decide +kernel
theorem dX10_readAtom_183 : decode cX10_readAtom 183 = .ok (.iload_n 2, 1) := by decide +kernel
theorem dX10_readAtom_184 : decode cX10_readAtom 184 = .ok (.iconst 1, 1) := by decide +kernel
theorem dX10_readAtom_185 : decode cX10_readAtom 185 = .ok (.if_icmp .ne 7, 3) := by decide +kernel
theorem dX10_readAtom_188 : decode cX10_readAtom 188 = .ok (.iconst 5, 1) := by decide +kernel
theorem dX10_readAtom_189 : decode cX10_readAtom 189 = .ok (.goto 5, 3) := by decide +kernel
theorem dX10_readAtom_192 : decode cX10_readAtom 192 = .ok (.bipush 6, 2) := by decide +kernel
theorem dX10_readAtom_194 : decode cX10_readAtom 194 = .ok (.iload_n 3, 1) := by decide +kernel
theorem dX10_readAtom_195 : decode cX10_readAtom 195 = .ok (.iconst (-1), 1) := by decide +kernel
theorem dX10_readAtom_196 : decode cX10_readAtom 196 = .ok (.iconst (-1), 1) := by decide +kernel
theorem dX10_readAtom_197 : decode cX10_readAtom 197 = .ok (.iload_n 1, 1) := by decide +kernel
theorem dX10_readAtom_198 : decode cX10_readAtom 198 = .ok (.invokevirtual 381, 3) := by decide +kernel
theorem dX10_readAtom_201 : decode cX10_readAtom 201 = .ok (.ireturn, 1) := by decide +kernel
theorem dX10_readAtom_202 : decode cX10_readAtom 202 = .ok (.aload_n 0, 1) := by decide +kernel
theorem dX10_readAtom_203 : decode cX10_readAtom 203 = .ok (.bipush 40, 2) := by decide +kernel
theorem dX10_readAtom_205 : decode cX10_readAtom 205 = .ok (.invokevirtual 359, 3) := by decide +kernel
theorem dX10_readAtom_208 : decode cX10_readAtom 208 = .ok (.ifCond .eq 22, 3) := by decide +kernel
theorem dX10_readAtom_211 : decode cX10_readAtom 211 = .ok (.aload_n 0, 1) := by decide +kernel
theorem dX10_readAtom_212 : decode cX10_readAtom 212 = .ok (.bipush 40, 2) := by decide +kernel
theorem dX10_readAtom_214 : decode cX10_readAtom 214 = .ok (.invokevirtual 385, 3) := by decide +kernel
theorem dX10_readAtom_217 : decode cX10_readAtom 217 = .ok (.aload_n 0, 1) := by decide +kernel
theorem dX10_readAtom_218 : decode cX10_readAtom 218 = .ok (.invokevirtual 405, 3) := by decide +kernel
theorem dX10_readAtom_221 : decode cX10_readAtom 221 = .ok (.istore_n 3, 1) := by decide +kernel
theorem dX10_readAtom_222 : decode cX10_readAtom 222 = .ok (.aload_n 0, 1) := by decide +kernel
theorem dX10_readAtom_223 : decode cX10_readAtom 223 = .ok (.bipush 41, 2) := by decide +kernel
theorem dX10_readAtom_225 : decode cX10_readAtom 225 = .ok (.invokevirtual 396, 3) := by decide +kernel
theorem dX10_readAtom_228 : decode cX10_readAtom 228 = .ok (.iload_n 3, 1) := by decide +kernel
theorem dX10_readAtom_229 : decode cX10_readAtom 229 = .ok (.ireturn, 1) := by decide +kernel
theorem dX10_readAtom_230 : decode cX10_readAtom 230 = .ok (.aload_n 0, 1) := by decide +kernel
theorem dX10_readAtom_231 : decode cX10_readAtom 231 = .ok (.bipush 91, 2) := by decide +kernel
theorem dX10_readAtom_233 : decode cX10_readAtom 233 = .ok (.invokevirtual 359, 3) := by decide +kernel
theorem dX10_readAtom_236 : decode cX10_readAtom 236 = .ok (.ifCond .ne 10, 3) := by decide +kernel
theorem dX10_readAtom_239 : decode cX10_readAtom 239 = .ok (.aload_n 0, 1) := by decide +kernel
theorem dX10_readAtom_240 : decode cX10_readAtom 240 = .ok (.iconst 1, 1) := by decide +kernel
theorem dX10_readAtom_241 : decode cX10_readAtom 241 = .ok (.invokevirtual 356, 3) := by decide +kernel
theorem dX10_readAtom_244 : decode cX10_readAtom 244 = .ok (.iconst 0, 1) := by decide +kernel
theorem dX10_readAtom_245 : decode cX10_readAtom 245 = .ok (.ireturn, 1) := by decide +kernel
theorem dX10_readAtom_246 : decode cX10_readAtom 246 = .ok (.aload_n 0, 1) := by decide +kernel
theorem dX10_readAtom_247 : decode cX10_readAtom 247 = .ok (.bipush 91, 2) := by decide +kernel
theorem dX10_readAtom_249 : decode cX10_readAtom 249 = .ok (.invokevirtual 385, 3) := by decide +kernel
theorem dX10_readAtom_252 : decode cX10_readAtom 252 = .ok (.iconst (-1), 1) := by decide +kernel
theorem dX10_readAtom_253 : decode cX10_readAtom 253 = .ok (.istore_n 3, 1) := by decide +kernel
theorem dX10_readAtom_254 : decode cX10_readAtom 254 = .ok (.iconst (-1), 1) := by decide +kernel
theorem dX10_readAtom_255 : decode cX10_readAtom 255 = .ok (.istore 4, 2) := by decide +kernel
theorem dX10_readAtom_257 : decode cX10_readAtom 257 = .ok (.aload_n 0, 1) := by decide +kernel
theorem dX10_readAtom_258 : decode cX10_readAtom 258 = .ok (.getfield 347, 3) := by decide +kernel
theorem dX10_readAtom_261 : decode cX10_readAtom 261 = .ok (.ifCond .ne 7, 3) := by decide +kernel
theorem dX10_readAtom_264 : decode cX10_readAtom 264 = .ok (.iconst 1, 1) := by decide +kernel
theorem dX10_readAtom_265 : decode cX10_readAtom 265 = .ok (.goto 4, 3) := by decide +kernel
theorem dX10_readAtom_268 : decode cX10_readAtom 268 = .ok (.iconst 0, 1) := by decide +kernel
theorem dX10_readAtom_269 : decode cX10_readAtom 269 = .ok (.istore 5, 2) := by decide +kernel
theorem dX10_readAtom_271 : decode cX10_readAtom 271 = .ok (.iload 5, 2) := by decide +kernel
theorem dX10_readAtom_273 : decode cX10_readAtom 273 = .ok (.ifCond .eq 77, 3) := by decide +kernel
theorem dX10_readAtom_276 : decode cX10_readAtom 276 = .ok (.aload_n 0, 1) := by decide +kernel
theorem dX10_readAtom_277 : decode cX10_readAtom 277 = .ok (.getfield 324, 3) := by decide +kernel
theorem dX10_readAtom_280 : decode cX10_readAtom 280 = .ok (.istore 6, 2) := by decide +kernel
theorem dX10_readAtom_282 : decode cX10_readAtom 282 = .ok (.aload_n 0, 1) := by decide +kernel
theorem dX10_readAtom_283 : decode cX10_readAtom 283 = .ok (.bipush 91, 2) := by decide +kernel
theorem dX10_readAtom_285 : decode cX10_readAtom 285 = .ok (.invokevirtual 385, 3) := by decide +kernel
theorem dX10_readAtom_288 : decode cX10_readAtom 288 = .ok (.aload_n 0, 1) := by decide +kernel
theorem dX10_readAtom_289 : decode cX10_readAtom 289 = .ok (.bipush 26, 2) := by decide +kernel
theorem dX10_readAtom_291 : decode cX10_readAtom 291 = .ok (.invokevirtual 439, 3) := by decide +kernel
theorem dX10_readAtom_294 : decode cX10_readAtom 294 = .ok (.istore 7, 2) := by decide +kernel
theorem dX10_readAtom_296 : decode cX10_readAtom 296 = .ok (.aload_n 0, 1) := by decide +kernel
theorem dX10_readAtom_297 : decode cX10_readAtom 297 = .ok (.bipush 93, 2) := by decide +kernel
theorem dX10_readAtom_299 : decode cX10_readAtom 299 = .ok (.invokevirtual 396, 3) := by decide +kernel
theorem dX10_readAtom_302 : decode cX10_readAtom 302 = .ok (.aload_n 0, 1) := by decide +kernel
theorem dX10_readAtom_303 : decode cX10_readAtom 303 = .ok (.bipush 27, 2) := by decide +kernel
theorem dX10_readAtom_305 : decode cX10_readAtom 305 = .ok (.iload 7, 2) := by decide +kernel
theorem dX10_readAtom_307 : decode cX10_readAtom 307 = .ok (.iconst (-1), 1) := by decide +kernel
theorem dX10_readAtom_308 : decode cX10_readAtom 308 = .ok (.iconst (-1), 1) := by decide +kernel
theorem dX10_readAtom_309 : decode cX10_readAtom 309 = .ok (.iload 6, 2) := by decide +kernel
theorem dX10_readAtom_311 : decode cX10_readAtom 311 = .ok (.invokevirtual 381, 3) := by decide +kernel
theorem dX10_readAtom_314 : decode cX10_readAtom 314 = .ok (.istore 8, 2) := by decide +kernel
theorem dX10_readAtom_316 : decode cX10_readAtom 316 = .ok (.iload_n 3, 1) := by decide +kernel
theorem dX10_readAtom_317 : decode cX10_readAtom 317 = .ok (.ifCond .ge 9, 3) := by decide +kernel
theorem dX10_readAtom_320 : decode cX10_readAtom 320 = .ok (.iload 8, 2) := by decide +kernel
theorem dX10_readAtom_322 : decode cX10_readAtom 322 = .ok (.istore_n 3, 1) := by decide +kernel
theorem dX10_readAtom_323 : decode cX10_readAtom 323 = .ok (.goto 12, 3) := by decide +kernel
theorem dX10_readAtom_326 : decode cX10_readAtom 326 = .ok (.aload_n 0, 1) := by decide +kernel
theorem dX10_readAtom_327 : decode cX10_readAtom 327 = .ok (.getfield 118, 3) := by decide +kernel
theorem dX10_readAtom_330 : decode cX10_readAtom 330 = .ok (.iload 4, 2) := by decide +kernel
theorem dX10_readAtom_332 : decode cX10_readAtom 332 = .ok (.iload 8, 2) := by decide +kernel
theorem dX10_readAtom_334 : decode cX10_readAtom 334 = .ok (.iastore, 1) := by decide +kernel
theorem dX10_readAtom_335 : decode cX10_readAtom 335 = .ok (.iload 8, 2) := by decide +kernel
theorem dX10_readAtom_337 : decode cX10_readAtom 337 = .ok (.istore 4, 2) := by decide +kernel
theorem dX10_readAtom_339 : decode cX10_readAtom 339 = .ok (.aload_n 0, 1) := by decide +kernel
theorem dX10_readAtom_340 : decode cX10_readAtom 340 = .ok (.bipush 44, 2) := by decide +kernel
theorem dX10_readAtom_342 : decode cX10_readAtom 342 = .ok (.invokevirtual 430, 3) := by decide +kernel
theorem dX10_readAtom_345 : decode cX10_readAtom 345 = .ok (.istore 5, 2) := by decide +kernel
theorem dX10_readAtom_347 : decode cX10_readAtom 347 = .ok (.goto (-76), 3) := by decide +kernel
theorem dX10_readAtom_350 : decode cX10_readAtom 350 = .ok (.aload_n 0, 1) := by decide +kernel
theorem dX10_readAtom_351 : decode cX10_readAtom 351 = .ok (.bipush 93, 2) := by decide +kernel
theorem dX10_readAtom_353 : decode cX10_readAtom 353 = .ok (.invokevirtual 396, 3) := by decide +kernel
theorem dX10_readAtom_356 : decode cX10_readAtom 356 = .ok (.aload_n 0, 1) := by decide +kernel
theorem dX10_readAtom_357 : decode cX10_readAtom 357 = .ok (.bipush 7, 2) := by decide +kernel
theorem dX10_readAtom_359 : decode cX10_readAtom 359 = .ok (.iload_n 3, 1) := by decide +kernel
theorem dX10_readAtom_360 : decode cX10_readAtom 360 = .ok (.iconst (-1), 1) := by decide +kernel
theorem dX10_readAtom_361 : decode cX10_readAtom 361 = .ok (.iconst (-1), 1) := by decide +kernel
theorem dX10_readAtom_362 : decode cX10_readAtom 362 = .ok (.iload_n 1, 1) := by decide +kernel
theorem dX10_readAtom_363 : decode cX10_readAtom 363 = .ok (.invokevirtual 381, 3) := by decide +kernel
theorem dX10_readAtom_366 : decode cX10_readAtom 366 = .ok (.ireturn, 1) := by decide +kernel
/-! AlgebraHouseModel.readAtom()I -/
def P_X10_readAtom_163 (rec : Nat → List Int → MM → (Int → MM → Prop) → (MM → Prop) → Prop) (Q : Int → MM → Prop) (T : MM → Prop) (x1 : Int) (x2 : Int) (m : MM) : Prop := P_X10_openWith 40 m (fun r1 m1 => rec 5 [26] m1 (fun r2 m2 => P_X10_closeWith 41 m2 (fun r3 m3 => ((RI x2)) ∧ P_X10_node (if x2 = 1 then 5 else 6 : Int) r2 (-1) (-1) x1 m3 (fun r4 m4 => Q r4 m4))) T)
def P_X10_readAtom_135 (rec : Nat → List Int → MM → (Int → MM → Prop) → (MM → Prop) → Prop) (Q : Int → MM → Prop) (T : MM → Prop) (x1 : Int) (x2 : Int) (m : MM) : Prop := P_X10_accept m (fun r1 m1 => (RI x2) ∧ (if x2 = 1 then P_X10_isSign 40 m1 (fun r2 m2 => (RI r2) ∧ (if r2 = 0 then P_X10_node 4 (-1) (-1) (-1) x1 m2 (fun r3 m3 => Q r3 m3) else P_X10_readAtom_163 rec Q T x1 x2 m2)) else P_X10_readAtom_163 rec Q T x1 x2 m1))
def P_X10_readAtom_335 (rec : Nat → List Int → MM → (Int → MM → Prop) → (MM → Prop) → Prop) (Q : Int → MM → Prop) (T : MM → Prop) (K271 : Int → Int → Int → Int → MM → Prop) (x1 : Int) (x3 : Int) (x8 : Int) (m : MM) : Prop := P_X10_takesSign 44 m (fun r1 m1 => K271 x1 x3 x8 r1 m1)
def P_X10_readAtom_350 (rec : Nat → List Int → MM → (Int → MM → Prop) → (MM → Prop) → Prop) (Q : Int → MM → Prop) (T : MM → Prop) (x1 : Int) (x3 : Int) (m : MM) : Prop := P_X10_closeWith 93 m (fun r1 m1 => P_X10_node 7 x3 (-1) (-1) x1 m1 (fun r2 m2 => Q r2 m2))
def P_X10_readAtom_271 (rec : Nat → List Int → MM → (Int → MM → Prop) → (MM → Prop) → Prop) (Q : Int → MM → Prop) (T : MM → Prop) : Nat → Int → Int → Int → Int → MM → Prop
  | 0, _, _, _, _, _ => False
  | n + 1, x1, x3, x4, x5, m => (RI x5) ∧ (if x5 = 0 then P_X10_readAtom_350 rec Q T x1 x3 m else P_X10_openWith 91 m (fun r1 m1 => rec 5 [26] m1 (fun r2 m2 => P_X10_closeWith 93 m2 (fun r3 m3 => P_X10_node 27 r2 (-1) (-1) (m 582 9) m3 (fun r4 m4 => (RI x3) ∧ (if 0 ≤ x3 then (0 ≤ x4 ∧ x4 < 12000) ∧ ∀ m5 : MM, m5 = up m4 594 x4 r4 → P_X10_readAtom_335 rec Q T (fun z0 z1 z2 z3 z4 => P_X10_readAtom_271 rec Q T n z0 z1 z2 z3 z4) x1 x3 r4 m5 else P_X10_readAtom_335 rec Q T (fun z0 z1 z2 z3 z4 => P_X10_readAtom_271 rec Q T n z0 z1 z2 z3 z4) x1 r4 r4 m4)))) T))
def W_X10_readAtom (rec : Nat → List Int → MM → (Int → MM → Prop) → (MM → Prop) → Prop) (m : MM) (Q : Int → MM → Prop) (T : MM → Prop) : Prop := (RI (m 582 10)) ∧ (if (m 582 10) ≤ 0 then (0 ≤ (m 582 9) ∧ (m 582 9) < 420) ∧ (RI (m 587 (m 582 9))) ∧ (if (m 587 (m 582 9)) = 4 then P_X10_accept m (fun r15 m16 => P_X10_node 0 (-1) (-1) (-1) (m 582 9) m16 (fun r16 m17 => Q r16 m17)) else P_X10_takesKey 88 m (fun r1 m1 => (RI r1) ∧ (if r1 = 0 then P_X10_takesKey 89 m1 (fun r2 m2 => (RI r2) ∧ (if r2 = 0 then P_X10_takesSign 37 m2 (fun r3 m3 => (RI r3) ∧ (if r3 = 0 then (if (m 587 (m 582 9)) = 1 then P_X10_readAtom_135 rec Q T (m 582 9) (m 587 (m 582 9)) m3 else (if (m 587 (m 582 9)) = 3 then P_X10_readAtom_135 rec Q T (m 582 9) (m 587 (m 582 9)) m3 else P_X10_isSign 40 m3 (fun r4 m4 => (RI r4) ∧ (if r4 = 0 then P_X10_isSign 91 m4 (fun r5 m5 => (RI r5) ∧ (if r5 = 0 then P_X10_fail 1 m5 (fun r7 m7 => Q 0 m7) else P_X10_openWith 91 m5 (fun r6 m6 => (RI (m6 582 10)) ∧ (if (m6 582 10) = 0 then ∃ nn, P_X10_readAtom_271 rec Q T nn (m 582 9) (-1) (-1) 1 m6 else ∃ nn, P_X10_readAtom_271 rec Q T nn (m 582 9) (-1) (-1) 0 m6)))) else P_X10_openWith 40 m4 (fun r8 m8 => rec 4 [] m8 (fun r9 m9 => P_X10_closeWith 41 m9 (fun r10 m10 => Q r9 m10)) T))))) else P_X10_need 4 m3 (fun r11 m11 => P_X10_node 3 (-1) (-1) (-1) (m 582 9) m11 (fun r12 m12 => (0 ≤ r11 ∧ r11 < 420) ∧ (0 ≤ r12 ∧ r12 < 12000) ∧ ∀ m13 : MM, m13 = up m12 605 r12 (m12 589 r11) → Q r12 m13)))) else P_X10_node 2 (-1) (-1) (-1) (m 582 9) m2 (fun r13 m14 => Q r13 m14))) else P_X10_node 1 (-1) (-1) (-1) (m 582 9) m1 (fun r14 m15 => Q r14 m15)))) else Q 0 m)
theorem dX10_readBehind_0 : decode cX10_readBehind 0 = .ok (.aload_n 0, 1) := by decide +kernel
theorem dX10_readBehind_1 : decode cX10_readBehind 1 = .ok (.invokevirtual 436, 3) := by decide +kernel
theorem dX10_readBehind_4 : decode cX10_readBehind 4 = .ok (.istore_n 1, 1) := by decide +kernel
theorem dX10_readBehind_5 : decode cX10_readBehind 5 = .ok (.aload_n 0, 1) := by decide +kernel
theorem dX10_readBehind_6 : decode cX10_readBehind 6 = .ok (.getfield 347, 3) := by decide +kernel
theorem dX10_readBehind_9 : decode cX10_readBehind 9 = .ok (.ifCond .ne 7, 3) := by decide +kernel
theorem dX10_readBehind_12 : decode cX10_readBehind 12 = .ok (.iconst 1, 1) := by decide +kernel
theorem dX10_readBehind_13 : decode cX10_readBehind 13 = .ok (.goto 4, 3) := by decide +kernel
theorem dX10_readBehind_16 : decode cX10_readBehind 16 = .ok (.iconst 0, 1) := by decide +kernel
theorem dX10_readBehind_17 : decode cX10_readBehind 17 = .ok (.istore_n 2, 1) := by decide +kernel
theorem dX10_readBehind_18 : decode cX10_readBehind 18 = .ok (.iload_n 2, 1) := by decide +kernel
theorem dX10_readBehind_19 : decode cX10_readBehind 19 = .ok (.ifCond .eq 134, 3) := by decide +kernel
theorem dX10_readBehind_22 : decode cX10_readBehind 22 = .ok (.aload_n 0, 1) := by decide +kernel
theorem dX10_readBehind_23 : decode cX10_readBehind 23 = .ok (.getfield 324, 3) := by decide +kernel
theorem dX10_readBehind_26 : decode cX10_readBehind 26 = .ok (.istore_n 3, 1) := by decide +kernel
theorem dX10_readBehind_27 : decode cX10_readBehind 27 = .ok (.aload_n 0, 1) := by decide +kernel
theorem dX10_readBehind_28 : decode cX10_readBehind 28 = .ok (.bipush 94, 2) := by decide +kernel
theorem dX10_readBehind_30 : decode cX10_readBehind 30 = .ok (.invokevirtual 430, 3) := by decide +kernel
theorem dX10_readBehind_33 : decode cX10_readBehind 33 = .ok (.ifCond .eq 37, 3) := by decide +kernel
theorem dX10_readBehind_36 : decode cX10_readBehind 36 = .ok (.aload_n 0, 1) := by decide +kernel
theorem dX10_readBehind_37 : decode cX10_readBehind 37 = .ok (.iconst 4, 1) := by decide +kernel
theorem dX10_readBehind_38 : decode cX10_readBehind 38 = .ok (.invokevirtual 388, 3) := by decide +kernel
theorem dX10_readBehind_41 : decode cX10_readBehind 41 = .ok (.istore 4, 2) := by decide +kernel
theorem dX10_readBehind_43 : decode cX10_readBehind 43 = .ok (.aload_n 0, 1) := by decide +kernel
theorem dX10_readBehind_44 : decode cX10_readBehind 44 = .ok (.bipush 23, 2) := by decide +kernel
theorem dX10_readBehind_46 : decode cX10_readBehind 46 = .ok (.iload_n 1, 1) := by decide +kernel
theorem dX10_readBehind_47 : decode cX10_readBehind 47 = .ok (.iconst (-1), 1) := by decide +kernel
theorem dX10_readBehind_48 : decode cX10_readBehind 48 = .ok (.iconst (-1), 1) := by decide +kernel
theorem dX10_readBehind_49 : decode cX10_readBehind 49 = .ok (.iload_n 3, 1) := by decide +kernel
theorem dX10_readBehind_50 : decode cX10_readBehind 50 = .ok (.invokevirtual 381, 3) := by decide +kernel
theorem dX10_readBehind_53 : decode cX10_readBehind 53 = .ok (.istore_n 1, 1) := by decide +kernel
theorem dX10_readBehind_54 : decode cX10_readBehind 54 = .ok (.aload_n 0, 1) := by decide +kernel
theorem dX10_readBehind_55 : decode cX10_readBehind 55 = .ok (.getfield 152, 3) := by decide +kernel
theorem dX10_readBehind_58 : decode cX10_readBehind 58 = .ok (.iload_n 1, 1) := by decide +kernel
theorem dX10_readBehind_59 : decode cX10_readBehind 59 = .ok (.aload_n 0, 1) := by decide +kernel
theorem dX10_readBehind_60 : decode cX10_readBehind 60 = .ok (.getfield 99, 3) := by decide +kernel
theorem dX10_readBehind_63 : decode cX10_readBehind 63 = .ok (.iload 4, 2) := by decide +kernel
theorem dX10_readBehind_65 : decode cX10_readBehind 65 = .ok (.laload, 1) := by decide +kernel
theorem dX10_readBehind_66 : decode cX10_readBehind 66 = .ok (.lastore, 1) := by decide +kernel
theorem dX10_readBehind_67 : decode cX10_readBehind 67 = .ok (.goto 66, 3) := by decide +kernel
theorem dX10_readBehind_70 : decode cX10_readBehind 70 = .ok (.aload_n 0, 1) := by decide +kernel
theorem dX10_readBehind_71 : decode cX10_readBehind 71 = .ok (.sipush 14906, 3) := by decide +kernel
theorem dX10_readBehind_74 : decode cX10_readBehind 74 = .ok (.invokevirtual 430, 3) := by decide +kernel
theorem dX10_readBehind_77 : decode cX10_readBehind 77 = .ok (.ifCond .eq 24, 3) := by decide +kernel
theorem dX10_readBehind_80 : decode cX10_readBehind 80 = .ok (.aload_n 0, 1) := by decide +kernel
theorem dX10_readBehind_81 : decode cX10_readBehind 81 = .ok (.invokevirtual 392, 3) := by decide +kernel
theorem dX10_readBehind_84 : decode cX10_readBehind 84 = .ok (.istore 4, 2) := by decide +kernel
theorem dX10_readBehind_86 : decode cX10_readBehind 86 = .ok (.aload_n 0, 1) := by decide +kernel
theorem dX10_readBehind_87 : decode cX10_readBehind 87 = .ok (.bipush 24, 2) := by decide +kernel
theorem dX10_readBehind_89 : decode cX10_readBehind 89 = .ok (.iload_n 1, 1) := by decide +kernel
theorem dX10_readBehind_90 : decode cX10_readBehind 90 = .ok (.iconst (-1), 1) := by decide +kernel
theorem dX10_readBehind_91 : decode cX10_readBehind 91 = .ok (.iload 4, 2) := by decide +kernel
theorem dX10_readBehind_93 : decode cX10_readBehind 93 = .ok (.iload_n 3, 1) := by decide +kernel
theorem dX10_readBehind_94 : decode cX10_readBehind 94 = .ok (.invokevirtual 381, 3) := by decide +kernel
theorem dX10_readBehind_97 : decode cX10_readBehind 97 = .ok (.istore_n 1, 1) := by decide +kernel
theorem dX10_readBehind_98 : decode cX10_readBehind 98 = .ok (.goto 35, 3) := by decide +kernel
theorem dX10_readBehind_101 : decode cX10_readBehind 101 = .ok (.aload_n 0, 1) := by decide +kernel
theorem dX10_readBehind_102 : decode cX10_readBehind 102 = .ok (.bipush 33, 2) := by decide +kernel
theorem dX10_readBehind_104 : decode cX10_readBehind 104 = .ok (.invokevirtual 430, 3) := by decide +kernel
theorem dX10_readBehind_107 : decode cX10_readBehind 107 = .ok (.ifCond .eq 24, 3) := by decide +kernel
theorem dX10_readBehind_110 : decode cX10_readBehind 110 = .ok (.aload_n 0, 1) := by decide +kernel
theorem dX10_readBehind_111 : decode cX10_readBehind 111 = .ok (.invokevirtual 392, 3) := by decide +kernel
theorem dX10_readBehind_114 : decode cX10_readBehind 114 = .ok (.istore 4, 2) := by decide +kernel
theorem dX10_readBehind_116 : decode cX10_readBehind 116 = .ok (.aload_n 0, 1) := by decide +kernel
theorem dX10_readBehind_117 : decode cX10_readBehind 117 = .ok (.bipush 25, 2) := by decide +kernel
theorem dX10_readBehind_119 : decode cX10_readBehind 119 = .ok (.iload_n 1, 1) := by decide +kernel
theorem dX10_readBehind_120 : decode cX10_readBehind 120 = .ok (.iconst (-1), 1) := by decide +kernel
theorem dX10_readBehind_121 : decode cX10_readBehind 121 = .ok (.iload 4, 2) := by decide +kernel
theorem dX10_readBehind_123 : decode cX10_readBehind 123 = .ok (.iload_n 3, 1) := by decide +kernel
theorem dX10_readBehind_124 : decode cX10_readBehind 124 = .ok (.invokevirtual 381, 3) := by decide +kernel
theorem dX10_readBehind_127 : decode cX10_readBehind 127 = .ok (.istore_n 1, 1) := by decide +kernel
theorem dX10_readBehind_128 : decode cX10_readBehind 128 = .ok (.goto 5, 3) := by decide +kernel
theorem dX10_readBehind_131 : decode cX10_readBehind 131 = .ok (.iconst 0, 1) := by decide +kernel
theorem dX10_readBehind_132 : decode cX10_readBehind 132 = .ok (.istore_n 2, 1) := by decide +kernel
theorem dX10_readBehind_133 : decode cX10_readBehind 133 = .ok (.iload_n 2, 1) := by decide +kernel
theorem dX10_readBehind_134 : decode cX10_readBehind 134 = .ok (.ifCond .eq 14, 3) := by decide +kernel
theorem dX10_readBehind_137 : decode cX10_readBehind 137 = .ok (.aload_n 0, 1) := by decide +kernel
theorem dX10_readBehind_138 : decode cX10_readBehind 138 = .ok (.getfield 347, 3) := by decide +kernel
theorem dX10_readBehind_141 : decode cX10_readBehind 141 = .ok (.ifCond .ne 7, 3) := by decide +kernel
theorem dX10_readBehind_144 : decode cX10_readBehind 144 = .ok (.iconst 1, 1) := by decide +kernel
theorem dX10_readBehind_145 : decode cX10_readBehind 145 = .ok (.goto 4, 3) := by decide +kernel
theorem dX10_readBehind_148 : decode cX10_readBehind 148 = .ok (.iconst 0, 1) := by decide +kernel
theorem dX10_readBehind_149 : decode cX10_readBehind 149 = .ok (.istore_n 2, 1) := by decide +kernel
theorem dX10_readBehind_150 : decode cX10_readBehind 150 = .ok (.goto (-132), 3) := by decide +kernel
theorem dX10_readBehind_153 : decode cX10_readBehind 153 = .ok (.iload_n 1, 1) := by decide +kernel
theorem dX10_readBehind_154 : decode cX10_readBehind 154 = .ok (.ireturn, 1) := by decide +kernel
/-! AlgebraHouseModel.readBehind()I -/
def P_X10_readBehind_133 (rec : Nat → List Int → MM → (Int → MM → Prop) → (MM → Prop) → Prop) (Q : Int → MM → Prop) (T : MM → Prop) (K18 : Int → Int → MM → Prop) (x1 : Int) (x2 : Int) (m : MM) : Prop := (RI x2) ∧ (if x2 = 0 then K18 x1 0 m else (RI (m 582 10)) ∧ (if (m 582 10) = 0 then K18 x1 1 m else K18 x1 0 m))
def P_X10_readBehind_18 (rec : Nat → List Int → MM → (Int → MM → Prop) → (MM → Prop) → Prop) (Q : Int → MM → Prop) (T : MM → Prop) : Nat → Int → Int → MM → Prop
  | 0, _, _, _ => False
  | n + 1, x1, x2, m => (RI x2) ∧ (if x2 = 0 then Q x1 m else P_X10_takesSign 94 m (fun r1 m1 => (RI r1) ∧ (if r1 = 0 then P_X10_takesSign 14906 m1 (fun r2 m2 => (RI r2) ∧ (if r2 = 0 then P_X10_takesSign 33 m2 (fun r3 m3 => (RI r3) ∧ (if r3 = 0 then P_X10_readBehind_133 rec Q T (fun z0 z1 z2 => P_X10_readBehind_18 rec Q T n z0 z1 z2) x1 0 m3 else R_X10_readRing 20 0 [] m3 (fun r4 m4 => P_X10_node 25 x1 (-1) r4 (m 582 9) m4 (fun r5 m5 => P_X10_readBehind_133 rec Q T (fun z0 z1 z2 => P_X10_readBehind_18 rec Q T n z0 z1 z2) r5 x2 m5)) T)) else R_X10_readRing 20 0 [] m2 (fun r6 m6 => P_X10_node 24 x1 (-1) r6 (m 582 9) m6 (fun r7 m7 => P_X10_readBehind_133 rec Q T (fun z0 z1 z2 => P_X10_readBehind_18 rec Q T n z0 z1 z2) r7 x2 m7)) T)) else P_X10_need 4 m1 (fun r8 m8 => P_X10_node 23 x1 (-1) (-1) (m 582 9) m8 (fun r9 m9 => (0 ≤ r8 ∧ r8 < 420) ∧ (0 ≤ r9 ∧ r9 < 12000) ∧ ∀ m10 : MM, m10 = up m9 605 r9 (m9 589 r8) → P_X10_readBehind_133 rec Q T (fun z0 z1 z2 => P_X10_readBehind_18 rec Q T n z0 z1 z2) r9 x2 m10)))))
def W_X10_readBehind (rec : Nat → List Int → MM → (Int → MM → Prop) → (MM → Prop) → Prop) (m : MM) (Q : Int → MM → Prop) (T : MM → Prop) : Prop := rec 1 [] m (fun r1 m1 => (RI (m1 582 10)) ∧ (if (m1 582 10) = 0 then ∃ nn, P_X10_readBehind_18 rec Q T nn r1 1 m1 else ∃ nn, P_X10_readBehind_18 rec Q T nn r1 0 m1)) T
theorem dX10_readCompare_0 : decode cX10_readCompare 0 = .ok (.aload_n 0, 1) := by decide +kernel
theorem dX10_readCompare_1 : decode cX10_readCompare 1 = .ok (.invokevirtual 421, 3) := by decide +kernel
theorem dX10_readCompare_4 : decode cX10_readCompare 4 = .ok (.istore_n 1, 1) := by decide +kernel
theorem dX10_readCompare_5 : decode cX10_readCompare 5 = .ok (.aload_n 0, 1) := by decide +kernel
theorem dX10_readCompare_6 : decode cX10_readCompare 6 = .ok (.bipush 61, 2) := by decide +kernel
theorem dX10_readCompare_8 : decode cX10_readCompare 8 = .ok (.invokevirtual 359, 3) := by decide +kernel
theorem dX10_readCompare_11 : decode cX10_readCompare 11 = .ok (.ifCond .eq 8, 3) := by decide +kernel
theorem dX10_readCompare_14 : decode cX10_readCompare 14 = .ok (.bipush 13, 2) := by decide +kernel
theorem dX10_readCompare_16 : decode cX10_readCompare 16 = .ok (.goto 47, 3) := by decide +kernel
theorem dX10_readCompare_19 : decode cX10_readCompare 19 = .ok (.aload_n 0, 1) := by decide +kernel
theorem dX10_readCompare_20 : decode cX10_readCompare 20 = .ok (.bipush 35, 2) := by decide +kernel
theorem dX10_readCompare_22 : decode cX10_readCompare 22 = .ok (.invokevirtual 359, 3) := by decide +kernel
theorem dX10_readCompare_25 : decode cX10_readCompare 25 = .ok (.ifCond .eq 8, 3) := by decide +kernel
theorem dX10_readCompare_28 : decode cX10_readCompare 28 = .ok (.bipush 14, 2) := by decide +kernel
theorem dX10_readCompare_30 : decode cX10_readCompare 30 = .ok (.goto 33, 3) := by decide +kernel
theorem dX10_readCompare_33 : decode cX10_readCompare 33 = .ok (.aload_n 0, 1) := by decide +kernel
theorem dX10_readCompare_34 : decode cX10_readCompare 34 = .ok (.bipush 60, 2) := by decide +kernel
theorem dX10_readCompare_36 : decode cX10_readCompare 36 = .ok (.invokevirtual 359, 3) := by decide +kernel
theorem dX10_readCompare_39 : decode cX10_readCompare 39 = .ok (.ifCond .eq 8, 3) := by decide +kernel
theorem dX10_readCompare_42 : decode cX10_readCompare 42 = .ok (.bipush 15, 2) := by decide +kernel
theorem dX10_readCompare_44 : decode cX10_readCompare 44 = .ok (.goto 19, 3) := by decide +kernel
theorem dX10_readCompare_47 : decode cX10_readCompare 47 = .ok (.aload_n 0, 1) := by decide +kernel
theorem dX10_readCompare_48 : decode cX10_readCompare 48 = .ok (.sipush 15421, 3) := by decide +kernel
theorem dX10_readCompare_51 : decode cX10_readCompare 51 = .ok (.invokevirtual 359, 3) := by decide +kernel
theorem dX10_readCompare_54 : decode cX10_readCompare 54 = .ok (.ifCond .eq 8, 3) := by decide +kernel
theorem dX10_readCompare_57 : decode cX10_readCompare 57 = .ok (.bipush 16, 2) := by decide +kernel
theorem dX10_readCompare_59 : decode cX10_readCompare 59 = .ok (.goto 4, 3) := by decide +kernel
theorem dX10_readCompare_62 : decode cX10_readCompare 62 = .ok (.iconst (-1), 1) := by decide +kernel
theorem dX10_readCompare_63 : decode cX10_readCompare 63 = .ok (.istore_n 2, 1) := by decide +kernel
theorem dX10_readCompare_64 : decode cX10_readCompare 64 = .ok (.iload_n 2, 1) := by decide +kernel
theorem dX10_readCompare_65 : decode cX10_readCompare 65 = .ok (.ifCond .ge 5, 3) := by decide +kernel
theorem dX10_readCompare_68 : decode cX10_readCompare 68 = .ok (.iload_n 1, 1) := by decide +kernel
theorem dX10_readCompare_69 : decode cX10_readCompare 69 = .ok (.ireturn, 1) := by decide +kernel
theorem dX10_readCompare_70 : decode cX10_readCompare 70 = .ok (.aload_n 0, 1) := by decide +kernel
theorem dX10_readCompare_71 : decode cX10_readCompare 71 = .ok (.getfield 324, 3) := by decide +kernel
theorem dX10_readCompare_74 : decode cX10_readCompare 74 = .ok (.istore_n 3, 1) := by decide +kernel
theorem dX10_readCompare_75 : decode cX10_readCompare 75 = .ok (.aload_n 0, 1) := by decide +kernel
theorem dX10_readCompare_76 : decode cX10_readCompare 76 = .ok (.invokevirtual 362, 3) := by decide +kernel
theorem dX10_readCompare_79 : decode cX10_readCompare 79 = .ok (.aload_n 0, 1) := by decide +kernel
theorem dX10_readCompare_80 : decode cX10_readCompare 80 = .ok (.invokevirtual 421, 3) := by decide +kernel
theorem dX10_readCompare_83 : decode cX10_readCompare 83 = .ok (.istore 4, 2) := by decide +kernel
theorem dX10_readCompare_85 : decode cX10_readCompare 85 = .ok (.aload_n 0, 1) := by decide +kernel
theorem dX10_readCompare_86 : decode cX10_readCompare 86 = .ok (.iload_n 2, 1) := by decide +kernel
theorem dX10_readCompare_87 : decode cX10_readCompare 87 = .ok (.iload_n 1, 1) := by decide +kernel
theorem dX10_readCompare_88 : decode cX10_readCompare 88 = .ok (.iload 4, 2) := by decide +kernel
theorem dX10_readCompare_90 : decode cX10_readCompare 90 = .ok (.iconst (-1), 1) := by decide +kernel
theorem dX10_readCompare_91 : decode cX10_readCompare 91 = .ok (.iload_n 3, 1) := by decide +kernel
theorem dX10_readCompare_92 : decode cX10_readCompare 92 = .ok (.invokevirtual 381, 3) := by decide +kernel
theorem dX10_readCompare_95 : decode cX10_readCompare 95 = .ok (.ireturn, 1) := by decide +kernel
/-! AlgebraHouseModel.readCompare()I -/
def P_X10_readCompare_63 (rec : Nat → List Int → MM → (Int → MM → Prop) → (MM → Prop) → Prop) (Q : Int → MM → Prop) (T : MM → Prop) (x1 : Int) (s0 : Int) (m : MM) : Prop := (RI s0) ∧ (if 0 ≤ s0 then P_X10_accept m (fun r1 m1 => rec 9 [] m1 (fun r2 m2 => P_X10_node s0 x1 r2 (-1) (m 582 9) m2 (fun r3 m3 => Q r3 m3)) T) else Q x1 m)
def W_X10_readCompare (rec : Nat → List Int → MM → (Int → MM → Prop) → (MM → Prop) → Prop) (m : MM) (Q : Int → MM → Prop) (T : MM → Prop) : Prop := rec 9 [] m (fun r1 m1 => P_X10_isSign 61 m1 (fun r2 m2 => (RI r2) ∧ (if r2 = 0 then P_X10_isSign 35 m2 (fun r3 m3 => (RI r3) ∧ (if r3 = 0 then P_X10_isSign 60 m3 (fun r4 m4 => (RI r4) ∧ (if r4 = 0 then P_X10_isSign 15421 m4 (fun r5 m5 => (RI r5) ∧ (if r5 = 0 then P_X10_readCompare_63 rec Q T r1 (-1) m5 else P_X10_readCompare_63 rec Q T r1 16 m5)) else P_X10_readCompare_63 rec Q T r1 15 m4)) else P_X10_readCompare_63 rec Q T r1 14 m3)) else P_X10_readCompare_63 rec Q T r1 13 m2))) T
theorem dX10_readE_0 : decode cX10_readE 0 = .ok (.aload_n 0, 1) := by decide +kernel
theorem dX10_readE_1 : decode cX10_readE 1 = .ok (.getfield 324, 3) := by decide +kernel
theorem dX10_readE_4 : decode cX10_readE 4 = .ok (.istore_n 1, 1) := by decide +kernel
theorem dX10_readE_5 : decode cX10_readE 5 = .ok (.aload_n 0, 1) := by decide +kernel
theorem dX10_readE_6 : decode cX10_readE 6 = .ok (.ldc2_w 9, 3) := by decide +kernel
theorem dX10_readE_9 : decode cX10_readE 9 = .ok (.invokevirtual 399, 3) := by decide +kernel
theorem dX10_readE_12 : decode cX10_readE 12 = .ok (.ifCond .ne 8, 3) := by decide +kernel
theorem dX10_readE_15 : decode cX10_readE 15 = .ok (.aload_n 0, 1) := by decide +kernel
theorem dX10_readE_16 : decode cX10_readE 16 = .ok (.invokevirtual 402, 3) := by decide +kernel
theorem dX10_readE_19 : decode cX10_readE 19 = .ok (.ireturn, 1) := by decide +kernel
theorem dX10_readE_20 : decode cX10_readE 20 = .ok (.aload_n 0, 1) := by decide +kernel
theorem dX10_readE_21 : decode cX10_readE 21 = .ok (.iload_n 1, 1) := by decide +kernel
theorem dX10_readE_22 : decode cX10_readE 22 = .ok (.invokevirtual 375, 3) := by decide +kernel
theorem dX10_readE_25 : decode cX10_readE 25 = .ok (.aload_n 0, 1) := by decide +kernel
theorem dX10_readE_26 : decode cX10_readE 26 = .ok (.invokevirtual 405, 3) := by decide +kernel
theorem dX10_readE_29 : decode cX10_readE 29 = .ok (.istore_n 2, 1) := by decide +kernel
theorem dX10_readE_30 : decode cX10_readE 30 = .ok (.aload_n 0, 1) := by decide +kernel
theorem dX10_readE_31 : decode cX10_readE 31 = .ok (.ldc2_w 11, 3) := by decide +kernel
theorem dX10_readE_34 : decode cX10_readE 34 = .ok (.invokevirtual 408, 3) := by decide +kernel
theorem dX10_readE_37 : decode cX10_readE 37 = .ok (.aload_n 0, 1) := by decide +kernel
theorem dX10_readE_38 : decode cX10_readE 38 = .ok (.invokevirtual 405, 3) := by decide +kernel
theorem dX10_readE_41 : decode cX10_readE 41 = .ok (.istore_n 3, 1) := by decide +kernel
theorem dX10_readE_42 : decode cX10_readE 42 = .ok (.aload_n 0, 1) := by decide +kernel
theorem dX10_readE_43 : decode cX10_readE 43 = .ok (.ldc2_w 13, 3) := by decide +kernel
theorem dX10_readE_46 : decode cX10_readE 46 = .ok (.invokevirtual 408, 3) := by decide +kernel
theorem dX10_readE_49 : decode cX10_readE 49 = .ok (.aload_n 0, 1) := by decide +kernel
theorem dX10_readE_50 : decode cX10_readE 50 = .ok (.invokevirtual 405, 3) := by decide +kernel
theorem dX10_readE_53 : decode cX10_readE 53 = .ok (.istore 4, 2) := by decide +kernel
theorem dX10_readE_55 : decode cX10_readE 55 = .ok (.aload_n 0, 1) := by decide +kernel
theorem dX10_readE_56 : decode cX10_readE 56 = .ok (.dup, 1) := by decide +kernel
theorem dX10_readE_57 : decode cX10_readE 57 = .ok (.getfield 369, 3) := by decide +kernel
theorem dX10_readE_60 : decode cX10_readE 60 = .ok (.iconst 1, 1) := by decide +kernel
theorem dX10_readE_61 : decode cX10_readE 61 = .ok (.isub, 1) := by decide +kernel
theorem dX10_readE_62 : decode cX10_readE 62 = .ok (.putfield 369, 3) := by decide +kernel
theorem dX10_readE_65 : decode cX10_readE 65 = .ok (.aload_n 0, 1) := by decide +kernel
theorem dX10_readE_66 : decode cX10_readE 66 = .ok (.bipush 8, 2) := by decide +kernel
theorem dX10_readE_68 : decode cX10_readE 68 = .ok (.iload_n 2, 1) := by decide +kernel
theorem dX10_readE_69 : decode cX10_readE 69 = .ok (.iload_n 3, 1) := by decide +kernel
theorem dX10_readE_70 : decode cX10_readE 70 = .ok (.iload 4, 2) := by decide +kernel
theorem dX10_readE_72 : decode cX10_readE 72 = .ok (.iload_n 1, 1) := by decide +kernel
theorem dX10_readE_73 : decode cX10_readE 73 = .ok (.invokevirtual 381, 3) := by decide +kernel
theorem dX10_readE_76 : decode cX10_readE 76 = .ok (.ireturn, 1) := by decide +kernel
/-! AlgebraHouseModel.readE()I -/
def W_X10_readE (rec : Nat → List Int → MM → (Int → MM → Prop) → (MM → Prop) → Prop) (m : MM) (Q : Int → MM → Prop) (T : MM → Prop) : Prop := P_X10_takesKey 26982 m (fun r1 m1 => (RI r1) ∧ (if r1 = 0 then rec 7 [] m1 (fun r9 m10 => Q r9 m10) T else P_X10_opens (m 582 9) m1 (fun r2 m2 => rec 4 [] m2 (fun r3 m3 => P_X10_key 1952998766 m3 (fun r4 m4 => rec 4 [] m4 (fun r5 m5 => P_X10_key 1701606245 m5 (fun r6 m6 => rec 4 [] m6 (fun r7 m7 => ∀ m8 : MM, m8 = up m7 582 12 ((m7 582 12) - 1) → P_X10_node 8 r3 r5 r7 (m 582 9) m8 (fun r8 m9 => Q r8 m9)) T)) T)) T)))
theorem dX10_readItems_0 : decode cX10_readItems 0 = .ok (.iconst (-1), 1) := by decide +kernel
theorem dX10_readItems_1 : decode cX10_readItems 1 = .ok (.istore_n 2, 1) := by decide +kernel
theorem dX10_readItems_2 : decode cX10_readItems 2 = .ok (.iconst (-1), 1) := by decide +kernel
theorem dX10_readItems_3 : decode cX10_readItems 3 = .ok (.istore_n 3, 1) := by decide +kernel
theorem dX10_readItems_4 : decode cX10_readItems 4 = .ok (.aload_n 0, 1) := by decide +kernel
theorem dX10_readItems_5 : decode cX10_readItems 5 = .ok (.getfield 347, 3) := by decide +kernel
theorem dX10_readItems_8 : decode cX10_readItems 8 = .ok (.ifCond .ne 7, 3) := by decide +kernel
theorem dX10_readItems_11 : decode cX10_readItems 11 = .ok (.iconst 1, 1) := by decide +kernel
theorem dX10_readItems_12 : decode cX10_readItems 12 = .ok (.goto 4, 3) := by decide +kernel
theorem dX10_readItems_15 : decode cX10_readItems 15 = .ok (.iconst 0, 1) := by decide +kernel
theorem dX10_readItems_16 : decode cX10_readItems 16 = .ok (.istore 4, 2) := by decide +kernel
theorem dX10_readItems_18 : decode cX10_readItems 18 = .ok (.iload 4, 2) := by decide +kernel
theorem dX10_readItems_20 : decode cX10_readItems 20 = .ok (.ifCond .eq 60, 3) := by decide +kernel
theorem dX10_readItems_23 : decode cX10_readItems 23 = .ok (.aload_n 0, 1) := by decide +kernel
theorem dX10_readItems_24 : decode cX10_readItems 24 = .ok (.getfield 324, 3) := by decide +kernel
theorem dX10_readItems_27 : decode cX10_readItems 27 = .ok (.istore 5, 2) := by decide +kernel
theorem dX10_readItems_29 : decode cX10_readItems 29 = .ok (.aload_n 0, 1) := by decide +kernel
theorem dX10_readItems_30 : decode cX10_readItems 30 = .ok (.invokevirtual 405, 3) := by decide +kernel
theorem dX10_readItems_33 : decode cX10_readItems 33 = .ok (.istore 6, 2) := by decide +kernel
theorem dX10_readItems_35 : decode cX10_readItems 35 = .ok (.aload_n 0, 1) := by decide +kernel
theorem dX10_readItems_36 : decode cX10_readItems 36 = .ok (.iload_n 1, 1) := by decide +kernel
theorem dX10_readItems_37 : decode cX10_readItems 37 = .ok (.iload 6, 2) := by decide +kernel
theorem dX10_readItems_39 : decode cX10_readItems 39 = .ok (.iconst (-1), 1) := by decide +kernel
theorem dX10_readItems_40 : decode cX10_readItems 40 = .ok (.iconst (-1), 1) := by decide +kernel
theorem dX10_readItems_41 : decode cX10_readItems 41 = .ok (.iload 5, 2) := by decide +kernel
theorem dX10_readItems_43 : decode cX10_readItems 43 = .ok (.invokevirtual 381, 3) := by decide +kernel
theorem dX10_readItems_46 : decode cX10_readItems 46 = .ok (.istore 7, 2) := by decide +kernel
theorem dX10_readItems_48 : decode cX10_readItems 48 = .ok (.iload_n 2, 1) := by decide +kernel
theorem dX10_readItems_49 : decode cX10_readItems 49 = .ok (.ifCond .ge 9, 3) := by decide +kernel
theorem dX10_readItems_52 : decode cX10_readItems 52 = .ok (.iload 7, 2) := by decide +kernel
theorem dX10_readItems_54 : decode cX10_readItems 54 = .ok (.istore_n 2, 1) := by decide +kernel
theorem dX10_readItems_55 : decode cX10_readItems 55 = .ok (.goto 11, 3) := by decide +kernel
theorem dX10_readItems_58 : decode cX10_readItems 58 = .ok (.aload_n 0, 1) := by decide +kernel
theorem dX10_readItems_59 : decode cX10_readItems 59 = .ok (.getfield 118, 3) := by decide +kernel
theorem dX10_readItems_62 : decode cX10_readItems 62 = .ok (.iload_n 3, 1) := by decide +kernel
theorem dX10_readItems_63 : decode cX10_readItems 63 = .ok (.iload 7, 2) := by decide +kernel
theorem dX10_readItems_65 : decode cX10_readItems 65 = .ok (.iastore, 1) := by decide +kernel
theorem dX10_readItems_66 : decode cX10_readItems 66 = .ok (.iload 7, 2) := by decide +kernel
theorem dX10_readItems_68 : decode cX10_readItems 68 = .ok (.istore_n 3, 1) := by decide +kernel
theorem dX10_readItems_69 : decode cX10_readItems 69 = .ok (.aload_n 0, 1) := by decide +kernel
theorem dX10_readItems_70 : decode cX10_readItems 70 = .ok (.bipush 44, 2) := by decide +kernel
theorem dX10_readItems_72 : decode cX10_readItems 72 = .ok (.invokevirtual 430, 3) := by decide +kernel
theorem dX10_readItems_75 : decode cX10_readItems 75 = .ok (.istore 4, 2) := by decide +kernel
theorem dX10_readItems_77 : decode cX10_readItems 77 = .ok (.goto (-59), 3) := by decide +kernel
theorem dX10_readItems_80 : decode cX10_readItems 80 = .ok (.iload_n 2, 1) := by decide +kernel
theorem dX10_readItems_81 : decode cX10_readItems 81 = .ok (.ireturn, 1) := by decide +kernel
/-! AlgebraHouseModel.readItems(I)I -/
def P_X10_readItems_66 (rec : Nat → List Int → MM → (Int → MM → Prop) → (MM → Prop) → Prop) (Q : Int → MM → Prop) (T : MM → Prop) (K18 : Int → Int → Int → Int → MM → Prop) (x1 : Int) (x2 : Int) (x7 : Int) (m : MM) : Prop := P_X10_takesSign 44 m (fun r1 m1 => K18 x1 x2 x7 r1 m1)
def P_X10_readItems_18 (rec : Nat → List Int → MM → (Int → MM → Prop) → (MM → Prop) → Prop) (Q : Int → MM → Prop) (T : MM → Prop) : Nat → Int → Int → Int → Int → MM → Prop
  | 0, _, _, _, _, _ => False
  | n + 1, x1, x2, x3, x4, m => (RI x4) ∧ (if x4 = 0 then Q x2 m else rec 4 [] m (fun r1 m1 => P_X10_node x1 r1 (-1) (-1) (m 582 9) m1 (fun r2 m2 => (RI x2) ∧ (if 0 ≤ x2 then (0 ≤ x3 ∧ x3 < 12000) ∧ ∀ m3 : MM, m3 = up m2 594 x3 r2 → P_X10_readItems_66 rec Q T (fun z0 z1 z2 z3 z4 => P_X10_readItems_18 rec Q T n z0 z1 z2 z3 z4) x1 x2 r2 m3 else P_X10_readItems_66 rec Q T (fun z0 z1 z2 z3 z4 => P_X10_readItems_18 rec Q T n z0 z1 z2 z3 z4) x1 r2 r2 m2))) T)
def W_X10_readItems (rec : Nat → List Int → MM → (Int → MM → Prop) → (MM → Prop) → Prop) (x1 : Int) (m : MM) (Q : Int → MM → Prop) (T : MM → Prop) : Prop := (RI (m 582 10)) ∧ (if (m 582 10) = 0 then ∃ nn, P_X10_readItems_18 rec Q T nn x1 (-1) (-1) 1 m else ∃ nn, P_X10_readItems_18 rec Q T nn x1 (-1) (-1) 0 m)
theorem dX10_readNot_0 : decode cX10_readNot 0 = .ok (.aload_n 0, 1) := by decide +kernel
theorem dX10_readNot_1 : decode cX10_readNot 1 = .ok (.getfield 324, 3) := by decide +kernel
theorem dX10_readNot_4 : decode cX10_readNot 4 = .ok (.istore_n 1, 1) := by decide +kernel
theorem dX10_readNot_5 : decode cX10_readNot 5 = .ok (.aload_n 0, 1) := by decide +kernel
theorem dX10_readNot_6 : decode cX10_readNot 6 = .ok (.ldc2_w 19, 3) := by decide +kernel
theorem dX10_readNot_9 : decode cX10_readNot 9 = .ok (.invokevirtual 399, 3) := by decide +kernel
theorem dX10_readNot_12 : decode cX10_readNot 12 = .ok (.ifCond .ne 8, 3) := by decide +kernel
theorem dX10_readNot_15 : decode cX10_readNot 15 = .ok (.aload_n 0, 1) := by decide +kernel
theorem dX10_readNot_16 : decode cX10_readNot 16 = .ok (.invokevirtual 418, 3) := by decide +kernel
theorem dX10_readNot_19 : decode cX10_readNot 19 = .ok (.ireturn, 1) := by decide +kernel
theorem dX10_readNot_20 : decode cX10_readNot 20 = .ok (.aload_n 0, 1) := by decide +kernel
theorem dX10_readNot_21 : decode cX10_readNot 21 = .ok (.iload_n 1, 1) := by decide +kernel
theorem dX10_readNot_22 : decode cX10_readNot 22 = .ok (.invokevirtual 375, 3) := by decide +kernel
theorem dX10_readNot_25 : decode cX10_readNot 25 = .ok (.aload_n 0, 1) := by decide +kernel
theorem dX10_readNot_26 : decode cX10_readNot 26 = .ok (.invokevirtual 415, 3) := by decide +kernel
theorem dX10_readNot_29 : decode cX10_readNot 29 = .ok (.istore_n 2, 1) := by decide +kernel
theorem dX10_readNot_30 : decode cX10_readNot 30 = .ok (.aload_n 0, 1) := by decide +kernel
theorem dX10_readNot_31 : decode cX10_readNot 31 = .ok (.dup, 1) := by decide +kernel
theorem dX10_readNot_32 : decode cX10_readNot 32 = .ok (.getfield 369, 3) := by decide +kernel
theorem dX10_readNot_35 : decode cX10_readNot 35 = .ok (.iconst 1, 1) := by decide +kernel
theorem dX10_readNot_36 : decode cX10_readNot 36 = .ok (.isub, 1) := by decide +kernel
theorem dX10_readNot_37 : decode cX10_readNot 37 = .ok (.putfield 369, 3) := by decide +kernel
theorem dX10_readNot_40 : decode cX10_readNot 40 = .ok (.aload_n 0, 1) := by decide +kernel
theorem dX10_readNot_41 : decode cX10_readNot 41 = .ok (.bipush 9, 2) := by decide +kernel
theorem dX10_readNot_43 : decode cX10_readNot 43 = .ok (.iload_n 2, 1) := by decide +kernel
theorem dX10_readNot_44 : decode cX10_readNot 44 = .ok (.iconst (-1), 1) := by decide +kernel
theorem dX10_readNot_45 : decode cX10_readNot 45 = .ok (.iconst (-1), 1) := by decide +kernel
theorem dX10_readNot_46 : decode cX10_readNot 46 = .ok (.iload_n 1, 1) := by decide +kernel
theorem dX10_readNot_47 : decode cX10_readNot 47 = .ok (.invokevirtual 381, 3) := by decide +kernel
theorem dX10_readNot_50 : decode cX10_readNot 50 = .ok (.ireturn, 1) := by decide +kernel
/-! AlgebraHouseModel.readNot()I -/
def W_X10_readNot (rec : Nat → List Int → MM → (Int → MM → Prop) → (MM → Prop) → Prop) (m : MM) (Q : Int → MM → Prop) (T : MM → Prop) : Prop := P_X10_takesKey 7237492 m (fun r1 m1 => (RI r1) ∧ (if r1 = 0 then rec 3 [] m1 (fun r5 m6 => Q r5 m6) T else P_X10_opens (m 582 9) m1 (fun r2 m2 => rec 6 [] m2 (fun r3 m3 => ∀ m4 : MM, m4 = up m3 582 12 ((m3 582 12) - 1) → P_X10_node 9 r3 (-1) (-1) (m 582 9) m4 (fun r4 m5 => Q r4 m5)) T)))
theorem dX10_readOr_0 : decode cX10_readOr 0 = .ok (.aload_n 0, 1) := by decide +kernel
theorem dX10_readOr_1 : decode cX10_readOr 1 = .ok (.invokevirtual 412, 3) := by decide +kernel
theorem dX10_readOr_4 : decode cX10_readOr 4 = .ok (.istore_n 1, 1) := by decide +kernel
theorem dX10_readOr_5 : decode cX10_readOr 5 = .ok (.aload_n 0, 1) := by decide +kernel
theorem dX10_readOr_6 : decode cX10_readOr 6 = .ok (.ldc2_w 17, 3) := by decide +kernel
theorem dX10_readOr_9 : decode cX10_readOr 9 = .ok (.invokevirtual 365, 3) := by decide +kernel
theorem dX10_readOr_12 : decode cX10_readOr 12 = .ok (.ifCond .eq 31, 3) := by decide +kernel
theorem dX10_readOr_15 : decode cX10_readOr 15 = .ok (.aload_n 0, 1) := by decide +kernel
theorem dX10_readOr_16 : decode cX10_readOr 16 = .ok (.getfield 324, 3) := by decide +kernel
theorem dX10_readOr_19 : decode cX10_readOr 19 = .ok (.istore_n 2, 1) := by decide +kernel
theorem dX10_readOr_20 : decode cX10_readOr 20 = .ok (.aload_n 0, 1) := by decide +kernel
theorem dX10_readOr_21 : decode cX10_readOr 21 = .ok (.invokevirtual 362, 3) := by decide +kernel
theorem dX10_readOr_24 : decode cX10_readOr 24 = .ok (.aload_n 0, 1) := by decide +kernel
theorem dX10_readOr_25 : decode cX10_readOr 25 = .ok (.invokevirtual 412, 3) := by decide +kernel
theorem dX10_readOr_28 : decode cX10_readOr 28 = .ok (.istore_n 3, 1) := by decide +kernel
theorem dX10_readOr_29 : decode cX10_readOr 29 = .ok (.aload_n 0, 1) := by decide +kernel
theorem dX10_readOr_30 : decode cX10_readOr 30 = .ok (.bipush 11, 2) := by decide +kernel
theorem dX10_readOr_32 : decode cX10_readOr 32 = .ok (.iload_n 1, 1) := by decide +kernel
theorem dX10_readOr_33 : decode cX10_readOr 33 = .ok (.iload_n 3, 1) := by decide +kernel
theorem dX10_readOr_34 : decode cX10_readOr 34 = .ok (.iconst (-1), 1) := by decide +kernel
theorem dX10_readOr_35 : decode cX10_readOr 35 = .ok (.iload_n 2, 1) := by decide +kernel
theorem dX10_readOr_36 : decode cX10_readOr 36 = .ok (.invokevirtual 381, 3) := by decide +kernel
theorem dX10_readOr_39 : decode cX10_readOr 39 = .ok (.istore_n 1, 1) := by decide +kernel
theorem dX10_readOr_40 : decode cX10_readOr 40 = .ok (.goto (-35), 3) := by decide +kernel
theorem dX10_readOr_43 : decode cX10_readOr 43 = .ok (.iload_n 1, 1) := by decide +kernel
theorem dX10_readOr_44 : decode cX10_readOr 44 = .ok (.ireturn, 1) := by decide +kernel
/-! AlgebraHouseModel.readOr()I -/
def P_X10_readOr_5 (rec : Nat → List Int → MM → (Int → MM → Prop) → (MM → Prop) → Prop) (Q : Int → MM → Prop) (T : MM → Prop) : Nat → Int → MM → Prop
  | 0, _, _ => False
  | n + 1, x1, m => P_X10_isKey 28530 m (fun r1 m1 => (RI r1) ∧ (if r1 = 0 then Q x1 m1 else P_X10_accept m1 (fun r2 m2 => rec 0 [] m2 (fun r3 m3 => P_X10_node 11 x1 r3 (-1) (m1 582 9) m3 (fun r4 m4 => P_X10_readOr_5 rec Q T n r4 m4)) T)))
def W_X10_readOr (rec : Nat → List Int → MM → (Int → MM → Prop) → (MM → Prop) → Prop) (m : MM) (Q : Int → MM → Prop) (T : MM → Prop) : Prop := rec 0 [] m (fun r1 m1 => ∃ nn, P_X10_readOr_5 rec Q T nn r1 m1) T
theorem dX10_readProduct_0 : decode cX10_readProduct 0 = .ok (.aload_n 0, 1) := by decide +kernel
theorem dX10_readProduct_1 : decode cX10_readProduct 1 = .ok (.invokevirtual 427, 3) := by decide +kernel
theorem dX10_readProduct_4 : decode cX10_readProduct 4 = .ok (.istore_n 1, 1) := by decide +kernel
theorem dX10_readProduct_5 : decode cX10_readProduct 5 = .ok (.aload_n 0, 1) := by decide +kernel
theorem dX10_readProduct_6 : decode cX10_readProduct 6 = .ok (.getfield 347, 3) := by decide +kernel
theorem dX10_readProduct_9 : decode cX10_readProduct 9 = .ok (.ifCond .ne 7, 3) := by decide +kernel
theorem dX10_readProduct_12 : decode cX10_readProduct 12 = .ok (.iconst 1, 1) := by decide +kernel
theorem dX10_readProduct_13 : decode cX10_readProduct 13 = .ok (.goto 4, 3) := by decide +kernel
theorem dX10_readProduct_16 : decode cX10_readProduct 16 = .ok (.iconst 0, 1) := by decide +kernel
theorem dX10_readProduct_17 : decode cX10_readProduct 17 = .ok (.istore_n 2, 1) := by decide +kernel
theorem dX10_readProduct_18 : decode cX10_readProduct 18 = .ok (.iload_n 2, 1) := by decide +kernel
theorem dX10_readProduct_19 : decode cX10_readProduct 19 = .ok (.ifCond .eq 111, 3) := by decide +kernel
theorem dX10_readProduct_22 : decode cX10_readProduct 22 = .ok (.aload_n 0, 1) := by decide +kernel
theorem dX10_readProduct_23 : decode cX10_readProduct 23 = .ok (.bipush 42, 2) := by decide +kernel
theorem dX10_readProduct_25 : decode cX10_readProduct 25 = .ok (.invokevirtual 359, 3) := by decide +kernel
theorem dX10_readProduct_28 : decode cX10_readProduct 28 = .ok (.ifCond .eq 8, 3) := by decide +kernel
theorem dX10_readProduct_31 : decode cX10_readProduct 31 = .ok (.bipush 19, 2) := by decide +kernel
theorem dX10_readProduct_33 : decode cX10_readProduct 33 = .ok (.goto 48, 3) := by decide +kernel
theorem dX10_readProduct_36 : decode cX10_readProduct 36 = .ok (.aload_n 0, 1) := by decide +kernel
theorem dX10_readProduct_37 : decode cX10_readProduct 37 = .ok (.bipush 47, 2) := by decide +kernel
theorem dX10_readProduct_39 : decode cX10_readProduct 39 = .ok (.invokevirtual 359, 3) := by decide +kernel
theorem dX10_readProduct_42 : decode cX10_readProduct 42 = .ok (.ifCond .eq 8, 3) := by decide +kernel
theorem dX10_readProduct_45 : decode cX10_readProduct 45 = .ok (.bipush 20, 2) := by decide +kernel
theorem dX10_readProduct_47 : decode cX10_readProduct 47 = .ok (.goto 34, 3) := by decide +kernel
theorem dX10_readProduct_50 : decode cX10_readProduct 50 = .ok (.aload_n 0, 1) := by decide +kernel
theorem dX10_readProduct_51 : decode cX10_readProduct 51 = .ok (.ldc2_w 21, 3) := by decide +kernel
theorem dX10_readProduct_54 : decode cX10_readProduct 54 = .ok (.invokevirtual 365, 3) := by decide +kernel
theorem dX10_readProduct_57 : decode cX10_readProduct 57 = .ok (.ifCond .eq 8, 3) := by decide +kernel
theorem dX10_readProduct_60 : decode cX10_readProduct 60 = .ok (.bipush 21, 2) := by decide +kernel
theorem dX10_readProduct_62 : decode cX10_readProduct 62 = .ok (.goto 19, 3) := by decide +kernel
theorem dX10_readProduct_65 : decode cX10_readProduct 65 = .ok (.aload_n 0, 1) := by decide +kernel
theorem dX10_readProduct_66 : decode cX10_readProduct 66 = .ok (.ldc2_w 23, 3) := by decide +kernel
theorem dX10_readProduct_69 : decode cX10_readProduct 69 = .ok (.invokevirtual 365, 3) := by decide +kernel
theorem dX10_readProduct_72 : decode cX10_readProduct 72 = .ok (.ifCond .eq 8, 3) := by decide +kernel
theorem dX10_readProduct_75 : decode cX10_readProduct 75 = .ok (.bipush 22, 2) := by decide +kernel
theorem dX10_readProduct_77 : decode cX10_readProduct 77 = .ok (.goto 4, 3) := by decide +kernel
theorem dX10_readProduct_80 : decode cX10_readProduct 80 = .ok (.iconst (-1), 1) := by decide +kernel
theorem dX10_readProduct_81 : decode cX10_readProduct 81 = .ok (.istore_n 3, 1) := by decide +kernel
theorem dX10_readProduct_82 : decode cX10_readProduct 82 = .ok (.iload_n 3, 1) := by decide +kernel
theorem dX10_readProduct_83 : decode cX10_readProduct 83 = .ok (.ifCond .lt 7, 3) := by decide +kernel
theorem dX10_readProduct_86 : decode cX10_readProduct 86 = .ok (.iconst 1, 1) := by decide +kernel
theorem dX10_readProduct_87 : decode cX10_readProduct 87 = .ok (.goto 4, 3) := by decide +kernel
theorem dX10_readProduct_90 : decode cX10_readProduct 90 = .ok (.iconst 0, 1) := by decide +kernel
theorem dX10_readProduct_91 : decode cX10_readProduct 91 = .ok (.istore_n 2, 1) := by decide +kernel
theorem dX10_readProduct_92 : decode cX10_readProduct 92 = .ok (.iload_n 2, 1) := by decide +kernel
theorem dX10_readProduct_93 : decode cX10_readProduct 93 = .ok (.ifCond .ne 6, 3) := by decide +kernel
theorem dX10_readProduct_96 : decode cX10_readProduct 96 = .ok (.goto (-78), 3) := by decide +kernel
theorem dX10_readProduct_99 : decode cX10_readProduct 99 = .ok (.aload_n 0, 1) := by decide +kernel
theorem dX10_readProduct_100 : decode cX10_readProduct 100 = .ok (.getfield 324, 3) := by decide +kernel
theorem dX10_readProduct_103 : decode cX10_readProduct 103 = .ok (.istore 4, 2) := by decide +kernel
theorem dX10_readProduct_105 : decode cX10_readProduct 105 = .ok (.aload_n 0, 1) := by decide +kernel
theorem dX10_readProduct_106 : decode cX10_readProduct 106 = .ok (.invokevirtual 362, 3) := by decide +kernel
theorem dX10_readProduct_109 : decode cX10_readProduct 109 = .ok (.aload_n 0, 1) := by decide +kernel
theorem dX10_readProduct_110 : decode cX10_readProduct 110 = .ok (.invokevirtual 427, 3) := by decide +kernel
theorem dX10_readProduct_113 : decode cX10_readProduct 113 = .ok (.istore 5, 2) := by decide +kernel
theorem dX10_readProduct_115 : decode cX10_readProduct 115 = .ok (.aload_n 0, 1) := by decide +kernel
theorem dX10_readProduct_116 : decode cX10_readProduct 116 = .ok (.iload_n 3, 1) := by decide +kernel
theorem dX10_readProduct_117 : decode cX10_readProduct 117 = .ok (.iload_n 1, 1) := by decide +kernel
theorem dX10_readProduct_118 : decode cX10_readProduct 118 = .ok (.iload 5, 2) := by decide +kernel
theorem dX10_readProduct_120 : decode cX10_readProduct 120 = .ok (.iconst (-1), 1) := by decide +kernel
theorem dX10_readProduct_121 : decode cX10_readProduct 121 = .ok (.iload 4, 2) := by decide +kernel
theorem dX10_readProduct_123 : decode cX10_readProduct 123 = .ok (.invokevirtual 381, 3) := by decide +kernel
theorem dX10_readProduct_126 : decode cX10_readProduct 126 = .ok (.istore_n 1, 1) := by decide +kernel
theorem dX10_readProduct_127 : decode cX10_readProduct 127 = .ok (.goto (-109), 3) := by decide +kernel
theorem dX10_readProduct_130 : decode cX10_readProduct 130 = .ok (.iload_n 1, 1) := by decide +kernel
theorem dX10_readProduct_131 : decode cX10_readProduct 131 = .ok (.ireturn, 1) := by decide +kernel
/-! AlgebraHouseModel.readProduct()I -/
def P_X10_readProduct_81 (rec : Nat → List Int → MM → (Int → MM → Prop) → (MM → Prop) → Prop) (Q : Int → MM → Prop) (T : MM → Prop) (K18 : Int → Int → MM → Prop) (x1 : Int) (s0 : Int) (m : MM) : Prop := ((RI s0)) ∧ (RI (if s0 < 0 then 0 else 1 : Int)) ∧ (if (if s0 < 0 then 0 else 1 : Int) = 0 then K18 x1 (if s0 < 0 then 0 else 1 : Int) m else P_X10_accept m (fun r1 m1 => rec 10 [] m1 (fun r2 m2 => P_X10_node s0 x1 r2 (-1) (m 582 9) m2 (fun r3 m3 => K18 r3 (if s0 < 0 then 0 else 1 : Int) m3)) T))
def P_X10_readProduct_18 (rec : Nat → List Int → MM → (Int → MM → Prop) → (MM → Prop) → Prop) (Q : Int → MM → Prop) (T : MM → Prop) : Nat → Int → Int → MM → Prop
  | 0, _, _, _ => False
  | n + 1, x1, x2, m => (RI x2) ∧ (if x2 = 0 then Q x1 m else P_X10_isSign 42 m (fun r1 m1 => (RI r1) ∧ (if r1 = 0 then P_X10_isSign 47 m1 (fun r2 m2 => (RI r2) ∧ (if r2 = 0 then P_X10_isKey 7435631 m2 (fun r3 m3 => (RI r3) ∧ (if r3 = 0 then P_X10_isKey 7497069 m3 (fun r4 m4 => (RI r4) ∧ (if r4 = 0 then P_X10_readProduct_81 rec Q T (fun z0 z1 z2 => P_X10_readProduct_18 rec Q T n z0 z1 z2) x1 (-1) m4 else P_X10_readProduct_81 rec Q T (fun z0 z1 z2 => P_X10_readProduct_18 rec Q T n z0 z1 z2) x1 22 m4)) else P_X10_readProduct_81 rec Q T (fun z0 z1 z2 => P_X10_readProduct_18 rec Q T n z0 z1 z2) x1 21 m3)) else P_X10_readProduct_81 rec Q T (fun z0 z1 z2 => P_X10_readProduct_18 rec Q T n z0 z1 z2) x1 20 m2)) else P_X10_readProduct_81 rec Q T (fun z0 z1 z2 => P_X10_readProduct_18 rec Q T n z0 z1 z2) x1 19 m1)))
def W_X10_readProduct (rec : Nat → List Int → MM → (Int → MM → Prop) → (MM → Prop) → Prop) (m : MM) (Q : Int → MM → Prop) (T : MM → Prop) : Prop := rec 10 [] m (fun r1 m1 => (RI (m1 582 10)) ∧ (if (m1 582 10) = 0 then ∃ nn, P_X10_readProduct_18 rec Q T nn r1 1 m1 else ∃ nn, P_X10_readProduct_18 rec Q T nn r1 0 m1)) T
theorem dX10_readSum_0 : decode cX10_readSum 0 = .ok (.aload_n 0, 1) := by decide +kernel
theorem dX10_readSum_1 : decode cX10_readSum 1 = .ok (.invokevirtual 424, 3) := by decide +kernel
theorem dX10_readSum_4 : decode cX10_readSum 4 = .ok (.istore_n 1, 1) := by decide +kernel
theorem dX10_readSum_5 : decode cX10_readSum 5 = .ok (.aload_n 0, 1) := by decide +kernel
theorem dX10_readSum_6 : decode cX10_readSum 6 = .ok (.bipush 43, 2) := by decide +kernel
theorem dX10_readSum_8 : decode cX10_readSum 8 = .ok (.invokevirtual 359, 3) := by decide +kernel
theorem dX10_readSum_11 : decode cX10_readSum 11 = .ok (.ifCond .ne 12, 3) := by decide +kernel
theorem dX10_readSum_14 : decode cX10_readSum 14 = .ok (.aload_n 0, 1) := by decide +kernel
theorem dX10_readSum_15 : decode cX10_readSum 15 = .ok (.bipush 45, 2) := by decide +kernel
theorem dX10_readSum_17 : decode cX10_readSum 17 = .ok (.invokevirtual 359, 3) := by decide +kernel
theorem dX10_readSum_20 : decode cX10_readSum 20 = .ok (.ifCond .eq 49, 3) := by decide +kernel
theorem dX10_readSum_23 : decode cX10_readSum 23 = .ok (.aload_n 0, 1) := by decide +kernel
theorem dX10_readSum_24 : decode cX10_readSum 24 = .ok (.bipush 43, 2) := by decide +kernel
theorem dX10_readSum_26 : decode cX10_readSum 26 = .ok (.invokevirtual 359, 3) := by decide +kernel
theorem dX10_readSum_29 : decode cX10_readSum 29 = .ok (.ifCond .eq 8, 3) := by decide +kernel
theorem dX10_readSum_32 : decode cX10_readSum 32 = .ok (.bipush 17, 2) := by decide +kernel
theorem dX10_readSum_34 : decode cX10_readSum 34 = .ok (.goto 5, 3) := by decide +kernel
theorem dX10_readSum_37 : decode cX10_readSum 37 = .ok (.bipush 18, 2) := by decide +kernel
theorem dX10_readSum_39 : decode cX10_readSum 39 = .ok (.istore_n 2, 1) := by decide +kernel
theorem dX10_readSum_40 : decode cX10_readSum 40 = .ok (.aload_n 0, 1) := by decide +kernel
theorem dX10_readSum_41 : decode cX10_readSum 41 = .ok (.getfield 324, 3) := by decide +kernel
theorem dX10_readSum_44 : decode cX10_readSum 44 = .ok (.istore_n 3, 1) := by decide +kernel
theorem dX10_readSum_45 : decode cX10_readSum 45 = .ok (.aload_n 0, 1) := by decide +kernel
theorem dX10_readSum_46 : decode cX10_readSum 46 = .ok (.invokevirtual 362, 3) := by decide +kernel
theorem dX10_readSum_49 : decode cX10_readSum 49 = .ok (.aload_n 0, 1) := by decide +kernel
theorem dX10_readSum_50 : decode cX10_readSum 50 = .ok (.invokevirtual 424, 3) := by decide +kernel
theorem dX10_readSum_53 : decode cX10_readSum 53 = .ok (.istore 4, 2) := by decide +kernel
theorem dX10_readSum_55 : decode cX10_readSum 55 = .ok (.aload_n 0, 1) := by decide +kernel
theorem dX10_readSum_56 : decode cX10_readSum 56 = .ok (.iload_n 2, 1) := by decide +kernel
theorem dX10_readSum_57 : decode cX10_readSum 57 = .ok (.iload_n 1, 1) := by decide +kernel
theorem dX10_readSum_58 : decode cX10_readSum 58 = .ok (.iload 4, 2) := by decide +kernel
theorem dX10_readSum_60 : decode cX10_readSum 60 = .ok (.iconst (-1), 1) := by decide +kernel
theorem dX10_readSum_61 : decode cX10_readSum 61 = .ok (.iload_n 3, 1) := by decide +kernel
theorem dX10_readSum_62 : decode cX10_readSum 62 = .ok (.invokevirtual 381, 3) := by decide +kernel
theorem dX10_readSum_65 : decode cX10_readSum 65 = .ok (.istore_n 1, 1) := by decide +kernel
theorem dX10_readSum_66 : decode cX10_readSum 66 = .ok (.goto (-61), 3) := by decide +kernel
theorem dX10_readSum_69 : decode cX10_readSum 69 = .ok (.iload_n 1, 1) := by decide +kernel
theorem dX10_readSum_70 : decode cX10_readSum 70 = .ok (.ireturn, 1) := by decide +kernel
/-! AlgebraHouseModel.readSum()I -/
def P_X10_readSum_23 (rec : Nat → List Int → MM → (Int → MM → Prop) → (MM → Prop) → Prop) (Q : Int → MM → Prop) (T : MM → Prop) (K5 : Int → MM → Prop) (x1 : Int) (m : MM) : Prop := P_X10_isSign 43 m (fun r1 m1 => ((RI r1)) ∧ P_X10_accept m1 (fun r2 m2 => rec 8 [] m2 (fun r3 m3 => P_X10_node (if r1 = 0 then 18 else 17 : Int) x1 r3 (-1) (m1 582 9) m3 (fun r4 m4 => K5 r4 m4)) T))
def P_X10_readSum_5 (rec : Nat → List Int → MM → (Int → MM → Prop) → (MM → Prop) → Prop) (Q : Int → MM → Prop) (T : MM → Prop) : Nat → Int → MM → Prop
  | 0, _, _ => False
  | n + 1, x1, m => P_X10_isSign 43 m (fun r1 m1 => (RI r1) ∧ (if r1 = 0 then P_X10_isSign 45 m1 (fun r2 m2 => (RI r2) ∧ (if r2 = 0 then Q x1 m2 else P_X10_readSum_23 rec Q T (fun z0 z1 => P_X10_readSum_5 rec Q T n z0 z1) x1 m2)) else P_X10_readSum_23 rec Q T (fun z0 z1 => P_X10_readSum_5 rec Q T n z0 z1) x1 m1))
def W_X10_readSum (rec : Nat → List Int → MM → (Int → MM → Prop) → (MM → Prop) → Prop) (m : MM) (Q : Int → MM → Prop) (T : MM → Prop) : Prop := rec 8 [] m (fun r1 m1 => ∃ nn, P_X10_readSum_5 rec Q T nn r1 m1) T
theorem dX10_readUnary_0 : decode cX10_readUnary 0 = .ok (.aload_n 0, 1) := by decide +kernel
theorem dX10_readUnary_1 : decode cX10_readUnary 1 = .ok (.getfield 324, 3) := by decide +kernel
theorem dX10_readUnary_4 : decode cX10_readUnary 4 = .ok (.istore_n 1, 1) := by decide +kernel
theorem dX10_readUnary_5 : decode cX10_readUnary 5 = .ok (.aload_n 0, 1) := by decide +kernel
theorem dX10_readUnary_6 : decode cX10_readUnary 6 = .ok (.bipush 45, 2) := by decide +kernel
theorem dX10_readUnary_8 : decode cX10_readUnary 8 = .ok (.invokevirtual 430, 3) := by decide +kernel
theorem dX10_readUnary_11 : decode cX10_readUnary 11 = .ok (.ifCond .ne 8, 3) := by decide +kernel
theorem dX10_readUnary_14 : decode cX10_readUnary 14 = .ok (.aload_n 0, 1) := by decide +kernel
theorem dX10_readUnary_15 : decode cX10_readUnary 15 = .ok (.invokevirtual 433, 3) := by decide +kernel
theorem dX10_readUnary_18 : decode cX10_readUnary 18 = .ok (.ireturn, 1) := by decide +kernel
theorem dX10_readUnary_19 : decode cX10_readUnary 19 = .ok (.aload_n 0, 1) := by decide +kernel
theorem dX10_readUnary_20 : decode cX10_readUnary 20 = .ok (.iload_n 1, 1) := by decide +kernel
theorem dX10_readUnary_21 : decode cX10_readUnary 21 = .ok (.invokevirtual 375, 3) := by decide +kernel
theorem dX10_readUnary_24 : decode cX10_readUnary 24 = .ok (.aload_n 0, 1) := by decide +kernel
theorem dX10_readUnary_25 : decode cX10_readUnary 25 = .ok (.invokevirtual 427, 3) := by decide +kernel
theorem dX10_readUnary_28 : decode cX10_readUnary 28 = .ok (.istore_n 2, 1) := by decide +kernel
theorem dX10_readUnary_29 : decode cX10_readUnary 29 = .ok (.aload_n 0, 1) := by decide +kernel
theorem dX10_readUnary_30 : decode cX10_readUnary 30 = .ok (.dup, 1) := by decide +kernel
theorem dX10_readUnary_31 : decode cX10_readUnary 31 = .ok (.getfield 369, 3) := by decide +kernel
theorem dX10_readUnary_34 : decode cX10_readUnary 34 = .ok (.iconst 1, 1) := by decide +kernel
theorem dX10_readUnary_35 : decode cX10_readUnary 35 = .ok (.isub, 1) := by decide +kernel
theorem dX10_readUnary_36 : decode cX10_readUnary 36 = .ok (.putfield 369, 3) := by decide +kernel
theorem dX10_readUnary_39 : decode cX10_readUnary 39 = .ok (.aload_n 0, 1) := by decide +kernel
theorem dX10_readUnary_40 : decode cX10_readUnary 40 = .ok (.bipush 10, 2) := by decide +kernel
theorem dX10_readUnary_42 : decode cX10_readUnary 42 = .ok (.iload_n 2, 1) := by decide +kernel
theorem dX10_readUnary_43 : decode cX10_readUnary 43 = .ok (.iconst (-1), 1) := by decide +kernel
theorem dX10_readUnary_44 : decode cX10_readUnary 44 = .ok (.iconst (-1), 1) := by decide +kernel
theorem dX10_readUnary_45 : decode cX10_readUnary 45 = .ok (.iload_n 1, 1) := by decide +kernel
theorem dX10_readUnary_46 : decode cX10_readUnary 46 = .ok (.invokevirtual 381, 3) := by decide +kernel
theorem dX10_readUnary_49 : decode cX10_readUnary 49 = .ok (.ireturn, 1) := by decide +kernel
/-! AlgebraHouseModel.readUnary()I -/
def W_X10_readUnary (rec : Nat → List Int → MM → (Int → MM → Prop) → (MM → Prop) → Prop) (m : MM) (Q : Int → MM → Prop) (T : MM → Prop) : Prop := P_X10_takesSign 45 m (fun r1 m1 => (RI r1) ∧ (if r1 = 0 then rec 2 [] m1 (fun r5 m6 => Q r5 m6) T else P_X10_opens (m 582 9) m1 (fun r2 m2 => rec 10 [] m2 (fun r3 m3 => ∀ m4 : MM, m4 = up m3 582 12 ((m3 582 12) - 1) → P_X10_node 10 r3 (-1) (-1) (m 582 9) m4 (fun r4 m5 => Q r4 m5)) T)))
def HR_X10_readE (rec : Nat → List Int → MM → (Int → MM → Prop) → (MM → Prop) → Prop) (fr : Nat) : Prop := (∀ (m : MM) (Q : Int → MM → Prop) (T : MM → Prop), rec 0 [] m Q T → CC fr M_X10_readAnd [vR 582] m Q T) ∧ (∀ (m : MM) (Q : Int → MM → Prop) (T : MM → Prop), rec 1 [] m Q T → CC fr M_X10_readAtom [vR 582] m Q T) ∧ (∀ (m : MM) (Q : Int → MM → Prop) (T : MM → Prop), rec 2 [] m Q T → CC fr M_X10_readBehind [vR 582] m Q T) ∧ (∀ (m : MM) (Q : Int → MM → Prop) (T : MM → Prop), rec 3 [] m Q T → CC fr M_X10_readCompare [vR 582] m Q T) ∧ (∀ (m : MM) (Q : Int → MM → Prop) (T : MM → Prop), rec 4 [] m Q T → CC fr M_X10_readE [vR 582] m Q T) ∧ (∀ (x1 : Int) (m : MM) (Q : Int → MM → Prop) (T : MM → Prop), rec 5 [x1] m Q T → CC fr M_X10_readItems [vR 582, vI x1] m Q T) ∧ (∀ (m : MM) (Q : Int → MM → Prop) (T : MM → Prop), rec 6 [] m Q T → CC fr M_X10_readNot [vR 582] m Q T) ∧ (∀ (m : MM) (Q : Int → MM → Prop) (T : MM → Prop), rec 7 [] m Q T → CC fr M_X10_readOr [vR 582] m Q T) ∧ (∀ (m : MM) (Q : Int → MM → Prop) (T : MM → Prop), rec 8 [] m Q T → CC fr M_X10_readProduct [vR 582] m Q T) ∧ (∀ (m : MM) (Q : Int → MM → Prop) (T : MM → Prop), rec 9 [] m Q T → CC fr M_X10_readSum [vR 582] m Q T) ∧ (∀ (m : MM) (Q : Int → MM → Prop) (T : MM → Prop), rec 10 [] m Q T → CC fr M_X10_readUnary [vR 582] m Q T) ∧ True
theorem pl_X10_readAnd_5 {f : Nat} {Q : Int → MM → Prop} {T : MM → Prop} {rec : Nat → List Int → MM → (Int → MM → Prop) → (MM → Prop) → Prop} {fr : Nat} (hrec : HR_X10_readE rec fr) (hf : 26 ≤ f ∧ fr + 1 ≤ f) : ∀ (n : Nat) (x1 : Int) (m : MM), P_X10_readAnd_5 rec Q T n x1 m → B f M_X10_readAnd 5 [vR 582, vI x1, vU, vU] [] m Q T := by
  intro n
  induction n with
  | zero => intro x1 m h; exact h.elim
  | succ n ih =>
    intro x1 m h
    have h : P_X10_isKey 6385252 m (fun r1 m1 => (RI r1) ∧ (if r1 = 0 then Q x1 m1 else P_X10_accept m1 (fun r2 m2 => rec 6 [] m2 (fun r3 m3 => P_X10_node 12 x1 r3 (-1) (m1 582 9) m3 (fun r4 m4 => P_X10_readAnd_5 rec Q T n r4 m4)) T))) := h
    refine b_aload_n dX10_readAnd_5 rfl ?_
    refine b_ldc2 (6385252) dX10_readAnd_6 q1620 (by decide) ?_
    refine b_cVi (as := [vL 6385252]) (st := []) dX10_readAnd_9 mf_X10_isKey qs108 lk_X10_365 ly_582 rfl (p_X10_isKey (f := 1) (Nat.le_refl _) _ _ h) (by omega) rfl rfl (Nat.le_of_ble_eq_true rfl) (by decide) rfl (fun _ => rfl) (fun r1 m1 h => ?_) (fun _ h => h)
    obtain ⟨g1, h⟩ := h
    refine b_if_eq 43 dX10_readAnd_12 g1 (by decide) (fun c1 => ?_) (fun c1 => ?_)
    · have h := ifT c1 h
      refine b_iload_n dX10_readAnd_43 rfl ?_
      exact b_iret dX10_readAnd_44 rfl h
    · have h := ifF c1 h
      refine b_aload_n dX10_readAnd_15 rfl ?_
      refine b_getI dX10_readAnd_16 fk_X10_324 ly_582 ?_
      refine b_istore_n (ls' := [vR 582, vI x1, vI (m1 582 9), vU]) dX10_readAnd_19 (Nat.le_of_ble_eq_true rfl) rfl ?_
      refine b_aload_n dX10_readAnd_20 rfl ?_
      refine b_cVv (as := []) (st := []) dX10_readAnd_21 mf_X10_accept qs100 lk_X10_362 ly_582 rfl (p_X10_accept (f := 2) (Nat.le_refl _) _ h) (by omega) rfl rfl (Nat.le_of_ble_eq_true rfl) (by decide) rfl (fun _ => rfl) (fun r2 m2 h => ?_) (fun _ h => h)
      refine b_aload_n dX10_readAnd_24 rfl ?_
      refine b_cVi (as := []) (st := []) dX10_readAnd_25 mf_X10_readNot qs116 lk_X10_415 ly_582 rfl (hrec.2.2.2.2.2.2.1 _ _ _ h) (by omega) rfl rfl (Nat.le_of_ble_eq_true rfl) (by decide) rfl (fun _ => rfl) (fun r3 m3 h => ?_) (fun _ h => h)
      refine b_istore_n (ls' := [vR 582, vI x1, vI (m1 582 9), vI r3]) dX10_readAnd_28 (Nat.le_of_ble_eq_true rfl) rfl ?_
      refine b_aload_n dX10_readAnd_29 rfl ?_
      refine b_bipush dX10_readAnd_30 (by decide) ?_
      refine b_iload_n dX10_readAnd_32 rfl ?_
      refine b_iload_n dX10_readAnd_33 rfl ?_
      refine b_iconst dX10_readAnd_34 ?_
      refine b_iload_n dX10_readAnd_35 rfl ?_
      refine b_cVi (as := [vI 12, vI x1, vI r3, vI (-1), vI (m1 582 9)]) (st := []) dX10_readAnd_36 mf_X10_node qs107 lk_X10_381 ly_582 rfl (p_X10_node (f := 1) (Nat.le_refl _) _ _ _ _ _ _ h) (by omega) rfl rfl (Nat.le_of_ble_eq_true rfl) (by decide) rfl (fun _ => rfl) (fun r4 m4 h => ?_) (fun _ h => h)
      refine b_istore_n (ls' := [vR 582, vI r4, vI (m1 582 9), vI r3]) dX10_readAnd_39 (Nat.le_of_ble_eq_true rfl) rfl ?_
      refine b_goto 5 dX10_readAnd_40 (by decide) ?_
      refine b_fgt [true, true, false, false] (ls' := [vR 582, vI r4, vU, vU]) rfl rfl ?_
      exact ih _ _ h
theorem w_X10_readAnd {f : Nat} {Q : Int → MM → Prop} {T : MM → Prop} {rec : Nat → List Int → MM → (Int → MM → Prop) → (MM → Prop) → Prop} {fr : Nat} (hrec : HR_X10_readE rec fr) (hf : 26 ≤ f ∧ fr + 1 ≤ f) (m : MM) (h : W_X10_readAnd rec m Q T) : CC f M_X10_readAnd [vR 582] m Q T := by
  refine CC.of (plainFor_of_name (by decide)) (Nat.le_of_ble_eq_true rfl) (ls := [vR 582, vU, vU, vU]) rfl ?_
  have h : rec 6 [] m (fun r1 m1 => ∃ nn, P_X10_readAnd_5 rec Q T nn r1 m1) T := h
  refine b_aload_n dX10_readAnd_0 rfl ?_
  refine b_cVi (as := []) (st := []) dX10_readAnd_1 mf_X10_readNot qs116 lk_X10_415 ly_582 rfl (hrec.2.2.2.2.2.2.1 _ _ _ h) (by omega) rfl rfl (Nat.le_of_ble_eq_true rfl) (by decide) rfl (fun _ => rfl) (fun r1 m1 h => ?_) (fun _ h => h)
  refine b_istore_n (ls' := [vR 582, vI r1, vU, vU]) dX10_readAnd_4 (Nat.le_of_ble_eq_true rfl) rfl ?_
  obtain ⟨nn, h⟩ := h
  exact pl_X10_readAnd_5 hrec hf nn _ _ h
theorem pl_X10_readAtom_163 {f : Nat} {Q : Int → MM → Prop} {T : MM → Prop} {rec : Nat → List Int → MM → (Int → MM → Prop) → (MM → Prop) → Prop} {fr : Nat} (hrec : HR_X10_readE rec fr) (hf : 26 ≤ f ∧ fr + 1 ≤ f) : ∀ (x1 : Int) (x2 : Int) (m : MM), P_X10_readAtom_163 rec Q T x1 x2 m → B f M_X10_readAtom 163 [vR 582, vI x1, vI x2, vU, vU, vU, vU, vU, vU] [] m Q T := by
  intro x1 x2 m h
  have h : P_X10_openWith 40 m (fun r1 m1 => rec 5 [26] m1 (fun r2 m2 => P_X10_closeWith 41 m2 (fun r3 m3 => ((RI x2)) ∧ P_X10_node (if x2 = 1 then 5 else 6 : Int) r2 (-1) (-1) x1 m3 (fun r4 m4 => Q r4 m4))) T) := h
  refine b_aload_n dX10_readAtom_163 rfl ?_
  refine b_bipush dX10_readAtom_164 (by decide) ?_
  refine b_cVv (as := [vI 40]) (st := []) dX10_readAtom_166 mf_X10_openWith qs102 lk_X10_385 ly_582 rfl (p_X10_openWith (f := 4) (Nat.le_refl _) _ _ h) (by omega) rfl rfl (Nat.le_of_ble_eq_true rfl) (by decide) rfl (fun _ => rfl) (fun r1 m1 h => ?_) (fun _ h => h)
  refine b_aload_n dX10_readAtom_169 rfl ?_
  refine b_bipush dX10_readAtom_170 (by decide) ?_
  refine b_cVi (as := [vI 26]) (st := []) dX10_readAtom_172 mf_X10_readItems qs123 lk_X10_439 ly_582 rfl (hrec.2.2.2.2.2.1 _ _ _ _ h) (by omega) rfl rfl (Nat.le_of_ble_eq_true rfl) (by decide) rfl (fun _ => rfl) (fun r2 m2 h => ?_) (fun _ h => h)
  refine b_istore_n (ls' := [vR 582, vI x1, vI x2, vI r2, vU, vU, vU, vU, vU]) dX10_readAtom_175 (Nat.le_of_ble_eq_true rfl) rfl ?_
  refine b_aload_n dX10_readAtom_176 rfl ?_
  refine b_bipush dX10_readAtom_177 (by decide) ?_
  refine b_cVv (as := [vI 41]) (st := []) dX10_readAtom_179 mf_X10_closeWith qs109 lk_X10_396 ly_582 rfl (p_X10_closeWith (f := 4) (Nat.le_refl _) _ _ h) (by omega) rfl rfl (Nat.le_of_ble_eq_true rfl) (by decide) rfl (fun _ => rfl) (fun r3 m3 h => ?_) (fun _ h => h)
  refine b_aload_n dX10_readAtom_182 rfl ?_
  refine b_iload_n dX10_readAtom_183 rfl ?_
  refine b_iconst dX10_readAtom_184 ?_
  obtain ⟨hs, h⟩ := h
  have K : B f M_X10_readAtom 194 [vR 582, vI x1, vI x2, vI r2, vU, vU, vU, vU, vU] [vI (if x2 = 1 then 5 else 6 : Int), vR 582] m3 Q T := by
    clear hs
    refine b_iload_n dX10_readAtom_194 rfl ?_
    refine b_iconst dX10_readAtom_195 ?_
    refine b_iconst dX10_readAtom_196 ?_
    refine b_iload_n dX10_readAtom_197 rfl ?_
    refine b_cVi (as := [vI (if x2 = 1 then 5 else 6 : Int), vI r2, vI (-1), vI (-1), vI x1]) (st := []) dX10_readAtom_198 mf_X10_node qs107 lk_X10_381 ly_582 rfl (p_X10_node (f := 1) (Nat.le_refl _) _ _ _ _ _ _ h) (by omega) rfl rfl (Nat.le_of_ble_eq_true rfl) (by decide) rfl (fun _ => rfl) (fun r4 m4 h => ?_) (fun _ h => h)
    exact b_iret dX10_readAtom_201 rfl h
  have g1 := hs
  refine b_icmp_ne 192 dX10_readAtom_185 g1 (by decide) (by decide) (fun c1 => ?_) (fun c1 => ?_)
  ·
    refine b_bipush dX10_readAtom_192 (by decide) ?_
    exact Eq.mp (congrArg (fun z => B f M_X10_readAtom 194 [vR 582, vI x1, vI x2, vI r2, vU, vU, vU, vU, vU] (vI z :: [vR 582]) m3 Q T) (show (if x2 = 1 then 5 else 6 : Int) = 6 by rw [if_neg c1])) K
  ·
    have c1 := Decidable.of_not_not c1
    refine b_iconst dX10_readAtom_188 ?_
    refine b_goto 194 dX10_readAtom_189 (by decide) ?_
    exact Eq.mp (congrArg (fun z => B f M_X10_readAtom 194 [vR 582, vI x1, vI x2, vI r2, vU, vU, vU, vU, vU] (vI z :: [vR 582]) m3 Q T) (show (if x2 = 1 then 5 else 6 : Int) = 5 by rw [if_pos c1])) K
theorem pl_X10_readAtom_135 {f : Nat} {Q : Int → MM → Prop} {T : MM → Prop} {rec : Nat → List Int → MM → (Int → MM → Prop) → (MM → Prop) → Prop} {fr : Nat} (hrec : HR_X10_readE rec fr) (hf : 26 ≤ f ∧ fr + 1 ≤ f) : ∀ (x1 : Int) (x2 : Int) (m : MM), P_X10_readAtom_135 rec Q T x1 x2 m → B f M_X10_readAtom 135 [vR 582, vI x1, vI x2, vU, vU, vU, vU, vU, vU] [] m Q T := by
  intro x1 x2 m h
  have h : P_X10_accept m (fun r1 m1 => (RI x2) ∧ (if x2 = 1 then P_X10_isSign 40 m1 (fun r2 m2 => (RI r2) ∧ (if r2 = 0 then P_X10_node 4 (-1) (-1) (-1) x1 m2 (fun r3 m3 => Q r3 m3) else P_X10_readAtom_163 rec Q T x1 x2 m2)) else P_X10_readAtom_163 rec Q T x1 x2 m1)) := h
  refine b_aload_n dX10_readAtom_135 rfl ?_
  refine b_cVv (as := []) (st := []) dX10_readAtom_136 mf_X10_accept qs100 lk_X10_362 ly_582 rfl (p_X10_accept (f := 2) (Nat.le_refl _) _ h) (by omega) rfl rfl (Nat.le_of_ble_eq_true rfl) (by decide) rfl (fun _ => rfl) (fun r1 m1 h => ?_) (fun _ h => h)
  refine b_iload_n dX10_readAtom_139 rfl ?_
  refine b_iconst dX10_readAtom_140 ?_
  obtain ⟨g1, h⟩ := h
  refine b_icmp_ne 163 dX10_readAtom_141 g1 (by decide) (by decide) (fun c1 => ?_) (fun c1 => ?_)
  · have h := ifF c1 h
    exact pl_X10_readAtom_163 hrec hf _ _ _ h
  · have h := ifT (Decidable.of_not_not c1) h
    refine b_aload_n dX10_readAtom_144 rfl ?_
    refine b_bipush dX10_readAtom_145 (by decide) ?_
    refine b_cVi (as := [vI 40]) (st := []) dX10_readAtom_147 mf_X10_isSign qs104 lk_X10_359 ly_582 rfl (p_X10_isSign (f := 1) (Nat.le_refl _) _ _ h) (by omega) rfl rfl (Nat.le_of_ble_eq_true rfl) (by decide) rfl (fun _ => rfl) (fun r2 m2 h => ?_) (fun _ h => h)
    obtain ⟨g2, h⟩ := h
    refine b_if_ne 163 dX10_readAtom_150 g2 (by decide) (fun c2 => ?_) (fun c2 => ?_)
    · have h := ifF c2 h
      exact pl_X10_readAtom_163 hrec hf _ _ _ h
    · have h := ifT (Decidable.of_not_not c2) h
      refine b_aload_n dX10_readAtom_153 rfl ?_
      refine b_iconst dX10_readAtom_154 ?_
      refine b_iconst dX10_readAtom_155 ?_
      refine b_iconst dX10_readAtom_156 ?_
      refine b_iconst dX10_readAtom_157 ?_
      refine b_iload_n dX10_readAtom_158 rfl ?_
      refine b_cVi (as := [vI 4, vI (-1), vI (-1), vI (-1), vI x1]) (st := []) dX10_readAtom_159 mf_X10_node qs107 lk_X10_381 ly_582 rfl (p_X10_node (f := 1) (Nat.le_refl _) _ _ _ _ _ _ h) (by omega) rfl rfl (Nat.le_of_ble_eq_true rfl) (by decide) rfl (fun _ => rfl) (fun r3 m3 h => ?_) (fun _ h => h)
      exact b_iret dX10_readAtom_162 rfl h
theorem pl_X10_readAtom_335 {f : Nat} {Q : Int → MM → Prop} {T : MM → Prop} {rec : Nat → List Int → MM → (Int → MM → Prop) → (MM → Prop) → Prop} {fr : Nat} (hrec : HR_X10_readE rec fr) (hf : 26 ≤ f ∧ fr + 1 ≤ f) {K271 : Int → Int → Int → Int → MM → Prop} (hK271 : ∀ (x1 : Int) (x3 : Int) (x4 : Int) (x5 : Int) (m : MM), K271 x1 x3 x4 x5 m → B f M_X10_readAtom 271 [vR 582, vI x1, vU, vI x3, vI x4, vI x5, vU, vU, vU] [] m Q T) : ∀ (x1 : Int) (x3 : Int) (x8 : Int) (m : MM), P_X10_readAtom_335 rec Q T K271 x1 x3 x8 m → B f M_X10_readAtom 335 [vR 582, vI x1, vU, vI x3, vU, vU, vU, vU, vI x8] [] m Q T := by
  intro x1 x3 x8 m h
  have h : P_X10_takesSign 44 m (fun r1 m1 => K271 x1 x3 x8 r1 m1) := h
  refine b_iload dX10_readAtom_335 rfl ?_
  refine b_istore (ls' := [vR 582, vI x1, vU, vI x3, vI x8, vU, vU, vU, vI x8]) dX10_readAtom_337 (Nat.le_of_ble_eq_true rfl) rfl ?_
  refine b_aload_n dX10_readAtom_339 rfl ?_
  refine b_bipush dX10_readAtom_340 (by decide) ?_
  refine b_cVi (as := [vI 44]) (st := []) dX10_readAtom_342 mf_X10_takesSign qs110 lk_X10_430 ly_582 rfl (p_X10_takesSign (f := 3) (Nat.le_refl _) _ _ h) (by omega) rfl rfl (Nat.le_of_ble_eq_true rfl) (by decide) rfl (fun _ => rfl) (fun r1 m1 h => ?_) (fun _ h => h)
  refine b_istore (ls' := [vR 582, vI x1, vU, vI x3, vI x8, vI r1, vU, vU, vI x8]) dX10_readAtom_345 (Nat.le_of_ble_eq_true rfl) rfl ?_
  refine b_goto 271 dX10_readAtom_347 (by decide) ?_
  refine b_fgt [true, true, false, true, true, true, false, false, false] (ls' := [vR 582, vI x1, vU, vI x3, vI x8, vI r1, vU, vU, vU]) rfl rfl ?_
  exact hK271 _ _ _ _ _ h
theorem pl_X10_readAtom_350 {f : Nat} {Q : Int → MM → Prop} {T : MM → Prop} {rec : Nat → List Int → MM → (Int → MM → Prop) → (MM → Prop) → Prop} {fr : Nat} (hrec : HR_X10_readE rec fr) (hf : 26 ≤ f ∧ fr + 1 ≤ f) : ∀ (x1 : Int) (x3 : Int) (m : MM), P_X10_readAtom_350 rec Q T x1 x3 m → B f M_X10_readAtom 350 [vR 582, vI x1, vU, vI x3, vU, vU, vU, vU, vU] [] m Q T := by
  intro x1 x3 m h
  have h : P_X10_closeWith 93 m (fun r1 m1 => P_X10_node 7 x3 (-1) (-1) x1 m1 (fun r2 m2 => Q r2 m2)) := h
  refine b_aload_n dX10_readAtom_350 rfl ?_
  refine b_bipush dX10_readAtom_351 (by decide) ?_
  refine b_cVv (as := [vI 93]) (st := []) dX10_readAtom_353 mf_X10_closeWith qs109 lk_X10_396 ly_582 rfl (p_X10_closeWith (f := 4) (Nat.le_refl _) _ _ h) (by omega) rfl rfl (Nat.le_of_ble_eq_true rfl) (by decide) rfl (fun _ => rfl) (fun r1 m1 h => ?_) (fun _ h => h)
  refine b_aload_n dX10_readAtom_356 rfl ?_
  refine b_bipush dX10_readAtom_357 (by decide) ?_
  refine b_iload_n dX10_readAtom_359 rfl ?_
  refine b_iconst dX10_readAtom_360 ?_
  refine b_iconst dX10_readAtom_361 ?_
  refine b_iload_n dX10_readAtom_362 rfl ?_
  refine b_cVi (as := [vI 7, vI x3, vI (-1), vI (-1), vI x1]) (st := []) dX10_readAtom_363 mf_X10_node qs107 lk_X10_381 ly_582 rfl (p_X10_node (f := 1) (Nat.le_refl _) _ _ _ _ _ _ h) (by omega) rfl rfl (Nat.le_of_ble_eq_true rfl) (by decide) rfl (fun _ => rfl) (fun r2 m2 h => ?_) (fun _ h => h)
  exact b_iret dX10_readAtom_366 rfl h
theorem pl_X10_readAtom_271 {f : Nat} {Q : Int → MM → Prop} {T : MM → Prop} {rec : Nat → List Int → MM → (Int → MM → Prop) → (MM → Prop) → Prop} {fr : Nat} (hrec : HR_X10_readE rec fr) (hf : 26 ≤ f ∧ fr + 1 ≤ f) : ∀ (n : Nat) (x1 : Int) (x3 : Int) (x4 : Int) (x5 : Int) (m : MM), P_X10_readAtom_271 rec Q T n x1 x3 x4 x5 m → B f M_X10_readAtom 271 [vR 582, vI x1, vU, vI x3, vI x4, vI x5, vU, vU, vU] [] m Q T := by
  intro n
  induction n with
  | zero => intro x1 x3 x4 x5 m h; exact h.elim
  | succ n ih =>
    intro x1 x3 x4 x5 m h
    have h : (RI x5) ∧ (if x5 = 0 then P_X10_readAtom_350 rec Q T x1 x3 m else P_X10_openWith 91 m (fun r1 m1 => rec 5 [26] m1 (fun r2 m2 => P_X10_closeWith 93 m2 (fun r3 m3 => P_X10_node 27 r2 (-1) (-1) (m 582 9) m3 (fun r4 m4 => (RI x3) ∧ (if 0 ≤ x3 then (0 ≤ x4 ∧ x4 < 12000) ∧ ∀ m5 : MM, m5 = up m4 594 x4 r4 → P_X10_readAtom_335 rec Q T (fun z0 z1 z2 z3 z4 => P_X10_readAtom_271 rec Q T n z0 z1 z2 z3 z4) x1 x3 r4 m5 else P_X10_readAtom_335 rec Q T (fun z0 z1 z2 z3 z4 => P_X10_readAtom_271 rec Q T n z0 z1 z2 z3 z4) x1 r4 r4 m4)))) T)) := h
    refine b_iload dX10_readAtom_271 rfl ?_
    obtain ⟨g1, h⟩ := h
    refine b_if_eq 350 dX10_readAtom_273 g1 (by decide) (fun c1 => ?_) (fun c1 => ?_)
    · have h := ifT c1 h
      refine b_fgt [true, true, false, true, false, false, false, false, false] (ls' := [vR 582, vI x1, vU, vI x3, vU, vU, vU, vU, vU]) rfl rfl ?_
      exact pl_X10_readAtom_350 hrec hf _ _ _ h
    · have h := ifF c1 h
      refine b_aload_n dX10_readAtom_276 rfl ?_
      refine b_getI dX10_readAtom_277 fk_X10_324 ly_582 ?_
      refine b_istore (ls' := [vR 582, vI x1, vU, vI x3, vI x4, vI x5, vI (m 582 9), vU, vU]) dX10_readAtom_280 (Nat.le_of_ble_eq_true rfl) rfl ?_
      refine b_aload_n dX10_readAtom_282 rfl ?_
      refine b_bipush dX10_readAtom_283 (by decide) ?_
      refine b_cVv (as := [vI 91]) (st := []) dX10_readAtom_285 mf_X10_openWith qs102 lk_X10_385 ly_582 rfl (p_X10_openWith (f := 4) (Nat.le_refl _) _ _ h) (by omega) rfl rfl (Nat.le_of_ble_eq_true rfl) (by decide) rfl (fun _ => rfl) (fun r1 m1 h => ?_) (fun _ h => h)
      refine b_aload_n dX10_readAtom_288 rfl ?_
      refine b_bipush dX10_readAtom_289 (by decide) ?_
      refine b_cVi (as := [vI 26]) (st := []) dX10_readAtom_291 mf_X10_readItems qs123 lk_X10_439 ly_582 rfl (hrec.2.2.2.2.2.1 _ _ _ _ h) (by omega) rfl rfl (Nat.le_of_ble_eq_true rfl) (by decide) rfl (fun _ => rfl) (fun r2 m2 h => ?_) (fun _ h => h)
      refine b_istore (ls' := [vR 582, vI x1, vU, vI x3, vI x4, vI x5, vI (m 582 9), vI r2, vU]) dX10_readAtom_294 (Nat.le_of_ble_eq_true rfl) rfl ?_
      refine b_aload_n dX10_readAtom_296 rfl ?_
      refine b_bipush dX10_readAtom_297 (by decide) ?_
      refine b_cVv (as := [vI 93]) (st := []) dX10_readAtom_299 mf_X10_closeWith qs109 lk_X10_396 ly_582 rfl (p_X10_closeWith (f := 4) (Nat.le_refl _) _ _ h) (by omega) rfl rfl (Nat.le_of_ble_eq_true rfl) (by decide) rfl (fun _ => rfl) (fun r3 m3 h => ?_) (fun _ h => h)
      refine b_aload_n dX10_readAtom_302 rfl ?_
      refine b_bipush dX10_readAtom_303 (by decide) ?_
      refine b_iload dX10_readAtom_305 rfl ?_
      refine b_iconst dX10_readAtom_307 ?_
      refine b_iconst dX10_readAtom_308 ?_
      refine b_iload dX10_readAtom_309 rfl ?_
      refine b_cVi (as := [vI 27, vI r2, vI (-1), vI (-1), vI (m 582 9)]) (st := []) dX10_readAtom_311 mf_X10_node qs107 lk_X10_381 ly_582 rfl (p_X10_node (f := 1) (Nat.le_refl _) _ _ _ _ _ _ h) (by omega) rfl rfl (Nat.le_of_ble_eq_true rfl) (by decide) rfl (fun _ => rfl) (fun r4 m4 h => ?_) (fun _ h => h)
      refine b_istore (ls' := [vR 582, vI x1, vU, vI x3, vI x4, vI x5, vI (m 582 9), vI r2, vI r4]) dX10_readAtom_314 (Nat.le_of_ble_eq_true rfl) rfl ?_
      refine b_iload_n dX10_readAtom_316 rfl ?_
      obtain ⟨g2, h⟩ := h
      refine b_if_ge 326 dX10_readAtom_317 g2 (by decide) (fun c2 => ?_) (fun c2 => ?_)
      · have h := ifT c2 h
        refine b_aload_n dX10_readAtom_326 rfl ?_
        refine b_getR dX10_readAtom_327 fk_X10_118 ly_582 gg_582_20 ?_
        refine b_iload dX10_readAtom_330 rfl ?_
        refine b_iload dX10_readAtom_332 rfl ?_
        obtain ⟨g3, h⟩ := h
        refine b_iast dX10_readAtom_334 ly_594 g3 (fun m5 em5 => ?_)
        have h := h m5 em5
        refine b_fgt [true, true, false, true, false, false, false, false, true] (ls' := [vR 582, vI x1, vU, vI x3, vU, vU, vU, vU, vI r4]) rfl rfl ?_
        exact pl_X10_readAtom_335 hrec hf (fun _ _ _ _ _ h => ih _ _ _ _ _ h) _ _ _ _ h
      · have h := ifF c2 h
        refine b_iload dX10_readAtom_320 rfl ?_
        refine b_istore_n (ls' := [vR 582, vI x1, vU, vI r4, vI x4, vI x5, vI (m 582 9), vI r2, vI r4]) dX10_readAtom_322 (Nat.le_of_ble_eq_true rfl) rfl ?_
        refine b_goto 335 dX10_readAtom_323 (by decide) ?_
        refine b_fgt [true, true, false, true, false, false, false, false, true] (ls' := [vR 582, vI x1, vU, vI r4, vU, vU, vU, vU, vI r4]) rfl rfl ?_
        exact pl_X10_readAtom_335 hrec hf (fun _ _ _ _ _ h => ih _ _ _ _ _ h) _ _ _ _ h
theorem w_X10_readAtom {f : Nat} {Q : Int → MM → Prop} {T : MM → Prop} {rec : Nat → List Int → MM → (Int → MM → Prop) → (MM → Prop) → Prop} {fr : Nat} (hrec : HR_X10_readE rec fr) (hf : 26 ≤ f ∧ fr + 1 ≤ f) (m : MM) (h : W_X10_readAtom rec m Q T) : CC f M_X10_readAtom [vR 582] m Q T := by
  refine CC.of (plainFor_of_name (by decide)) (Nat.le_of_ble_eq_true rfl) (ls := [vR 582, vU, vU, vU, vU, vU, vU, vU, vU]) rfl ?_
  have h : (RI (m 582 10)) ∧ (if (m 582 10) ≤ 0 then (0 ≤ (m 582 9) ∧ (m 582 9) < 420) ∧ (RI (m 587 (m 582 9))) ∧ (if (m 587 (m 582 9)) = 4 then P_X10_accept m (fun r15 m16 => P_X10_node 0 (-1) (-1) (-1) (m 582 9) m16 (fun r16 m17 => Q r16 m17)) else P_X10_takesKey 88 m (fun r1 m1 => (RI r1) ∧ (if r1 = 0 then P_X10_takesKey 89 m1 (fun r2 m2 => (RI r2) ∧ (if r2 = 0 then P_X10_takesSign 37 m2 (fun r3 m3 => (RI r3) ∧ (if r3 = 0 then (if (m 587 (m 582 9)) = 1 then P_X10_readAtom_135 rec Q T (m 582 9) (m 587 (m 582 9)) m3 else (if (m 587 (m 582 9)) = 3 then P_X10_readAtom_135 rec Q T (m 582 9) (m 587 (m 582 9)) m3 else P_X10_isSign 40 m3 (fun r4 m4 => (RI r4) ∧ (if r4 = 0 then P_X10_isSign 91 m4 (fun r5 m5 => (RI r5) ∧ (if r5 = 0 then P_X10_fail 1 m5 (fun r7 m7 => Q 0 m7) else P_X10_openWith 91 m5 (fun r6 m6 => (RI (m6 582 10)) ∧ (if (m6 582 10) = 0 then ∃ nn, P_X10_readAtom_271 rec Q T nn (m 582 9) (-1) (-1) 1 m6 else ∃ nn, P_X10_readAtom_271 rec Q T nn (m 582 9) (-1) (-1) 0 m6)))) else P_X10_openWith 40 m4 (fun r8 m8 => rec 4 [] m8 (fun r9 m9 => P_X10_closeWith 41 m9 (fun r10 m10 => Q r9 m10)) T))))) else P_X10_need 4 m3 (fun r11 m11 => P_X10_node 3 (-1) (-1) (-1) (m 582 9) m11 (fun r12 m12 => (0 ≤ r11 ∧ r11 < 420) ∧ (0 ≤ r12 ∧ r12 < 12000) ∧ ∀ m13 : MM, m13 = up m12 605 r12 (m12 589 r11) → Q r12 m13)))) else P_X10_node 2 (-1) (-1) (-1) (m 582 9) m2 (fun r13 m14 => Q r13 m14))) else P_X10_node 1 (-1) (-1) (-1) (m 582 9) m1 (fun r14 m15 => Q r14 m15)))) else Q 0 m) := h
  refine b_aload_n dX10_readAtom_0 rfl ?_
  refine b_getI dX10_readAtom_1 fk_X10_324 ly_582 ?_
  refine b_istore_n (ls' := [vR 582, vI (m 582 9), vU, vU, vU, vU, vU, vU, vU]) dX10_readAtom_4 (Nat.le_of_ble_eq_true rfl) rfl ?_
  refine b_aload_n dX10_readAtom_5 rfl ?_
  refine b_getI dX10_readAtom_6 fk_X10_347 ly_582 ?_
  obtain ⟨g1, h⟩ := h
  refine b_if_le 14 dX10_readAtom_9 g1 (by decide) (fun c1 => ?_) (fun c1 => ?_)
  · have h := ifT c1 h
    refine b_aload_n dX10_readAtom_14 rfl ?_
    refine b_getR dX10_readAtom_15 fk_X10_93 ly_582 gg_582_5 ?_
    refine b_aload_n dX10_readAtom_18 rfl ?_
    refine b_getI dX10_readAtom_19 fk_X10_324 ly_582 ?_
    obtain ⟨g2, h⟩ := h
    refine b_iald dX10_readAtom_22 ly_587 g2 ?_
    refine b_istore_n (ls' := [vR 582, vI (m 582 9), vI (m 587 (m 582 9)), vU, vU, vU, vU, vU, vU]) dX10_readAtom_23 (Nat.le_of_ble_eq_true rfl) rfl ?_
    refine b_iload_n dX10_readAtom_24 rfl ?_
    refine b_iconst dX10_readAtom_25 ?_
    obtain ⟨g3, h⟩ := h
    refine b_icmp_ne 43 dX10_readAtom_26 g3 (by decide) (by decide) (fun c2 => ?_) (fun c2 => ?_)
    · have h := ifF c2 h
      refine b_aload_n dX10_readAtom_43 rfl ?_
      refine b_ldc2 (88) dX10_readAtom_44 q1629 (by decide) ?_
      refine b_cVi (as := [vL 88]) (st := []) dX10_readAtom_47 mf_X10_takesKey qs111 lk_X10_399 ly_582 rfl (p_X10_takesKey (f := 3) (Nat.le_refl _) _ _ h) (by omega) rfl rfl (Nat.le_of_ble_eq_true rfl) (by decide) rfl (fun _ => rfl) (fun r1 m1 h => ?_) (fun _ h => h)
      obtain ⟨g4, h⟩ := h
      refine b_if_eq 63 dX10_readAtom_50 g4 (by decide) (fun c3 => ?_) (fun c3 => ?_)
      · have h := ifT c3 h
        refine b_aload_n dX10_readAtom_63 rfl ?_
        refine b_ldc2 (89) dX10_readAtom_64 q1630 (by decide) ?_
        refine b_cVi (as := [vL 89]) (st := []) dX10_readAtom_67 mf_X10_takesKey qs111 lk_X10_399 ly_582 rfl (p_X10_takesKey (f := 3) (Nat.le_refl _) _ _ h) (by omega) rfl rfl (Nat.le_of_ble_eq_true rfl) (by decide) rfl (fun _ => rfl) (fun r2 m2 h => ?_) (fun _ h => h)
        obtain ⟨g5, h⟩ := h
        refine b_if_eq 83 dX10_readAtom_70 g5 (by decide) (fun c4 => ?_) (fun c4 => ?_)
        · have h := ifT c4 h
          refine b_aload_n dX10_readAtom_83 rfl ?_
          refine b_bipush dX10_readAtom_84 (by decide) ?_
          refine b_cVi (as := [vI 37]) (st := []) dX10_readAtom_86 mf_X10_takesSign qs110 lk_X10_430 ly_582 rfl (p_X10_takesSign (f := 3) (Nat.le_refl _) _ _ h) (by omega) rfl rfl (Nat.le_of_ble_eq_true rfl) (by decide) rfl (fun _ => rfl) (fun r3 m3 h => ?_) (fun _ h => h)
          obtain ⟨g6, h⟩ := h
          refine b_if_eq 125 dX10_readAtom_89 g6 (by decide) (fun c5 => ?_) (fun c5 => ?_)
          · have h := ifT c5 h
            refine b_iload_n dX10_readAtom_125 rfl ?_
            refine b_iconst dX10_readAtom_126 ?_
            refine b_icmp_eq 135 dX10_readAtom_127 g3 (by decide) (by decide) (fun c6 => ?_) (fun c6 => ?_)
            · have h := ifT c6 h
              exact pl_X10_readAtom_135 hrec hf _ _ _ h
            · have h := ifF c6 h
              refine b_iload_n dX10_readAtom_130 rfl ?_
              refine b_iconst dX10_readAtom_131 ?_
              refine b_icmp_ne 202 dX10_readAtom_132 g3 (by decide) (by decide) (fun c7 => ?_) (fun c7 => ?_)
              · have h := ifF c7 h
                refine b_aload_n dX10_readAtom_202 rfl ?_
                refine b_bipush dX10_readAtom_203 (by decide) ?_
                refine b_cVi (as := [vI 40]) (st := []) dX10_readAtom_205 mf_X10_isSign qs104 lk_X10_359 ly_582 rfl (p_X10_isSign (f := 1) (Nat.le_refl _) _ _ h) (by omega) rfl rfl (Nat.le_of_ble_eq_true rfl) (by decide) rfl (fun _ => rfl) (fun r4 m4 h => ?_) (fun _ h => h)
                obtain ⟨g7, h⟩ := h
                refine b_if_eq 230 dX10_readAtom_208 g7 (by decide) (fun c8 => ?_) (fun c8 => ?_)
                · have h := ifT c8 h
                  refine b_aload_n dX10_readAtom_230 rfl ?_
                  refine b_bipush dX10_readAtom_231 (by decide) ?_
                  refine b_cVi (as := [vI 91]) (st := []) dX10_readAtom_233 mf_X10_isSign qs104 lk_X10_359 ly_582 rfl (p_X10_isSign (f := 1) (Nat.le_refl _) _ _ h) (by omega) rfl rfl (Nat.le_of_ble_eq_true rfl) (by decide) rfl (fun _ => rfl) (fun r5 m5 h => ?_) (fun _ h => h)
                  obtain ⟨g8, h⟩ := h
                  refine b_if_ne 246 dX10_readAtom_236 g8 (by decide) (fun c9 => ?_) (fun c9 => ?_)
                  · have h := ifF c9 h
                    refine b_aload_n dX10_readAtom_246 rfl ?_
                    refine b_bipush dX10_readAtom_247 (by decide) ?_
                    refine b_cVv (as := [vI 91]) (st := []) dX10_readAtom_249 mf_X10_openWith qs102 lk_X10_385 ly_582 rfl (p_X10_openWith (f := 4) (Nat.le_refl _) _ _ h) (by omega) rfl rfl (Nat.le_of_ble_eq_true rfl) (by decide) rfl (fun _ => rfl) (fun r6 m6 h => ?_) (fun _ h => h)
                    refine b_iconst dX10_readAtom_252 ?_
                    refine b_istore_n (ls' := [vR 582, vI (m 582 9), vI (m 587 (m 582 9)), vI (-1), vU, vU, vU, vU, vU]) dX10_readAtom_253 (Nat.le_of_ble_eq_true rfl) rfl ?_
                    refine b_iconst dX10_readAtom_254 ?_
                    refine b_istore (ls' := [vR 582, vI (m 582 9), vI (m 587 (m 582 9)), vI (-1), vI (-1), vU, vU, vU, vU]) dX10_readAtom_255 (Nat.le_of_ble_eq_true rfl) rfl ?_
                    refine b_aload_n dX10_readAtom_257 rfl ?_
                    refine b_getI dX10_readAtom_258 fk_X10_347 ly_582 ?_
                    obtain ⟨g9, h⟩ := h
                    refine b_if_ne 268 dX10_readAtom_261 g9 (by decide) (fun c10 => ?_) (fun c10 => ?_)
                    · have h := ifF c10 h
                      refine b_iconst dX10_readAtom_268 ?_
                      refine b_istore (ls' := [vR 582, vI (m 582 9), vI (m 587 (m 582 9)), vI (-1), vI (-1), vI 0, vU, vU, vU]) dX10_readAtom_269 (Nat.le_of_ble_eq_true rfl) rfl ?_
                      refine b_fgt [true, true, false, true, true, true, false, false, false] (ls' := [vR 582, vI (m 582 9), vU, vI (-1), vI (-1), vI 0, vU, vU, vU]) rfl rfl ?_
                      obtain ⟨nn, h⟩ := h
                      exact pl_X10_readAtom_271 hrec hf nn _ _ _ _ _ h
                    · have h := ifT (Decidable.of_not_not c10) h
                      refine b_iconst dX10_readAtom_264 ?_
                      refine b_goto 269 dX10_readAtom_265 (by decide) ?_
                      refine b_istore (ls' := [vR 582, vI (m 582 9), vI (m 587 (m 582 9)), vI (-1), vI (-1), vI 1, vU, vU, vU]) dX10_readAtom_269 (Nat.le_of_ble_eq_true rfl) rfl ?_
                      refine b_fgt [true, true, false, true, true, true, false, false, false] (ls' := [vR 582, vI (m 582 9), vU, vI (-1), vI (-1), vI 1, vU, vU, vU]) rfl rfl ?_
                      obtain ⟨nn, h⟩ := h
                      exact pl_X10_readAtom_271 hrec hf nn _ _ _ _ _ h
                  · have h := ifT (Decidable.of_not_not c9) h
                    refine b_aload_n dX10_readAtom_239 rfl ?_
                    refine b_iconst dX10_readAtom_240 ?_
                    refine b_cVv (as := [vI 1]) (st := []) dX10_readAtom_241 mf_X10_fail qs101 lk_X10_356 ly_582 rfl (p_X10_fail (f := 1) (Nat.le_refl _) _ _ h) (by omega) rfl rfl (Nat.le_of_ble_eq_true rfl) (by decide) rfl (fun _ => rfl) (fun r7 m7 h => ?_) (fun _ h => h)
                    refine b_iconst dX10_readAtom_244 ?_
                    exact b_iret dX10_readAtom_245 rfl h
                · have h := ifF c8 h
                  refine b_aload_n dX10_readAtom_211 rfl ?_
                  refine b_bipush dX10_readAtom_212 (by decide) ?_
                  refine b_cVv (as := [vI 40]) (st := []) dX10_readAtom_214 mf_X10_openWith qs102 lk_X10_385 ly_582 rfl (p_X10_openWith (f := 4) (Nat.le_refl _) _ _ h) (by omega) rfl rfl (Nat.le_of_ble_eq_true rfl) (by decide) rfl (fun _ => rfl) (fun r8 m8 h => ?_) (fun _ h => h)
                  refine b_aload_n dX10_readAtom_217 rfl ?_
                  refine b_cVi (as := []) (st := []) dX10_readAtom_218 mf_X10_readE qs113 lk_X10_405 ly_582 rfl (hrec.2.2.2.2.1 _ _ _ h) (by omega) rfl rfl (Nat.le_of_ble_eq_true rfl) (by decide) rfl (fun _ => rfl) (fun r9 m9 h => ?_) (fun _ h => h)
                  refine b_istore_n (ls' := [vR 582, vI (m 582 9), vI (m 587 (m 582 9)), vI r9, vU, vU, vU, vU, vU]) dX10_readAtom_221 (Nat.le_of_ble_eq_true rfl) rfl ?_
                  refine b_aload_n dX10_readAtom_222 rfl ?_
                  refine b_bipush dX10_readAtom_223 (by decide) ?_
                  refine b_cVv (as := [vI 41]) (st := []) dX10_readAtom_225 mf_X10_closeWith qs109 lk_X10_396 ly_582 rfl (p_X10_closeWith (f := 4) (Nat.le_refl _) _ _ h) (by omega) rfl rfl (Nat.le_of_ble_eq_true rfl) (by decide) rfl (fun _ => rfl) (fun r10 m10 h => ?_) (fun _ h => h)
                  refine b_iload_n dX10_readAtom_228 rfl ?_
                  exact b_iret dX10_readAtom_229 rfl h
              · have h := ifT (Decidable.of_not_not c7) h
                exact pl_X10_readAtom_135 hrec hf _ _ _ h
          · have h := ifF c5 h
            refine b_aload_n dX10_readAtom_92 rfl ?_
            refine b_iconst dX10_readAtom_93 ?_
            refine b_cVi (as := [vI 4]) (st := []) dX10_readAtom_94 mf_X10_need qs99 lk_X10_388 ly_582 rfl (p_X10_need (f := 3) (Nat.le_refl _) _ _ h) (by omega) rfl rfl (Nat.le_of_ble_eq_true rfl) (by decide) rfl (fun _ => rfl) (fun r11 m11 h => ?_) (fun _ h => h)
            refine b_istore_n (ls' := [vR 582, vI (m 582 9), vI (m 587 (m 582 9)), vI r11, vU, vU, vU, vU, vU]) dX10_readAtom_97 (Nat.le_of_ble_eq_true rfl) rfl ?_
            refine b_aload_n dX10_readAtom_98 rfl ?_
            refine b_iconst dX10_readAtom_99 ?_
            refine b_iconst dX10_readAtom_100 ?_
            refine b_iconst dX10_readAtom_101 ?_
            refine b_iconst dX10_readAtom_102 ?_
            refine b_iload_n dX10_readAtom_103 rfl ?_
            refine b_cVi (as := [vI 3, vI (-1), vI (-1), vI (-1), vI (m 582 9)]) (st := []) dX10_readAtom_104 mf_X10_node qs107 lk_X10_381 ly_582 rfl (p_X10_node (f := 1) (Nat.le_refl _) _ _ _ _ _ _ h) (by omega) rfl rfl (Nat.le_of_ble_eq_true rfl) (by decide) rfl (fun _ => rfl) (fun r12 m12 h => ?_) (fun _ h => h)
            refine b_istore (ls' := [vR 582, vI (m 582 9), vI (m 587 (m 582 9)), vI r11, vI r12, vU, vU, vU, vU]) dX10_readAtom_107 (Nat.le_of_ble_eq_true rfl) rfl ?_
            refine b_aload_n dX10_readAtom_109 rfl ?_
            refine b_getR dX10_readAtom_110 fk_X10_152 ly_582 gg_582_31 ?_
            refine b_iload dX10_readAtom_113 rfl ?_
            refine b_aload_n dX10_readAtom_115 rfl ?_
            refine b_getR dX10_readAtom_116 fk_X10_99 ly_582 gg_582_7 ?_
            refine b_iload_n dX10_readAtom_119 rfl ?_
            obtain ⟨g10, h⟩ := h
            refine b_lald dX10_readAtom_120 ly_589 g10 ?_
            obtain ⟨g11, h⟩ := h
            refine b_last dX10_readAtom_121 ly_605 g11 (fun m13 em13 => ?_)
            have h := h m13 em13
            refine b_iload dX10_readAtom_122 rfl ?_
            exact b_iret dX10_readAtom_124 rfl h
        · have h := ifF c4 h
          refine b_aload_n dX10_readAtom_73 rfl ?_
          refine b_iconst dX10_readAtom_74 ?_
          refine b_iconst dX10_readAtom_75 ?_
          refine b_iconst dX10_readAtom_76 ?_
          refine b_iconst dX10_readAtom_77 ?_
          refine b_iload_n dX10_readAtom_78 rfl ?_
          refine b_cVi (as := [vI 2, vI (-1), vI (-1), vI (-1), vI (m 582 9)]) (st := []) dX10_readAtom_79 mf_X10_node qs107 lk_X10_381 ly_582 rfl (p_X10_node (f := 1) (Nat.le_refl _) _ _ _ _ _ _ h) (by omega) rfl rfl (Nat.le_of_ble_eq_true rfl) (by decide) rfl (fun _ => rfl) (fun r13 m14 h => ?_) (fun _ h => h)
          exact b_iret dX10_readAtom_82 rfl h
      · have h := ifF c3 h
        refine b_aload_n dX10_readAtom_53 rfl ?_
        refine b_iconst dX10_readAtom_54 ?_
        refine b_iconst dX10_readAtom_55 ?_
        refine b_iconst dX10_readAtom_56 ?_
        refine b_iconst dX10_readAtom_57 ?_
        refine b_iload_n dX10_readAtom_58 rfl ?_
        refine b_cVi (as := [vI 1, vI (-1), vI (-1), vI (-1), vI (m 582 9)]) (st := []) dX10_readAtom_59 mf_X10_node qs107 lk_X10_381 ly_582 rfl (p_X10_node (f := 1) (Nat.le_refl _) _ _ _ _ _ _ h) (by omega) rfl rfl (Nat.le_of_ble_eq_true rfl) (by decide) rfl (fun _ => rfl) (fun r14 m15 h => ?_) (fun _ h => h)
        exact b_iret dX10_readAtom_62 rfl h
    · have h := ifT (Decidable.of_not_not c2) h
      refine b_aload_n dX10_readAtom_29 rfl ?_
      refine b_cVv (as := []) (st := []) dX10_readAtom_30 mf_X10_accept qs100 lk_X10_362 ly_582 rfl (p_X10_accept (f := 2) (Nat.le_refl _) _ h) (by omega) rfl rfl (Nat.le_of_ble_eq_true rfl) (by decide) rfl (fun _ => rfl) (fun r15 m16 h => ?_) (fun _ h => h)
      refine b_aload_n dX10_readAtom_33 rfl ?_
      refine b_iconst dX10_readAtom_34 ?_
      refine b_iconst dX10_readAtom_35 ?_
      refine b_iconst dX10_readAtom_36 ?_
      refine b_iconst dX10_readAtom_37 ?_
      refine b_iload_n dX10_readAtom_38 rfl ?_
      refine b_cVi (as := [vI 0, vI (-1), vI (-1), vI (-1), vI (m 582 9)]) (st := []) dX10_readAtom_39 mf_X10_node qs107 lk_X10_381 ly_582 rfl (p_X10_node (f := 1) (Nat.le_refl _) _ _ _ _ _ _ h) (by omega) rfl rfl (Nat.le_of_ble_eq_true rfl) (by decide) rfl (fun _ => rfl) (fun r16 m17 h => ?_) (fun _ h => h)
      exact b_iret dX10_readAtom_42 rfl h
  · have h := ifF c1 h
    refine b_iconst dX10_readAtom_12 ?_
    exact b_iret dX10_readAtom_13 rfl h
theorem pl_X10_readBehind_133 {f : Nat} {Q : Int → MM → Prop} {T : MM → Prop} {rec : Nat → List Int → MM → (Int → MM → Prop) → (MM → Prop) → Prop} {fr : Nat} (hrec : HR_X10_readE rec fr) (hf : 26 ≤ f ∧ fr + 1 ≤ f) {K18 : Int → Int → MM → Prop} (hK18 : ∀ (x1 : Int) (x2 : Int) (m : MM), K18 x1 x2 m → B f M_X10_readBehind 18 [vR 582, vI x1, vI x2, vU, vU] [] m Q T) : ∀ (x1 : Int) (x2 : Int) (m : MM), P_X10_readBehind_133 rec Q T K18 x1 x2 m → B f M_X10_readBehind 133 [vR 582, vI x1, vI x2, vU, vU] [] m Q T := by
  intro x1 x2 m h
  have h : (RI x2) ∧ (if x2 = 0 then K18 x1 0 m else (RI (m 582 10)) ∧ (if (m 582 10) = 0 then K18 x1 1 m else K18 x1 0 m)) := h
  refine b_iload_n dX10_readBehind_133 rfl ?_
  obtain ⟨g1, h⟩ := h
  refine b_if_eq 148 dX10_readBehind_134 g1 (by decide) (fun c1 => ?_) (fun c1 => ?_)
  · have h := ifT c1 h
    refine b_iconst dX10_readBehind_148 ?_
    refine b_istore_n (ls' := [vR 582, vI x1, vI 0, vU, vU]) dX10_readBehind_149 (Nat.le_of_ble_eq_true rfl) rfl ?_
    refine b_goto 18 dX10_readBehind_150 (by decide) ?_
    exact hK18 _ _ _ h
  · have h := ifF c1 h
    refine b_aload_n dX10_readBehind_137 rfl ?_
    refine b_getI dX10_readBehind_138 fk_X10_347 ly_582 ?_
    obtain ⟨g2, h⟩ := h
    refine b_if_ne 148 dX10_readBehind_141 g2 (by decide) (fun c2 => ?_) (fun c2 => ?_)
    · have h := ifF c2 h
      refine b_iconst dX10_readBehind_148 ?_
      refine b_istore_n (ls' := [vR 582, vI x1, vI 0, vU, vU]) dX10_readBehind_149 (Nat.le_of_ble_eq_true rfl) rfl ?_
      refine b_goto 18 dX10_readBehind_150 (by decide) ?_
      exact hK18 _ _ _ h
    · have h := ifT (Decidable.of_not_not c2) h
      refine b_iconst dX10_readBehind_144 ?_
      refine b_goto 149 dX10_readBehind_145 (by decide) ?_
      refine b_istore_n (ls' := [vR 582, vI x1, vI 1, vU, vU]) dX10_readBehind_149 (Nat.le_of_ble_eq_true rfl) rfl ?_
      refine b_goto 18 dX10_readBehind_150 (by decide) ?_
      exact hK18 _ _ _ h
theorem pl_X10_readBehind_18 {f : Nat} {Q : Int → MM → Prop} {T : MM → Prop} {rec : Nat → List Int → MM → (Int → MM → Prop) → (MM → Prop) → Prop} {fr : Nat} (hrec : HR_X10_readE rec fr) (hf : 26 ≤ f ∧ fr + 1 ≤ f) : ∀ (n : Nat) (x1 : Int) (x2 : Int) (m : MM), P_X10_readBehind_18 rec Q T n x1 x2 m → B f M_X10_readBehind 18 [vR 582, vI x1, vI x2, vU, vU] [] m Q T := by
  intro n
  induction n with
  | zero => intro x1 x2 m h; exact h.elim
  | succ n ih =>
    intro x1 x2 m h
    have h : (RI x2) ∧ (if x2 = 0 then Q x1 m else P_X10_takesSign 94 m (fun r1 m1 => (RI r1) ∧ (if r1 = 0 then P_X10_takesSign 14906 m1 (fun r2 m2 => (RI r2) ∧ (if r2 = 0 then P_X10_takesSign 33 m2 (fun r3 m3 => (RI r3) ∧ (if r3 = 0 then P_X10_readBehind_133 rec Q T (fun z0 z1 z2 => P_X10_readBehind_18 rec Q T n z0 z1 z2) x1 0 m3 else R_X10_readRing 20 0 [] m3 (fun r4 m4 => P_X10_node 25 x1 (-1) r4 (m 582 9) m4 (fun r5 m5 => P_X10_readBehind_133 rec Q T (fun z0 z1 z2 => P_X10_readBehind_18 rec Q T n z0 z1 z2) r5 x2 m5)) T)) else R_X10_readRing 20 0 [] m2 (fun r6 m6 => P_X10_node 24 x1 (-1) r6 (m 582 9) m6 (fun r7 m7 => P_X10_readBehind_133 rec Q T (fun z0 z1 z2 => P_X10_readBehind_18 rec Q T n z0 z1 z2) r7 x2 m7)) T)) else P_X10_need 4 m1 (fun r8 m8 => P_X10_node 23 x1 (-1) (-1) (m 582 9) m8 (fun r9 m9 => (0 ≤ r8 ∧ r8 < 420) ∧ (0 ≤ r9 ∧ r9 < 12000) ∧ ∀ m10 : MM, m10 = up m9 605 r9 (m9 589 r8) → P_X10_readBehind_133 rec Q T (fun z0 z1 z2 => P_X10_readBehind_18 rec Q T n z0 z1 z2) r9 x2 m10))))) := h
    refine b_iload_n dX10_readBehind_18 rfl ?_
    obtain ⟨g1, h⟩ := h
    refine b_if_eq 153 dX10_readBehind_19 g1 (by decide) (fun c1 => ?_) (fun c1 => ?_)
    · have h := ifT c1 h
      refine b_iload_n dX10_readBehind_153 rfl ?_
      exact b_iret dX10_readBehind_154 rfl h
    · have h := ifF c1 h
      refine b_aload_n dX10_readBehind_22 rfl ?_
      refine b_getI dX10_readBehind_23 fk_X10_324 ly_582 ?_
      refine b_istore_n (ls' := [vR 582, vI x1, vI x2, vI (m 582 9), vU]) dX10_readBehind_26 (Nat.le_of_ble_eq_true rfl) rfl ?_
      refine b_aload_n dX10_readBehind_27 rfl ?_
      refine b_bipush dX10_readBehind_28 (by decide) ?_
      refine b_cVi (as := [vI 94]) (st := []) dX10_readBehind_30 mf_X10_takesSign qs110 lk_X10_430 ly_582 rfl (p_X10_takesSign (f := 3) (Nat.le_refl _) _ _ h) (by omega) rfl rfl (Nat.le_of_ble_eq_true rfl) (by decide) rfl (fun _ => rfl) (fun r1 m1 h => ?_) (fun _ h => h)
      obtain ⟨g2, h⟩ := h
      refine b_if_eq 70 dX10_readBehind_33 g2 (by decide) (fun c2 => ?_) (fun c2 => ?_)
      · have h := ifT c2 h
        refine b_aload_n dX10_readBehind_70 rfl ?_
        refine b_sipush dX10_readBehind_71 (by decide) ?_
        refine b_cVi (as := [vI 14906]) (st := []) dX10_readBehind_74 mf_X10_takesSign qs110 lk_X10_430 ly_582 rfl (p_X10_takesSign (f := 3) (Nat.le_refl _) _ _ h) (by omega) rfl rfl (Nat.le_of_ble_eq_true rfl) (by decide) rfl (fun _ => rfl) (fun r2 m2 h => ?_) (fun _ h => h)
        obtain ⟨g3, h⟩ := h
        refine b_if_eq 101 dX10_readBehind_77 g3 (by decide) (fun c3 => ?_) (fun c3 => ?_)
        · have h := ifT c3 h
          refine b_aload_n dX10_readBehind_101 rfl ?_
          refine b_bipush dX10_readBehind_102 (by decide) ?_
          refine b_cVi (as := [vI 33]) (st := []) dX10_readBehind_104 mf_X10_takesSign qs110 lk_X10_430 ly_582 rfl (p_X10_takesSign (f := 3) (Nat.le_refl _) _ _ h) (by omega) rfl rfl (Nat.le_of_ble_eq_true rfl) (by decide) rfl (fun _ => rfl) (fun r3 m3 h => ?_) (fun _ h => h)
          obtain ⟨g4, h⟩ := h
          refine b_if_eq 131 dX10_readBehind_107 g4 (by decide) (fun c4 => ?_) (fun c4 => ?_)
          · have h := ifT c4 h
            refine b_iconst dX10_readBehind_131 ?_
            refine b_istore_n (ls' := [vR 582, vI x1, vI 0, vI (m 582 9), vU]) dX10_readBehind_132 (Nat.le_of_ble_eq_true rfl) rfl ?_
            refine b_fgt [true, true, true, false, false] (ls' := [vR 582, vI x1, vI 0, vU, vU]) rfl rfl ?_
            exact pl_X10_readBehind_133 hrec hf (fun _ _ _ h => ih _ _ _ h) _ _ _ h
          · have h := ifF c4 h
            refine b_aload_n dX10_readBehind_110 rfl ?_
            refine b_cVi (as := []) (st := []) dX10_readBehind_111 mf_X10_readRing qs106 lk_X10_392 ly_582 rfl ((pr_X10_readRing 20 25 (Nat.le_refl _)).1 _ _ _ h) (by omega) rfl rfl (Nat.le_of_ble_eq_true rfl) (by decide) rfl (fun _ => rfl) (fun r4 m4 h => ?_) (fun _ h => h)
            refine b_istore (ls' := [vR 582, vI x1, vI x2, vI (m 582 9), vI r4]) dX10_readBehind_114 (Nat.le_of_ble_eq_true rfl) rfl ?_
            refine b_aload_n dX10_readBehind_116 rfl ?_
            refine b_bipush dX10_readBehind_117 (by decide) ?_
            refine b_iload_n dX10_readBehind_119 rfl ?_
            refine b_iconst dX10_readBehind_120 ?_
            refine b_iload dX10_readBehind_121 rfl ?_
            refine b_iload_n dX10_readBehind_123 rfl ?_
            refine b_cVi (as := [vI 25, vI x1, vI (-1), vI r4, vI (m 582 9)]) (st := []) dX10_readBehind_124 mf_X10_node qs107 lk_X10_381 ly_582 rfl (p_X10_node (f := 1) (Nat.le_refl _) _ _ _ _ _ _ h) (by omega) rfl rfl (Nat.le_of_ble_eq_true rfl) (by decide) rfl (fun _ => rfl) (fun r5 m5 h => ?_) (fun _ h => h)
            refine b_istore_n (ls' := [vR 582, vI r5, vI x2, vI (m 582 9), vI r4]) dX10_readBehind_127 (Nat.le_of_ble_eq_true rfl) rfl ?_
            refine b_goto 133 dX10_readBehind_128 (by decide) ?_
            refine b_fgt [true, true, true, false, false] (ls' := [vR 582, vI r5, vI x2, vU, vU]) rfl rfl ?_
            exact pl_X10_readBehind_133 hrec hf (fun _ _ _ h => ih _ _ _ h) _ _ _ h
        · have h := ifF c3 h
          refine b_aload_n dX10_readBehind_80 rfl ?_
          refine b_cVi (as := []) (st := []) dX10_readBehind_81 mf_X10_readRing qs106 lk_X10_392 ly_582 rfl ((pr_X10_readRing 20 25 (Nat.le_refl _)).1 _ _ _ h) (by omega) rfl rfl (Nat.le_of_ble_eq_true rfl) (by decide) rfl (fun _ => rfl) (fun r6 m6 h => ?_) (fun _ h => h)
          refine b_istore (ls' := [vR 582, vI x1, vI x2, vI (m 582 9), vI r6]) dX10_readBehind_84 (Nat.le_of_ble_eq_true rfl) rfl ?_
          refine b_aload_n dX10_readBehind_86 rfl ?_
          refine b_bipush dX10_readBehind_87 (by decide) ?_
          refine b_iload_n dX10_readBehind_89 rfl ?_
          refine b_iconst dX10_readBehind_90 ?_
          refine b_iload dX10_readBehind_91 rfl ?_
          refine b_iload_n dX10_readBehind_93 rfl ?_
          refine b_cVi (as := [vI 24, vI x1, vI (-1), vI r6, vI (m 582 9)]) (st := []) dX10_readBehind_94 mf_X10_node qs107 lk_X10_381 ly_582 rfl (p_X10_node (f := 1) (Nat.le_refl _) _ _ _ _ _ _ h) (by omega) rfl rfl (Nat.le_of_ble_eq_true rfl) (by decide) rfl (fun _ => rfl) (fun r7 m7 h => ?_) (fun _ h => h)
          refine b_istore_n (ls' := [vR 582, vI r7, vI x2, vI (m 582 9), vI r6]) dX10_readBehind_97 (Nat.le_of_ble_eq_true rfl) rfl ?_
          refine b_goto 133 dX10_readBehind_98 (by decide) ?_
          refine b_fgt [true, true, true, false, false] (ls' := [vR 582, vI r7, vI x2, vU, vU]) rfl rfl ?_
          exact pl_X10_readBehind_133 hrec hf (fun _ _ _ h => ih _ _ _ h) _ _ _ h
      · have h := ifF c2 h
        refine b_aload_n dX10_readBehind_36 rfl ?_
        refine b_iconst dX10_readBehind_37 ?_
        refine b_cVi (as := [vI 4]) (st := []) dX10_readBehind_38 mf_X10_need qs99 lk_X10_388 ly_582 rfl (p_X10_need (f := 3) (Nat.le_refl _) _ _ h) (by omega) rfl rfl (Nat.le_of_ble_eq_true rfl) (by decide) rfl (fun _ => rfl) (fun r8 m8 h => ?_) (fun _ h => h)
        refine b_istore (ls' := [vR 582, vI x1, vI x2, vI (m 582 9), vI r8]) dX10_readBehind_41 (Nat.le_of_ble_eq_true rfl) rfl ?_
        refine b_aload_n dX10_readBehind_43 rfl ?_
        refine b_bipush dX10_readBehind_44 (by decide) ?_
        refine b_iload_n dX10_readBehind_46 rfl ?_
        refine b_iconst dX10_readBehind_47 ?_
        refine b_iconst dX10_readBehind_48 ?_
        refine b_iload_n dX10_readBehind_49 rfl ?_
        refine b_cVi (as := [vI 23, vI x1, vI (-1), vI (-1), vI (m 582 9)]) (st := []) dX10_readBehind_50 mf_X10_node qs107 lk_X10_381 ly_582 rfl (p_X10_node (f := 1) (Nat.le_refl _) _ _ _ _ _ _ h) (by omega) rfl rfl (Nat.le_of_ble_eq_true rfl) (by decide) rfl (fun _ => rfl) (fun r9 m9 h => ?_) (fun _ h => h)
        refine b_istore_n (ls' := [vR 582, vI r9, vI x2, vI (m 582 9), vI r8]) dX10_readBehind_53 (Nat.le_of_ble_eq_true rfl) rfl ?_
        refine b_aload_n dX10_readBehind_54 rfl ?_
        refine b_getR dX10_readBehind_55 fk_X10_152 ly_582 gg_582_31 ?_
        refine b_iload_n dX10_readBehind_58 rfl ?_
        refine b_aload_n dX10_readBehind_59 rfl ?_
        refine b_getR dX10_readBehind_60 fk_X10_99 ly_582 gg_582_7 ?_
        refine b_iload dX10_readBehind_63 rfl ?_
        obtain ⟨g5, h⟩ := h
        refine b_lald dX10_readBehind_65 ly_589 g5 ?_
        obtain ⟨g6, h⟩ := h
        refine b_last dX10_readBehind_66 ly_605 g6 (fun m10 em10 => ?_)
        have h := h m10 em10
        refine b_goto 133 dX10_readBehind_67 (by decide) ?_
        refine b_fgt [true, true, true, false, false] (ls' := [vR 582, vI r9, vI x2, vU, vU]) rfl rfl ?_
        exact pl_X10_readBehind_133 hrec hf (fun _ _ _ h => ih _ _ _ h) _ _ _ h
theorem w_X10_readBehind {f : Nat} {Q : Int → MM → Prop} {T : MM → Prop} {rec : Nat → List Int → MM → (Int → MM → Prop) → (MM → Prop) → Prop} {fr : Nat} (hrec : HR_X10_readE rec fr) (hf : 26 ≤ f ∧ fr + 1 ≤ f) (m : MM) (h : W_X10_readBehind rec m Q T) : CC f M_X10_readBehind [vR 582] m Q T := by
  refine CC.of (plainFor_of_name (by decide)) (Nat.le_of_ble_eq_true rfl) (ls := [vR 582, vU, vU, vU, vU]) rfl ?_
  have h : rec 1 [] m (fun r1 m1 => (RI (m1 582 10)) ∧ (if (m1 582 10) = 0 then ∃ nn, P_X10_readBehind_18 rec Q T nn r1 1 m1 else ∃ nn, P_X10_readBehind_18 rec Q T nn r1 0 m1)) T := h
  refine b_aload_n dX10_readBehind_0 rfl ?_
  refine b_cVi (as := []) (st := []) dX10_readBehind_1 mf_X10_readAtom qs122 lk_X10_436 ly_582 rfl (hrec.2.1 _ _ _ h) (by omega) rfl rfl (Nat.le_of_ble_eq_true rfl) (by decide) rfl (fun _ => rfl) (fun r1 m1 h => ?_) (fun _ h => h)
  refine b_istore_n (ls' := [vR 582, vI r1, vU, vU, vU]) dX10_readBehind_4 (Nat.le_of_ble_eq_true rfl) rfl ?_
  refine b_aload_n dX10_readBehind_5 rfl ?_
  refine b_getI dX10_readBehind_6 fk_X10_347 ly_582 ?_
  obtain ⟨g1, h⟩ := h
  refine b_if_ne 16 dX10_readBehind_9 g1 (by decide) (fun c1 => ?_) (fun c1 => ?_)
  · have h := ifF c1 h
    refine b_iconst dX10_readBehind_16 ?_
    refine b_istore_n (ls' := [vR 582, vI r1, vI 0, vU, vU]) dX10_readBehind_17 (Nat.le_of_ble_eq_true rfl) rfl ?_
    obtain ⟨nn, h⟩ := h
    exact pl_X10_readBehind_18 hrec hf nn _ _ _ h
  · have h := ifT (Decidable.of_not_not c1) h
    refine b_iconst dX10_readBehind_12 ?_
    refine b_goto 17 dX10_readBehind_13 (by decide) ?_
    refine b_istore_n (ls' := [vR 582, vI r1, vI 1, vU, vU]) dX10_readBehind_17 (Nat.le_of_ble_eq_true rfl) rfl ?_
    obtain ⟨nn, h⟩ := h
    exact pl_X10_readBehind_18 hrec hf nn _ _ _ h
theorem pl_X10_readCompare_63 {f : Nat} {Q : Int → MM → Prop} {T : MM → Prop} {rec : Nat → List Int → MM → (Int → MM → Prop) → (MM → Prop) → Prop} {fr : Nat} (hrec : HR_X10_readE rec fr) (hf : 26 ≤ f ∧ fr + 1 ≤ f) : ∀ (x1 : Int) (s0 : Int) (m : MM), P_X10_readCompare_63 rec Q T x1 s0 m → B f M_X10_readCompare 63 [vR 582, vI x1, vU, vU, vU] [vI s0] m Q T := by
  intro x1 s0 m h
  have h : (RI s0) ∧ (if 0 ≤ s0 then P_X10_accept m (fun r1 m1 => rec 9 [] m1 (fun r2 m2 => P_X10_node s0 x1 r2 (-1) (m 582 9) m2 (fun r3 m3 => Q r3 m3)) T) else Q x1 m) := h
  refine b_istore_n (ls' := [vR 582, vI x1, vI s0, vU, vU]) dX10_readCompare_63 (Nat.le_of_ble_eq_true rfl) rfl ?_
  refine b_iload_n dX10_readCompare_64 rfl ?_
  obtain ⟨g1, h⟩ := h
  refine b_if_ge 70 dX10_readCompare_65 g1 (by decide) (fun c1 => ?_) (fun c1 => ?_)
  · have h := ifT c1 h
    refine b_aload_n dX10_readCompare_70 rfl ?_
    refine b_getI dX10_readCompare_71 fk_X10_324 ly_582 ?_
    refine b_istore_n (ls' := [vR 582, vI x1, vI s0, vI (m 582 9), vU]) dX10_readCompare_74 (Nat.le_of_ble_eq_true rfl) rfl ?_
    refine b_aload_n dX10_readCompare_75 rfl ?_
    refine b_cVv (as := []) (st := []) dX10_readCompare_76 mf_X10_accept qs100 lk_X10_362 ly_582 rfl (p_X10_accept (f := 2) (Nat.le_refl _) _ h) (by omega) rfl rfl (Nat.le_of_ble_eq_true rfl) (by decide) rfl (fun _ => rfl) (fun r1 m1 h => ?_) (fun _ h => h)
    refine b_aload_n dX10_readCompare_79 rfl ?_
    refine b_cVi (as := []) (st := []) dX10_readCompare_80 mf_X10_readSum qs118 lk_X10_421 ly_582 rfl (hrec.2.2.2.2.2.2.2.2.2.1 _ _ _ h) (by omega) rfl rfl (Nat.le_of_ble_eq_true rfl) (by decide) rfl (fun _ => rfl) (fun r2 m2 h => ?_) (fun _ h => h)
    refine b_istore (ls' := [vR 582, vI x1, vI s0, vI (m 582 9), vI r2]) dX10_readCompare_83 (Nat.le_of_ble_eq_true rfl) rfl ?_
    refine b_aload_n dX10_readCompare_85 rfl ?_
    refine b_iload_n dX10_readCompare_86 rfl ?_
    refine b_iload_n dX10_readCompare_87 rfl ?_
    refine b_iload dX10_readCompare_88 rfl ?_
    refine b_iconst dX10_readCompare_90 ?_
    refine b_iload_n dX10_readCompare_91 rfl ?_
    refine b_cVi (as := [vI s0, vI x1, vI r2, vI (-1), vI (m 582 9)]) (st := []) dX10_readCompare_92 mf_X10_node qs107 lk_X10_381 ly_582 rfl (p_X10_node (f := 1) (Nat.le_refl _) _ _ _ _ _ _ h) (by omega) rfl rfl (Nat.le_of_ble_eq_true rfl) (by decide) rfl (fun _ => rfl) (fun r3 m3 h => ?_) (fun _ h => h)
    exact b_iret dX10_readCompare_95 rfl h
  · have h := ifF c1 h
    refine b_iload_n dX10_readCompare_68 rfl ?_
    exact b_iret dX10_readCompare_69 rfl h
theorem w_X10_readCompare {f : Nat} {Q : Int → MM → Prop} {T : MM → Prop} {rec : Nat → List Int → MM → (Int → MM → Prop) → (MM → Prop) → Prop} {fr : Nat} (hrec : HR_X10_readE rec fr) (hf : 26 ≤ f ∧ fr + 1 ≤ f) (m : MM) (h : W_X10_readCompare rec m Q T) : CC f M_X10_readCompare [vR 582] m Q T := by
  refine CC.of (plainFor_of_name (by decide)) (Nat.le_of_ble_eq_true rfl) (ls := [vR 582, vU, vU, vU, vU]) rfl ?_
  have h : rec 9 [] m (fun r1 m1 => P_X10_isSign 61 m1 (fun r2 m2 => (RI r2) ∧ (if r2 = 0 then P_X10_isSign 35 m2 (fun r3 m3 => (RI r3) ∧ (if r3 = 0 then P_X10_isSign 60 m3 (fun r4 m4 => (RI r4) ∧ (if r4 = 0 then P_X10_isSign 15421 m4 (fun r5 m5 => (RI r5) ∧ (if r5 = 0 then P_X10_readCompare_63 rec Q T r1 (-1) m5 else P_X10_readCompare_63 rec Q T r1 16 m5)) else P_X10_readCompare_63 rec Q T r1 15 m4)) else P_X10_readCompare_63 rec Q T r1 14 m3)) else P_X10_readCompare_63 rec Q T r1 13 m2))) T := h
  refine b_aload_n dX10_readCompare_0 rfl ?_
  refine b_cVi (as := []) (st := []) dX10_readCompare_1 mf_X10_readSum qs118 lk_X10_421 ly_582 rfl (hrec.2.2.2.2.2.2.2.2.2.1 _ _ _ h) (by omega) rfl rfl (Nat.le_of_ble_eq_true rfl) (by decide) rfl (fun _ => rfl) (fun r1 m1 h => ?_) (fun _ h => h)
  refine b_istore_n (ls' := [vR 582, vI r1, vU, vU, vU]) dX10_readCompare_4 (Nat.le_of_ble_eq_true rfl) rfl ?_
  refine b_aload_n dX10_readCompare_5 rfl ?_
  refine b_bipush dX10_readCompare_6 (by decide) ?_
  refine b_cVi (as := [vI 61]) (st := []) dX10_readCompare_8 mf_X10_isSign qs104 lk_X10_359 ly_582 rfl (p_X10_isSign (f := 1) (Nat.le_refl _) _ _ h) (by omega) rfl rfl (Nat.le_of_ble_eq_true rfl) (by decide) rfl (fun _ => rfl) (fun r2 m2 h => ?_) (fun _ h => h)
  obtain ⟨g1, h⟩ := h
  refine b_if_eq 19 dX10_readCompare_11 g1 (by decide) (fun c1 => ?_) (fun c1 => ?_)
  · have h := ifT c1 h
    refine b_aload_n dX10_readCompare_19 rfl ?_
    refine b_bipush dX10_readCompare_20 (by decide) ?_
    refine b_cVi (as := [vI 35]) (st := []) dX10_readCompare_22 mf_X10_isSign qs104 lk_X10_359 ly_582 rfl (p_X10_isSign (f := 1) (Nat.le_refl _) _ _ h) (by omega) rfl rfl (Nat.le_of_ble_eq_true rfl) (by decide) rfl (fun _ => rfl) (fun r3 m3 h => ?_) (fun _ h => h)
    obtain ⟨g2, h⟩ := h
    refine b_if_eq 33 dX10_readCompare_25 g2 (by decide) (fun c2 => ?_) (fun c2 => ?_)
    · have h := ifT c2 h
      refine b_aload_n dX10_readCompare_33 rfl ?_
      refine b_bipush dX10_readCompare_34 (by decide) ?_
      refine b_cVi (as := [vI 60]) (st := []) dX10_readCompare_36 mf_X10_isSign qs104 lk_X10_359 ly_582 rfl (p_X10_isSign (f := 1) (Nat.le_refl _) _ _ h) (by omega) rfl rfl (Nat.le_of_ble_eq_true rfl) (by decide) rfl (fun _ => rfl) (fun r4 m4 h => ?_) (fun _ h => h)
      obtain ⟨g3, h⟩ := h
      refine b_if_eq 47 dX10_readCompare_39 g3 (by decide) (fun c3 => ?_) (fun c3 => ?_)
      · have h := ifT c3 h
        refine b_aload_n dX10_readCompare_47 rfl ?_
        refine b_sipush dX10_readCompare_48 (by decide) ?_
        refine b_cVi (as := [vI 15421]) (st := []) dX10_readCompare_51 mf_X10_isSign qs104 lk_X10_359 ly_582 rfl (p_X10_isSign (f := 1) (Nat.le_refl _) _ _ h) (by omega) rfl rfl (Nat.le_of_ble_eq_true rfl) (by decide) rfl (fun _ => rfl) (fun r5 m5 h => ?_) (fun _ h => h)
        obtain ⟨g4, h⟩ := h
        refine b_if_eq 62 dX10_readCompare_54 g4 (by decide) (fun c4 => ?_) (fun c4 => ?_)
        · have h := ifT c4 h
          refine b_iconst dX10_readCompare_62 ?_
          exact pl_X10_readCompare_63 hrec hf _ _ _ h
        · have h := ifF c4 h
          refine b_bipush dX10_readCompare_57 (by decide) ?_
          refine b_goto 63 dX10_readCompare_59 (by decide) ?_
          exact pl_X10_readCompare_63 hrec hf _ _ _ h
      · have h := ifF c3 h
        refine b_bipush dX10_readCompare_42 (by decide) ?_
        refine b_goto 63 dX10_readCompare_44 (by decide) ?_
        exact pl_X10_readCompare_63 hrec hf _ _ _ h
    · have h := ifF c2 h
      refine b_bipush dX10_readCompare_28 (by decide) ?_
      refine b_goto 63 dX10_readCompare_30 (by decide) ?_
      exact pl_X10_readCompare_63 hrec hf _ _ _ h
  · have h := ifF c1 h
    refine b_bipush dX10_readCompare_14 (by decide) ?_
    refine b_goto 63 dX10_readCompare_16 (by decide) ?_
    exact pl_X10_readCompare_63 hrec hf _ _ _ h
theorem w_X10_readE {f : Nat} {Q : Int → MM → Prop} {T : MM → Prop} {rec : Nat → List Int → MM → (Int → MM → Prop) → (MM → Prop) → Prop} {fr : Nat} (hrec : HR_X10_readE rec fr) (hf : 26 ≤ f ∧ fr + 1 ≤ f) (m : MM) (h : W_X10_readE rec m Q T) : CC f M_X10_readE [vR 582] m Q T := by
  refine CC.of (plainFor_of_name (by decide)) (Nat.le_of_ble_eq_true rfl) (ls := [vR 582, vU, vU, vU, vU]) rfl ?_
  have h : P_X10_takesKey 26982 m (fun r1 m1 => (RI r1) ∧ (if r1 = 0 then rec 7 [] m1 (fun r9 m10 => Q r9 m10) T else P_X10_opens (m 582 9) m1 (fun r2 m2 => rec 4 [] m2 (fun r3 m3 => P_X10_key 1952998766 m3 (fun r4 m4 => rec 4 [] m4 (fun r5 m5 => P_X10_key 1701606245 m5 (fun r6 m6 => rec 4 [] m6 (fun r7 m7 => ∀ m8 : MM, m8 = up m7 582 12 ((m7 582 12) - 1) → P_X10_node 8 r3 r5 r7 (m 582 9) m8 (fun r8 m9 => Q r8 m9)) T)) T)) T))) := h
  refine b_aload_n dX10_readE_0 rfl ?_
  refine b_getI dX10_readE_1 fk_X10_324 ly_582 ?_
  refine b_istore_n (ls' := [vR 582, vI (m 582 9), vU, vU, vU]) dX10_readE_4 (Nat.le_of_ble_eq_true rfl) rfl ?_
  refine b_aload_n dX10_readE_5 rfl ?_
  refine b_ldc2 (26982) dX10_readE_6 q1617 (by decide) ?_
  refine b_cVi (as := [vL 26982]) (st := []) dX10_readE_9 mf_X10_takesKey qs111 lk_X10_399 ly_582 rfl (p_X10_takesKey (f := 3) (Nat.le_refl _) _ _ h) (by omega) rfl rfl (Nat.le_of_ble_eq_true rfl) (by decide) rfl (fun _ => rfl) (fun r1 m1 h => ?_) (fun _ h => h)
  obtain ⟨g1, h⟩ := h
  refine b_if_ne 20 dX10_readE_12 g1 (by decide) (fun c1 => ?_) (fun c1 => ?_)
  · have h := ifF c1 h
    refine b_aload_n dX10_readE_20 rfl ?_
    refine b_iload_n dX10_readE_21 rfl ?_
    refine b_cVv (as := [vI (m 582 9)]) (st := []) dX10_readE_22 mf_X10_opens qs105 lk_X10_375 ly_582 rfl (p_X10_opens (f := 1) (Nat.le_refl _) _ _ h) (by omega) rfl rfl (Nat.le_of_ble_eq_true rfl) (by decide) rfl (fun _ => rfl) (fun r2 m2 h => ?_) (fun _ h => h)
    refine b_aload_n dX10_readE_25 rfl ?_
    refine b_cVi (as := []) (st := []) dX10_readE_26 mf_X10_readE qs113 lk_X10_405 ly_582 rfl (hrec.2.2.2.2.1 _ _ _ h) (by omega) rfl rfl (Nat.le_of_ble_eq_true rfl) (by decide) rfl (fun _ => rfl) (fun r3 m3 h => ?_) (fun _ h => h)
    refine b_istore_n (ls' := [vR 582, vI (m 582 9), vI r3, vU, vU]) dX10_readE_29 (Nat.le_of_ble_eq_true rfl) rfl ?_
    refine b_aload_n dX10_readE_30 rfl ?_
    refine b_ldc2 (1952998766) dX10_readE_31 q1618 (by decide) ?_
    refine b_cVv (as := [vL 1952998766]) (st := []) dX10_readE_34 mf_X10_key qs112 lk_X10_408 ly_582 rfl (p_X10_key (f := 3) (Nat.le_refl _) _ _ h) (by omega) rfl rfl (Nat.le_of_ble_eq_true rfl) (by decide) rfl (fun _ => rfl) (fun r4 m4 h => ?_) (fun _ h => h)
    refine b_aload_n dX10_readE_37 rfl ?_
    refine b_cVi (as := []) (st := []) dX10_readE_38 mf_X10_readE qs113 lk_X10_405 ly_582 rfl (hrec.2.2.2.2.1 _ _ _ h) (by omega) rfl rfl (Nat.le_of_ble_eq_true rfl) (by decide) rfl (fun _ => rfl) (fun r5 m5 h => ?_) (fun _ h => h)
    refine b_istore_n (ls' := [vR 582, vI (m 582 9), vI r3, vI r5, vU]) dX10_readE_41 (Nat.le_of_ble_eq_true rfl) rfl ?_
    refine b_aload_n dX10_readE_42 rfl ?_
    refine b_ldc2 (1701606245) dX10_readE_43 q1619 (by decide) ?_
    refine b_cVv (as := [vL 1701606245]) (st := []) dX10_readE_46 mf_X10_key qs112 lk_X10_408 ly_582 rfl (p_X10_key (f := 3) (Nat.le_refl _) _ _ h) (by omega) rfl rfl (Nat.le_of_ble_eq_true rfl) (by decide) rfl (fun _ => rfl) (fun r6 m6 h => ?_) (fun _ h => h)
    refine b_aload_n dX10_readE_49 rfl ?_
    refine b_cVi (as := []) (st := []) dX10_readE_50 mf_X10_readE qs113 lk_X10_405 ly_582 rfl (hrec.2.2.2.2.1 _ _ _ h) (by omega) rfl rfl (Nat.le_of_ble_eq_true rfl) (by decide) rfl (fun _ => rfl) (fun r7 m7 h => ?_) (fun _ h => h)
    refine b_istore (ls' := [vR 582, vI (m 582 9), vI r3, vI r5, vI r7]) dX10_readE_53 (Nat.le_of_ble_eq_true rfl) rfl ?_
    refine b_aload_n dX10_readE_55 rfl ?_
    refine b_dup dX10_readE_56 rfl ?_
    refine b_getI dX10_readE_57 fk_X10_369 ly_582 ?_
    refine b_iconst dX10_readE_60 ?_
    refine b_isub dX10_readE_61 ?_
    refine b_putI dX10_readE_62 fk_X10_369 ly_582 (fun m8 em8 => ?_)
    have h := h m8 em8
    refine b_aload_n dX10_readE_65 rfl ?_
    refine b_bipush dX10_readE_66 (by decide) ?_
    refine b_iload_n dX10_readE_68 rfl ?_
    refine b_iload_n dX10_readE_69 rfl ?_
    refine b_iload dX10_readE_70 rfl ?_
    refine b_iload_n dX10_readE_72 rfl ?_
    refine b_cVi (as := [vI 8, vI r3, vI r5, vI r7, vI (m 582 9)]) (st := []) dX10_readE_73 mf_X10_node qs107 lk_X10_381 ly_582 rfl (p_X10_node (f := 1) (Nat.le_refl _) _ _ _ _ _ _ h) (by omega) rfl rfl (Nat.le_of_ble_eq_true rfl) (by decide) rfl (fun _ => rfl) (fun r8 m9 h => ?_) (fun _ h => h)
    exact b_iret dX10_readE_76 rfl h
  · have h := ifT (Decidable.of_not_not c1) h
    refine b_aload_n dX10_readE_15 rfl ?_
    refine b_cVi (as := []) (st := []) dX10_readE_16 mf_X10_readOr qs114 lk_X10_402 ly_582 rfl (hrec.2.2.2.2.2.2.2.1 _ _ _ h) (by omega) rfl rfl (Nat.le_of_ble_eq_true rfl) (by decide) rfl (fun _ => rfl) (fun r9 m10 h => ?_) (fun _ h => h)
    exact b_iret dX10_readE_19 rfl h
theorem pl_X10_readItems_66 {f : Nat} {Q : Int → MM → Prop} {T : MM → Prop} {rec : Nat → List Int → MM → (Int → MM → Prop) → (MM → Prop) → Prop} {fr : Nat} (hrec : HR_X10_readE rec fr) (hf : 26 ≤ f ∧ fr + 1 ≤ f) {K18 : Int → Int → Int → Int → MM → Prop} (hK18 : ∀ (x1 : Int) (x2 : Int) (x3 : Int) (x4 : Int) (m : MM), K18 x1 x2 x3 x4 m → B f M_X10_readItems 18 [vR 582, vI x1, vI x2, vI x3, vI x4, vU, vU, vU] [] m Q T) : ∀ (x1 : Int) (x2 : Int) (x7 : Int) (m : MM), P_X10_readItems_66 rec Q T K18 x1 x2 x7 m → B f M_X10_readItems 66 [vR 582, vI x1, vI x2, vU, vU, vU, vU, vI x7] [] m Q T := by
  intro x1 x2 x7 m h
  have h : P_X10_takesSign 44 m (fun r1 m1 => K18 x1 x2 x7 r1 m1) := h
  refine b_iload dX10_readItems_66 rfl ?_
  refine b_istore_n (ls' := [vR 582, vI x1, vI x2, vI x7, vU, vU, vU, vI x7]) dX10_readItems_68 (Nat.le_of_ble_eq_true rfl) rfl ?_
  refine b_aload_n dX10_readItems_69 rfl ?_
  refine b_bipush dX10_readItems_70 (by decide) ?_
  refine b_cVi (as := [vI 44]) (st := []) dX10_readItems_72 mf_X10_takesSign qs110 lk_X10_430 ly_582 rfl (p_X10_takesSign (f := 3) (Nat.le_refl _) _ _ h) (by omega) rfl rfl (Nat.le_of_ble_eq_true rfl) (by decide) rfl (fun _ => rfl) (fun r1 m1 h => ?_) (fun _ h => h)
  refine b_istore (ls' := [vR 582, vI x1, vI x2, vI x7, vI r1, vU, vU, vI x7]) dX10_readItems_75 (Nat.le_of_ble_eq_true rfl) rfl ?_
  refine b_goto 18 dX10_readItems_77 (by decide) ?_
  refine b_fgt [true, true, true, true, true, false, false, false] (ls' := [vR 582, vI x1, vI x2, vI x7, vI r1, vU, vU, vU]) rfl rfl ?_
  exact hK18 _ _ _ _ _ h
theorem pl_X10_readItems_18 {f : Nat} {Q : Int → MM → Prop} {T : MM → Prop} {rec : Nat → List Int → MM → (Int → MM → Prop) → (MM → Prop) → Prop} {fr : Nat} (hrec : HR_X10_readE rec fr) (hf : 26 ≤ f ∧ fr + 1 ≤ f) : ∀ (n : Nat) (x1 : Int) (x2 : Int) (x3 : Int) (x4 : Int) (m : MM), P_X10_readItems_18 rec Q T n x1 x2 x3 x4 m → B f M_X10_readItems 18 [vR 582, vI x1, vI x2, vI x3, vI x4, vU, vU, vU] [] m Q T := by
  intro n
  induction n with
  | zero => intro x1 x2 x3 x4 m h; exact h.elim
  | succ n ih =>
    intro x1 x2 x3 x4 m h
    have h : (RI x4) ∧ (if x4 = 0 then Q x2 m else rec 4 [] m (fun r1 m1 => P_X10_node x1 r1 (-1) (-1) (m 582 9) m1 (fun r2 m2 => (RI x2) ∧ (if 0 ≤ x2 then (0 ≤ x3 ∧ x3 < 12000) ∧ ∀ m3 : MM, m3 = up m2 594 x3 r2 → P_X10_readItems_66 rec Q T (fun z0 z1 z2 z3 z4 => P_X10_readItems_18 rec Q T n z0 z1 z2 z3 z4) x1 x2 r2 m3 else P_X10_readItems_66 rec Q T (fun z0 z1 z2 z3 z4 => P_X10_readItems_18 rec Q T n z0 z1 z2 z3 z4) x1 r2 r2 m2))) T) := h
    refine b_iload dX10_readItems_18 rfl ?_
    obtain ⟨g1, h⟩ := h
    refine b_if_eq 80 dX10_readItems_20 g1 (by decide) (fun c1 => ?_) (fun c1 => ?_)
    · have h := ifT c1 h
      refine b_iload_n dX10_readItems_80 rfl ?_
      exact b_iret dX10_readItems_81 rfl h
    · have h := ifF c1 h
      refine b_aload_n dX10_readItems_23 rfl ?_
      refine b_getI dX10_readItems_24 fk_X10_324 ly_582 ?_
      refine b_istore (ls' := [vR 582, vI x1, vI x2, vI x3, vI x4, vI (m 582 9), vU, vU]) dX10_readItems_27 (Nat.le_of_ble_eq_true rfl) rfl ?_
      refine b_aload_n dX10_readItems_29 rfl ?_
      refine b_cVi (as := []) (st := []) dX10_readItems_30 mf_X10_readE qs113 lk_X10_405 ly_582 rfl (hrec.2.2.2.2.1 _ _ _ h) (by omega) rfl rfl (Nat.le_of_ble_eq_true rfl) (by decide) rfl (fun _ => rfl) (fun r1 m1 h => ?_) (fun _ h => h)
      refine b_istore (ls' := [vR 582, vI x1, vI x2, vI x3, vI x4, vI (m 582 9), vI r1, vU]) dX10_readItems_33 (Nat.le_of_ble_eq_true rfl) rfl ?_
      refine b_aload_n dX10_readItems_35 rfl ?_
      refine b_iload_n dX10_readItems_36 rfl ?_
      refine b_iload dX10_readItems_37 rfl ?_
      refine b_iconst dX10_readItems_39 ?_
      refine b_iconst dX10_readItems_40 ?_
      refine b_iload dX10_readItems_41 rfl ?_
      refine b_cVi (as := [vI x1, vI r1, vI (-1), vI (-1), vI (m 582 9)]) (st := []) dX10_readItems_43 mf_X10_node qs107 lk_X10_381 ly_582 rfl (p_X10_node (f := 1) (Nat.le_refl _) _ _ _ _ _ _ h) (by omega) rfl rfl (Nat.le_of_ble_eq_true rfl) (by decide) rfl (fun _ => rfl) (fun r2 m2 h => ?_) (fun _ h => h)
      refine b_istore (ls' := [vR 582, vI x1, vI x2, vI x3, vI x4, vI (m 582 9), vI r1, vI r2]) dX10_readItems_46 (Nat.le_of_ble_eq_true rfl) rfl ?_
      refine b_iload_n dX10_readItems_48 rfl ?_
      obtain ⟨g2, h⟩ := h
      refine b_if_ge 58 dX10_readItems_49 g2 (by decide) (fun c2 => ?_) (fun c2 => ?_)
      · have h := ifT c2 h
        refine b_aload_n dX10_readItems_58 rfl ?_
        refine b_getR dX10_readItems_59 fk_X10_118 ly_582 gg_582_20 ?_
        refine b_iload_n dX10_readItems_62 rfl ?_
        refine b_iload dX10_readItems_63 rfl ?_
        obtain ⟨g3, h⟩ := h
        refine b_iast dX10_readItems_65 ly_594 g3 (fun m3 em3 => ?_)
        have h := h m3 em3
        refine b_fgt [true, true, true, false, false, false, false, true] (ls' := [vR 582, vI x1, vI x2, vU, vU, vU, vU, vI r2]) rfl rfl ?_
        exact pl_X10_readItems_66 hrec hf (fun _ _ _ _ _ h => ih _ _ _ _ _ h) _ _ _ _ h
      · have h := ifF c2 h
        refine b_iload dX10_readItems_52 rfl ?_
        refine b_istore_n (ls' := [vR 582, vI x1, vI r2, vI x3, vI x4, vI (m 582 9), vI r1, vI r2]) dX10_readItems_54 (Nat.le_of_ble_eq_true rfl) rfl ?_
        refine b_goto 66 dX10_readItems_55 (by decide) ?_
        refine b_fgt [true, true, true, false, false, false, false, true] (ls' := [vR 582, vI x1, vI r2, vU, vU, vU, vU, vI r2]) rfl rfl ?_
        exact pl_X10_readItems_66 hrec hf (fun _ _ _ _ _ h => ih _ _ _ _ _ h) _ _ _ _ h
theorem w_X10_readItems {f : Nat} {Q : Int → MM → Prop} {T : MM → Prop} {rec : Nat → List Int → MM → (Int → MM → Prop) → (MM → Prop) → Prop} {fr : Nat} (hrec : HR_X10_readE rec fr) (hf : 26 ≤ f ∧ fr + 1 ≤ f) (x1 : Int) (m : MM) (h : W_X10_readItems rec x1 m Q T) : CC f M_X10_readItems [vR 582, vI x1] m Q T := by
  refine CC.of (plainFor_of_name (by decide)) (Nat.le_of_ble_eq_true rfl) (ls := [vR 582, vI x1, vU, vU, vU, vU, vU, vU]) rfl ?_
  have h : (RI (m 582 10)) ∧ (if (m 582 10) = 0 then ∃ nn, P_X10_readItems_18 rec Q T nn x1 (-1) (-1) 1 m else ∃ nn, P_X10_readItems_18 rec Q T nn x1 (-1) (-1) 0 m) := h
  refine b_iconst dX10_readItems_0 ?_
  refine b_istore_n (ls' := [vR 582, vI x1, vI (-1), vU, vU, vU, vU, vU]) dX10_readItems_1 (Nat.le_of_ble_eq_true rfl) rfl ?_
  refine b_iconst dX10_readItems_2 ?_
  refine b_istore_n (ls' := [vR 582, vI x1, vI (-1), vI (-1), vU, vU, vU, vU]) dX10_readItems_3 (Nat.le_of_ble_eq_true rfl) rfl ?_
  refine b_aload_n dX10_readItems_4 rfl ?_
  refine b_getI dX10_readItems_5 fk_X10_347 ly_582 ?_
  obtain ⟨g1, h⟩ := h
  refine b_if_ne 15 dX10_readItems_8 g1 (by decide) (fun c1 => ?_) (fun c1 => ?_)
  · have h := ifF c1 h
    refine b_iconst dX10_readItems_15 ?_
    refine b_istore (ls' := [vR 582, vI x1, vI (-1), vI (-1), vI 0, vU, vU, vU]) dX10_readItems_16 (Nat.le_of_ble_eq_true rfl) rfl ?_
    obtain ⟨nn, h⟩ := h
    exact pl_X10_readItems_18 hrec hf nn _ _ _ _ _ h
  · have h := ifT (Decidable.of_not_not c1) h
    refine b_iconst dX10_readItems_11 ?_
    refine b_goto 16 dX10_readItems_12 (by decide) ?_
    refine b_istore (ls' := [vR 582, vI x1, vI (-1), vI (-1), vI 1, vU, vU, vU]) dX10_readItems_16 (Nat.le_of_ble_eq_true rfl) rfl ?_
    obtain ⟨nn, h⟩ := h
    exact pl_X10_readItems_18 hrec hf nn _ _ _ _ _ h
theorem w_X10_readNot {f : Nat} {Q : Int → MM → Prop} {T : MM → Prop} {rec : Nat → List Int → MM → (Int → MM → Prop) → (MM → Prop) → Prop} {fr : Nat} (hrec : HR_X10_readE rec fr) (hf : 26 ≤ f ∧ fr + 1 ≤ f) (m : MM) (h : W_X10_readNot rec m Q T) : CC f M_X10_readNot [vR 582] m Q T := by
  refine CC.of (plainFor_of_name (by decide)) (Nat.le_of_ble_eq_true rfl) (ls := [vR 582, vU, vU]) rfl ?_
  have h : P_X10_takesKey 7237492 m (fun r1 m1 => (RI r1) ∧ (if r1 = 0 then rec 3 [] m1 (fun r5 m6 => Q r5 m6) T else P_X10_opens (m 582 9) m1 (fun r2 m2 => rec 6 [] m2 (fun r3 m3 => ∀ m4 : MM, m4 = up m3 582 12 ((m3 582 12) - 1) → P_X10_node 9 r3 (-1) (-1) (m 582 9) m4 (fun r4 m5 => Q r4 m5)) T))) := h
  refine b_aload_n dX10_readNot_0 rfl ?_
  refine b_getI dX10_readNot_1 fk_X10_324 ly_582 ?_
  refine b_istore_n (ls' := [vR 582, vI (m 582 9), vU]) dX10_readNot_4 (Nat.le_of_ble_eq_true rfl) rfl ?_
  refine b_aload_n dX10_readNot_5 rfl ?_
  refine b_ldc2 (7237492) dX10_readNot_6 q1622 (by decide) ?_
  refine b_cVi (as := [vL 7237492]) (st := []) dX10_readNot_9 mf_X10_takesKey qs111 lk_X10_399 ly_582 rfl (p_X10_takesKey (f := 3) (Nat.le_refl _) _ _ h) (by omega) rfl rfl (Nat.le_of_ble_eq_true rfl) (by decide) rfl (fun _ => rfl) (fun r1 m1 h => ?_) (fun _ h => h)
  obtain ⟨g1, h⟩ := h
  refine b_if_ne 20 dX10_readNot_12 g1 (by decide) (fun c1 => ?_) (fun c1 => ?_)
  · have h := ifF c1 h
    refine b_aload_n dX10_readNot_20 rfl ?_
    refine b_iload_n dX10_readNot_21 rfl ?_
    refine b_cVv (as := [vI (m 582 9)]) (st := []) dX10_readNot_22 mf_X10_opens qs105 lk_X10_375 ly_582 rfl (p_X10_opens (f := 1) (Nat.le_refl _) _ _ h) (by omega) rfl rfl (Nat.le_of_ble_eq_true rfl) (by decide) rfl (fun _ => rfl) (fun r2 m2 h => ?_) (fun _ h => h)
    refine b_aload_n dX10_readNot_25 rfl ?_
    refine b_cVi (as := []) (st := []) dX10_readNot_26 mf_X10_readNot qs116 lk_X10_415 ly_582 rfl (hrec.2.2.2.2.2.2.1 _ _ _ h) (by omega) rfl rfl (Nat.le_of_ble_eq_true rfl) (by decide) rfl (fun _ => rfl) (fun r3 m3 h => ?_) (fun _ h => h)
    refine b_istore_n (ls' := [vR 582, vI (m 582 9), vI r3]) dX10_readNot_29 (Nat.le_of_ble_eq_true rfl) rfl ?_
    refine b_aload_n dX10_readNot_30 rfl ?_
    refine b_dup dX10_readNot_31 rfl ?_
    refine b_getI dX10_readNot_32 fk_X10_369 ly_582 ?_
    refine b_iconst dX10_readNot_35 ?_
    refine b_isub dX10_readNot_36 ?_
    refine b_putI dX10_readNot_37 fk_X10_369 ly_582 (fun m4 em4 => ?_)
    have h := h m4 em4
    refine b_aload_n dX10_readNot_40 rfl ?_
    refine b_bipush dX10_readNot_41 (by decide) ?_
    refine b_iload_n dX10_readNot_43 rfl ?_
    refine b_iconst dX10_readNot_44 ?_
    refine b_iconst dX10_readNot_45 ?_
    refine b_iload_n dX10_readNot_46 rfl ?_
    refine b_cVi (as := [vI 9, vI r3, vI (-1), vI (-1), vI (m 582 9)]) (st := []) dX10_readNot_47 mf_X10_node qs107 lk_X10_381 ly_582 rfl (p_X10_node (f := 1) (Nat.le_refl _) _ _ _ _ _ _ h) (by omega) rfl rfl (Nat.le_of_ble_eq_true rfl) (by decide) rfl (fun _ => rfl) (fun r4 m5 h => ?_) (fun _ h => h)
    exact b_iret dX10_readNot_50 rfl h
  · have h := ifT (Decidable.of_not_not c1) h
    refine b_aload_n dX10_readNot_15 rfl ?_
    refine b_cVi (as := []) (st := []) dX10_readNot_16 mf_X10_readCompare qs117 lk_X10_418 ly_582 rfl (hrec.2.2.2.1 _ _ _ h) (by omega) rfl rfl (Nat.le_of_ble_eq_true rfl) (by decide) rfl (fun _ => rfl) (fun r5 m6 h => ?_) (fun _ h => h)
    exact b_iret dX10_readNot_19 rfl h
theorem pl_X10_readOr_5 {f : Nat} {Q : Int → MM → Prop} {T : MM → Prop} {rec : Nat → List Int → MM → (Int → MM → Prop) → (MM → Prop) → Prop} {fr : Nat} (hrec : HR_X10_readE rec fr) (hf : 26 ≤ f ∧ fr + 1 ≤ f) : ∀ (n : Nat) (x1 : Int) (m : MM), P_X10_readOr_5 rec Q T n x1 m → B f M_X10_readOr 5 [vR 582, vI x1, vU, vU] [] m Q T := by
  intro n
  induction n with
  | zero => intro x1 m h; exact h.elim
  | succ n ih =>
    intro x1 m h
    have h : P_X10_isKey 28530 m (fun r1 m1 => (RI r1) ∧ (if r1 = 0 then Q x1 m1 else P_X10_accept m1 (fun r2 m2 => rec 0 [] m2 (fun r3 m3 => P_X10_node 11 x1 r3 (-1) (m1 582 9) m3 (fun r4 m4 => P_X10_readOr_5 rec Q T n r4 m4)) T))) := h
    refine b_aload_n dX10_readOr_5 rfl ?_
    refine b_ldc2 (28530) dX10_readOr_6 q1621 (by decide) ?_
    refine b_cVi (as := [vL 28530]) (st := []) dX10_readOr_9 mf_X10_isKey qs108 lk_X10_365 ly_582 rfl (p_X10_isKey (f := 1) (Nat.le_refl _) _ _ h) (by omega) rfl rfl (Nat.le_of_ble_eq_true rfl) (by decide) rfl (fun _ => rfl) (fun r1 m1 h => ?_) (fun _ h => h)
    obtain ⟨g1, h⟩ := h
    refine b_if_eq 43 dX10_readOr_12 g1 (by decide) (fun c1 => ?_) (fun c1 => ?_)
    · have h := ifT c1 h
      refine b_iload_n dX10_readOr_43 rfl ?_
      exact b_iret dX10_readOr_44 rfl h
    · have h := ifF c1 h
      refine b_aload_n dX10_readOr_15 rfl ?_
      refine b_getI dX10_readOr_16 fk_X10_324 ly_582 ?_
      refine b_istore_n (ls' := [vR 582, vI x1, vI (m1 582 9), vU]) dX10_readOr_19 (Nat.le_of_ble_eq_true rfl) rfl ?_
      refine b_aload_n dX10_readOr_20 rfl ?_
      refine b_cVv (as := []) (st := []) dX10_readOr_21 mf_X10_accept qs100 lk_X10_362 ly_582 rfl (p_X10_accept (f := 2) (Nat.le_refl _) _ h) (by omega) rfl rfl (Nat.le_of_ble_eq_true rfl) (by decide) rfl (fun _ => rfl) (fun r2 m2 h => ?_) (fun _ h => h)
      refine b_aload_n dX10_readOr_24 rfl ?_
      refine b_cVi (as := []) (st := []) dX10_readOr_25 mf_X10_readAnd qs115 lk_X10_412 ly_582 rfl (hrec.1 _ _ _ h) (by omega) rfl rfl (Nat.le_of_ble_eq_true rfl) (by decide) rfl (fun _ => rfl) (fun r3 m3 h => ?_) (fun _ h => h)
      refine b_istore_n (ls' := [vR 582, vI x1, vI (m1 582 9), vI r3]) dX10_readOr_28 (Nat.le_of_ble_eq_true rfl) rfl ?_
      refine b_aload_n dX10_readOr_29 rfl ?_
      refine b_bipush dX10_readOr_30 (by decide) ?_
      refine b_iload_n dX10_readOr_32 rfl ?_
      refine b_iload_n dX10_readOr_33 rfl ?_
      refine b_iconst dX10_readOr_34 ?_
      refine b_iload_n dX10_readOr_35 rfl ?_
      refine b_cVi (as := [vI 11, vI x1, vI r3, vI (-1), vI (m1 582 9)]) (st := []) dX10_readOr_36 mf_X10_node qs107 lk_X10_381 ly_582 rfl (p_X10_node (f := 1) (Nat.le_refl _) _ _ _ _ _ _ h) (by omega) rfl rfl (Nat.le_of_ble_eq_true rfl) (by decide) rfl (fun _ => rfl) (fun r4 m4 h => ?_) (fun _ h => h)
      refine b_istore_n (ls' := [vR 582, vI r4, vI (m1 582 9), vI r3]) dX10_readOr_39 (Nat.le_of_ble_eq_true rfl) rfl ?_
      refine b_goto 5 dX10_readOr_40 (by decide) ?_
      refine b_fgt [true, true, false, false] (ls' := [vR 582, vI r4, vU, vU]) rfl rfl ?_
      exact ih _ _ h
theorem w_X10_readOr {f : Nat} {Q : Int → MM → Prop} {T : MM → Prop} {rec : Nat → List Int → MM → (Int → MM → Prop) → (MM → Prop) → Prop} {fr : Nat} (hrec : HR_X10_readE rec fr) (hf : 26 ≤ f ∧ fr + 1 ≤ f) (m : MM) (h : W_X10_readOr rec m Q T) : CC f M_X10_readOr [vR 582] m Q T := by
  refine CC.of (plainFor_of_name (by decide)) (Nat.le_of_ble_eq_true rfl) (ls := [vR 582, vU, vU, vU]) rfl ?_
  have h : rec 0 [] m (fun r1 m1 => ∃ nn, P_X10_readOr_5 rec Q T nn r1 m1) T := h
  refine b_aload_n dX10_readOr_0 rfl ?_
  refine b_cVi (as := []) (st := []) dX10_readOr_1 mf_X10_readAnd qs115 lk_X10_412 ly_582 rfl (hrec.1 _ _ _ h) (by omega) rfl rfl (Nat.le_of_ble_eq_true rfl) (by decide) rfl (fun _ => rfl) (fun r1 m1 h => ?_) (fun _ h => h)
  refine b_istore_n (ls' := [vR 582, vI r1, vU, vU]) dX10_readOr_4 (Nat.le_of_ble_eq_true rfl) rfl ?_
  obtain ⟨nn, h⟩ := h
  exact pl_X10_readOr_5 hrec hf nn _ _ h
theorem pl_X10_readProduct_81 {f : Nat} {Q : Int → MM → Prop} {T : MM → Prop} {rec : Nat → List Int → MM → (Int → MM → Prop) → (MM → Prop) → Prop} {fr : Nat} (hrec : HR_X10_readE rec fr) (hf : 26 ≤ f ∧ fr + 1 ≤ f) {K18 : Int → Int → MM → Prop} (hK18 : ∀ (x1 : Int) (x2 : Int) (m : MM), K18 x1 x2 m → B f M_X10_readProduct 18 [vR 582, vI x1, vI x2, vU, vU, vU] [] m Q T) : ∀ (x1 : Int) (s0 : Int) (m : MM), P_X10_readProduct_81 rec Q T K18 x1 s0 m → B f M_X10_readProduct 81 [vR 582, vI x1, vU, vU, vU, vU] [vI s0] m Q T := by
  intro x1 s0 m h
  have h : ((RI s0)) ∧ (RI (if s0 < 0 then 0 else 1 : Int)) ∧ (if (if s0 < 0 then 0 else 1 : Int) = 0 then K18 x1 (if s0 < 0 then 0 else 1 : Int) m else P_X10_accept m (fun r1 m1 => rec 10 [] m1 (fun r2 m2 => P_X10_node s0 x1 r2 (-1) (m 582 9) m2 (fun r3 m3 => K18 r3 (if s0 < 0 then 0 else 1 : Int) m3)) T)) := h
  refine b_istore_n (ls' := [vR 582, vI x1, vU, vI s0, vU, vU]) dX10_readProduct_81 (Nat.le_of_ble_eq_true rfl) rfl ?_
  refine b_iload_n dX10_readProduct_82 rfl ?_
  obtain ⟨hs, h⟩ := h
  have K : B f M_X10_readProduct 91 [vR 582, vI x1, vU, vI s0, vU, vU] [vI (if s0 < 0 then 0 else 1 : Int)] m Q T := by
    clear hs
    refine b_istore_n (ls' := [vR 582, vI x1, vI (if s0 < 0 then 0 else 1 : Int), vI s0, vU, vU]) dX10_readProduct_91 (Nat.le_of_ble_eq_true rfl) rfl ?_
    refine b_iload_n dX10_readProduct_92 rfl ?_
    obtain ⟨g2, h⟩ := h
    refine b_if_ne 99 dX10_readProduct_93 g2 (by decide) (fun c1 => ?_) (fun c1 => ?_)
    · have h := ifF c1 h
      refine b_aload_n dX10_readProduct_99 rfl ?_
      refine b_getI dX10_readProduct_100 fk_X10_324 ly_582 ?_
      refine b_istore (ls' := [vR 582, vI x1, vI (if s0 < 0 then 0 else 1 : Int), vI s0, vI (m 582 9), vU]) dX10_readProduct_103 (Nat.le_of_ble_eq_true rfl) rfl ?_
      refine b_aload_n dX10_readProduct_105 rfl ?_
      refine b_cVv (as := []) (st := []) dX10_readProduct_106 mf_X10_accept qs100 lk_X10_362 ly_582 rfl (p_X10_accept (f := 2) (Nat.le_refl _) _ h) (by omega) rfl rfl (Nat.le_of_ble_eq_true rfl) (by decide) rfl (fun _ => rfl) (fun r1 m1 h => ?_) (fun _ h => h)
      refine b_aload_n dX10_readProduct_109 rfl ?_
      refine b_cVi (as := []) (st := []) dX10_readProduct_110 mf_X10_readUnary qs120 lk_X10_427 ly_582 rfl (hrec.2.2.2.2.2.2.2.2.2.2.1 _ _ _ h) (by omega) rfl rfl (Nat.le_of_ble_eq_true rfl) (by decide) rfl (fun _ => rfl) (fun r2 m2 h => ?_) (fun _ h => h)
      refine b_istore (ls' := [vR 582, vI x1, vI (if s0 < 0 then 0 else 1 : Int), vI s0, vI (m 582 9), vI r2]) dX10_readProduct_113 (Nat.le_of_ble_eq_true rfl) rfl ?_
      refine b_aload_n dX10_readProduct_115 rfl ?_
      refine b_iload_n dX10_readProduct_116 rfl ?_
      refine b_iload_n dX10_readProduct_117 rfl ?_
      refine b_iload dX10_readProduct_118 rfl ?_
      refine b_iconst dX10_readProduct_120 ?_
      refine b_iload dX10_readProduct_121 rfl ?_
      refine b_cVi (as := [vI s0, vI x1, vI r2, vI (-1), vI (m 582 9)]) (st := []) dX10_readProduct_123 mf_X10_node qs107 lk_X10_381 ly_582 rfl (p_X10_node (f := 1) (Nat.le_refl _) _ _ _ _ _ _ h) (by omega) rfl rfl (Nat.le_of_ble_eq_true rfl) (by decide) rfl (fun _ => rfl) (fun r3 m3 h => ?_) (fun _ h => h)
      refine b_istore_n (ls' := [vR 582, vI r3, vI (if s0 < 0 then 0 else 1 : Int), vI s0, vI (m 582 9), vI r2]) dX10_readProduct_126 (Nat.le_of_ble_eq_true rfl) rfl ?_
      refine b_goto 18 dX10_readProduct_127 (by decide) ?_
      refine b_fgt [true, true, true, false, false, false] (ls' := [vR 582, vI r3, vI (if s0 < 0 then 0 else 1 : Int), vU, vU, vU]) rfl rfl ?_
      exact hK18 _ _ _ h
    · have h := ifT (Decidable.of_not_not c1) h
      refine b_goto 18 dX10_readProduct_96 (by decide) ?_
      refine b_fgt [true, true, true, false, false, false] (ls' := [vR 582, vI x1, vI (if s0 < 0 then 0 else 1 : Int), vU, vU, vU]) rfl rfl ?_
      exact hK18 _ _ _ h
  have g1 := hs
  refine b_if_lt 90 dX10_readProduct_83 g1 (by decide) (fun c2 => ?_) (fun c2 => ?_)
  ·
    refine b_iconst dX10_readProduct_90 ?_
    exact Eq.mp (congrArg (fun z => B f M_X10_readProduct 91 [vR 582, vI x1, vU, vI s0, vU, vU] (vI z :: []) m Q T) (show (if s0 < 0 then 0 else 1 : Int) = 0 by rw [if_pos c2])) K
  ·
    refine b_iconst dX10_readProduct_86 ?_
    refine b_goto 91 dX10_readProduct_87 (by decide) ?_
    exact Eq.mp (congrArg (fun z => B f M_X10_readProduct 91 [vR 582, vI x1, vU, vI s0, vU, vU] (vI z :: []) m Q T) (show (if s0 < 0 then 0 else 1 : Int) = 1 by rw [if_neg c2])) K
theorem pl_X10_readProduct_18 {f : Nat} {Q : Int → MM → Prop} {T : MM → Prop} {rec : Nat → List Int → MM → (Int → MM → Prop) → (MM → Prop) → Prop} {fr : Nat} (hrec : HR_X10_readE rec fr) (hf : 26 ≤ f ∧ fr + 1 ≤ f) : ∀ (n : Nat) (x1 : Int) (x2 : Int) (m : MM), P_X10_readProduct_18 rec Q T n x1 x2 m → B f M_X10_readProduct 18 [vR 582, vI x1, vI x2, vU, vU, vU] [] m Q T := by
  intro n
  induction n with
  | zero => intro x1 x2 m h; exact h.elim
  | succ n ih =>
    intro x1 x2 m h
    have h : (RI x2) ∧ (if x2 = 0 then Q x1 m else P_X10_isSign 42 m (fun r1 m1 => (RI r1) ∧ (if r1 = 0 then P_X10_isSign 47 m1 (fun r2 m2 => (RI r2) ∧ (if r2 = 0 then P_X10_isKey 7435631 m2 (fun r3 m3 => (RI r3) ∧ (if r3 = 0 then P_X10_isKey 7497069 m3 (fun r4 m4 => (RI r4) ∧ (if r4 = 0 then P_X10_readProduct_81 rec Q T (fun z0 z1 z2 => P_X10_readProduct_18 rec Q T n z0 z1 z2) x1 (-1) m4 else P_X10_readProduct_81 rec Q T (fun z0 z1 z2 => P_X10_readProduct_18 rec Q T n z0 z1 z2) x1 22 m4)) else P_X10_readProduct_81 rec Q T (fun z0 z1 z2 => P_X10_readProduct_18 rec Q T n z0 z1 z2) x1 21 m3)) else P_X10_readProduct_81 rec Q T (fun z0 z1 z2 => P_X10_readProduct_18 rec Q T n z0 z1 z2) x1 20 m2)) else P_X10_readProduct_81 rec Q T (fun z0 z1 z2 => P_X10_readProduct_18 rec Q T n z0 z1 z2) x1 19 m1))) := h
    refine b_iload_n dX10_readProduct_18 rfl ?_
    obtain ⟨g1, h⟩ := h
    refine b_if_eq 130 dX10_readProduct_19 g1 (by decide) (fun c1 => ?_) (fun c1 => ?_)
    · have h := ifT c1 h
      refine b_iload_n dX10_readProduct_130 rfl ?_
      exact b_iret dX10_readProduct_131 rfl h
    · have h := ifF c1 h
      refine b_aload_n dX10_readProduct_22 rfl ?_
      refine b_bipush dX10_readProduct_23 (by decide) ?_
      refine b_cVi (as := [vI 42]) (st := []) dX10_readProduct_25 mf_X10_isSign qs104 lk_X10_359 ly_582 rfl (p_X10_isSign (f := 1) (Nat.le_refl _) _ _ h) (by omega) rfl rfl (Nat.le_of_ble_eq_true rfl) (by decide) rfl (fun _ => rfl) (fun r1 m1 h => ?_) (fun _ h => h)
      obtain ⟨g2, h⟩ := h
      refine b_if_eq 36 dX10_readProduct_28 g2 (by decide) (fun c2 => ?_) (fun c2 => ?_)
      · have h := ifT c2 h
        refine b_aload_n dX10_readProduct_36 rfl ?_
        refine b_bipush dX10_readProduct_37 (by decide) ?_
        refine b_cVi (as := [vI 47]) (st := []) dX10_readProduct_39 mf_X10_isSign qs104 lk_X10_359 ly_582 rfl (p_X10_isSign (f := 1) (Nat.le_refl _) _ _ h) (by omega) rfl rfl (Nat.le_of_ble_eq_true rfl) (by decide) rfl (fun _ => rfl) (fun r2 m2 h => ?_) (fun _ h => h)
        obtain ⟨g3, h⟩ := h
        refine b_if_eq 50 dX10_readProduct_42 g3 (by decide) (fun c3 => ?_) (fun c3 => ?_)
        · have h := ifT c3 h
          refine b_aload_n dX10_readProduct_50 rfl ?_
          refine b_ldc2 (7435631) dX10_readProduct_51 q1623 (by decide) ?_
          refine b_cVi (as := [vL 7435631]) (st := []) dX10_readProduct_54 mf_X10_isKey qs108 lk_X10_365 ly_582 rfl (p_X10_isKey (f := 1) (Nat.le_refl _) _ _ h) (by omega) rfl rfl (Nat.le_of_ble_eq_true rfl) (by decide) rfl (fun _ => rfl) (fun r3 m3 h => ?_) (fun _ h => h)
          obtain ⟨g4, h⟩ := h
          refine b_if_eq 65 dX10_readProduct_57 g4 (by decide) (fun c4 => ?_) (fun c4 => ?_)
          · have h := ifT c4 h
            refine b_aload_n dX10_readProduct_65 rfl ?_
            refine b_ldc2 (7497069) dX10_readProduct_66 q1624 (by decide) ?_
            refine b_cVi (as := [vL 7497069]) (st := []) dX10_readProduct_69 mf_X10_isKey qs108 lk_X10_365 ly_582 rfl (p_X10_isKey (f := 1) (Nat.le_refl _) _ _ h) (by omega) rfl rfl (Nat.le_of_ble_eq_true rfl) (by decide) rfl (fun _ => rfl) (fun r4 m4 h => ?_) (fun _ h => h)
            obtain ⟨g5, h⟩ := h
            refine b_if_eq 80 dX10_readProduct_72 g5 (by decide) (fun c5 => ?_) (fun c5 => ?_)
            · have h := ifT c5 h
              refine b_iconst dX10_readProduct_80 ?_
              refine b_fgt [true, true, false, false, false, false] (ls' := [vR 582, vI x1, vU, vU, vU, vU]) rfl rfl ?_
              exact pl_X10_readProduct_81 hrec hf (fun _ _ _ h => ih _ _ _ h) _ _ _ h
            · have h := ifF c5 h
              refine b_bipush dX10_readProduct_75 (by decide) ?_
              refine b_goto 81 dX10_readProduct_77 (by decide) ?_
              refine b_fgt [true, true, false, false, false, false] (ls' := [vR 582, vI x1, vU, vU, vU, vU]) rfl rfl ?_
              exact pl_X10_readProduct_81 hrec hf (fun _ _ _ h => ih _ _ _ h) _ _ _ h
          · have h := ifF c4 h
            refine b_bipush dX10_readProduct_60 (by decide) ?_
            refine b_goto 81 dX10_readProduct_62 (by decide) ?_
            refine b_fgt [true, true, false, false, false, false] (ls' := [vR 582, vI x1, vU, vU, vU, vU]) rfl rfl ?_
            exact pl_X10_readProduct_81 hrec hf (fun _ _ _ h => ih _ _ _ h) _ _ _ h
        · have h := ifF c3 h
          refine b_bipush dX10_readProduct_45 (by decide) ?_
          refine b_goto 81 dX10_readProduct_47 (by decide) ?_
          refine b_fgt [true, true, false, false, false, false] (ls' := [vR 582, vI x1, vU, vU, vU, vU]) rfl rfl ?_
          exact pl_X10_readProduct_81 hrec hf (fun _ _ _ h => ih _ _ _ h) _ _ _ h
      · have h := ifF c2 h
        refine b_bipush dX10_readProduct_31 (by decide) ?_
        refine b_goto 81 dX10_readProduct_33 (by decide) ?_
        refine b_fgt [true, true, false, false, false, false] (ls' := [vR 582, vI x1, vU, vU, vU, vU]) rfl rfl ?_
        exact pl_X10_readProduct_81 hrec hf (fun _ _ _ h => ih _ _ _ h) _ _ _ h
theorem w_X10_readProduct {f : Nat} {Q : Int → MM → Prop} {T : MM → Prop} {rec : Nat → List Int → MM → (Int → MM → Prop) → (MM → Prop) → Prop} {fr : Nat} (hrec : HR_X10_readE rec fr) (hf : 26 ≤ f ∧ fr + 1 ≤ f) (m : MM) (h : W_X10_readProduct rec m Q T) : CC f M_X10_readProduct [vR 582] m Q T := by
  refine CC.of (plainFor_of_name (by decide)) (Nat.le_of_ble_eq_true rfl) (ls := [vR 582, vU, vU, vU, vU, vU]) rfl ?_
  have h : rec 10 [] m (fun r1 m1 => (RI (m1 582 10)) ∧ (if (m1 582 10) = 0 then ∃ nn, P_X10_readProduct_18 rec Q T nn r1 1 m1 else ∃ nn, P_X10_readProduct_18 rec Q T nn r1 0 m1)) T := h
  refine b_aload_n dX10_readProduct_0 rfl ?_
  refine b_cVi (as := []) (st := []) dX10_readProduct_1 mf_X10_readUnary qs120 lk_X10_427 ly_582 rfl (hrec.2.2.2.2.2.2.2.2.2.2.1 _ _ _ h) (by omega) rfl rfl (Nat.le_of_ble_eq_true rfl) (by decide) rfl (fun _ => rfl) (fun r1 m1 h => ?_) (fun _ h => h)
  refine b_istore_n (ls' := [vR 582, vI r1, vU, vU, vU, vU]) dX10_readProduct_4 (Nat.le_of_ble_eq_true rfl) rfl ?_
  refine b_aload_n dX10_readProduct_5 rfl ?_
  refine b_getI dX10_readProduct_6 fk_X10_347 ly_582 ?_
  obtain ⟨g1, h⟩ := h
  refine b_if_ne 16 dX10_readProduct_9 g1 (by decide) (fun c1 => ?_) (fun c1 => ?_)
  · have h := ifF c1 h
    refine b_iconst dX10_readProduct_16 ?_
    refine b_istore_n (ls' := [vR 582, vI r1, vI 0, vU, vU, vU]) dX10_readProduct_17 (Nat.le_of_ble_eq_true rfl) rfl ?_
    obtain ⟨nn, h⟩ := h
    exact pl_X10_readProduct_18 hrec hf nn _ _ _ h
  · have h := ifT (Decidable.of_not_not c1) h
    refine b_iconst dX10_readProduct_12 ?_
    refine b_goto 17 dX10_readProduct_13 (by decide) ?_
    refine b_istore_n (ls' := [vR 582, vI r1, vI 1, vU, vU, vU]) dX10_readProduct_17 (Nat.le_of_ble_eq_true rfl) rfl ?_
    obtain ⟨nn, h⟩ := h
    exact pl_X10_readProduct_18 hrec hf nn _ _ _ h
theorem pl_X10_readSum_23 {f : Nat} {Q : Int → MM → Prop} {T : MM → Prop} {rec : Nat → List Int → MM → (Int → MM → Prop) → (MM → Prop) → Prop} {fr : Nat} (hrec : HR_X10_readE rec fr) (hf : 26 ≤ f ∧ fr + 1 ≤ f) {K5 : Int → MM → Prop} (hK5 : ∀ (x1 : Int) (m : MM), K5 x1 m → B f M_X10_readSum 5 [vR 582, vI x1, vU, vU, vU] [] m Q T) : ∀ (x1 : Int) (m : MM), P_X10_readSum_23 rec Q T K5 x1 m → B f M_X10_readSum 23 [vR 582, vI x1, vU, vU, vU] [] m Q T := by
  intro x1 m h
  have h : P_X10_isSign 43 m (fun r1 m1 => ((RI r1)) ∧ P_X10_accept m1 (fun r2 m2 => rec 8 [] m2 (fun r3 m3 => P_X10_node (if r1 = 0 then 18 else 17 : Int) x1 r3 (-1) (m1 582 9) m3 (fun r4 m4 => K5 r4 m4)) T)) := h
  refine b_aload_n dX10_readSum_23 rfl ?_
  refine b_bipush dX10_readSum_24 (by decide) ?_
  refine b_cVi (as := [vI 43]) (st := []) dX10_readSum_26 mf_X10_isSign qs104 lk_X10_359 ly_582 rfl (p_X10_isSign (f := 1) (Nat.le_refl _) _ _ h) (by omega) rfl rfl (Nat.le_of_ble_eq_true rfl) (by decide) rfl (fun _ => rfl) (fun r1 m1 h => ?_) (fun _ h => h)
  obtain ⟨hs, h⟩ := h
  have K : B f M_X10_readSum 39 [vR 582, vI x1, vU, vU, vU] [vI (if r1 = 0 then 18 else 17 : Int)] m1 Q T := by
    clear hs
    refine b_istore_n (ls' := [vR 582, vI x1, vI (if r1 = 0 then 18 else 17 : Int), vU, vU]) dX10_readSum_39 (Nat.le_of_ble_eq_true rfl) rfl ?_
    refine b_aload_n dX10_readSum_40 rfl ?_
    refine b_getI dX10_readSum_41 fk_X10_324 ly_582 ?_
    refine b_istore_n (ls' := [vR 582, vI x1, vI (if r1 = 0 then 18 else 17 : Int), vI (m1 582 9), vU]) dX10_readSum_44 (Nat.le_of_ble_eq_true rfl) rfl ?_
    refine b_aload_n dX10_readSum_45 rfl ?_
    refine b_cVv (as := []) (st := []) dX10_readSum_46 mf_X10_accept qs100 lk_X10_362 ly_582 rfl (p_X10_accept (f := 2) (Nat.le_refl _) _ h) (by omega) rfl rfl (Nat.le_of_ble_eq_true rfl) (by decide) rfl (fun _ => rfl) (fun r2 m2 h => ?_) (fun _ h => h)
    refine b_aload_n dX10_readSum_49 rfl ?_
    refine b_cVi (as := []) (st := []) dX10_readSum_50 mf_X10_readProduct qs119 lk_X10_424 ly_582 rfl (hrec.2.2.2.2.2.2.2.2.1 _ _ _ h) (by omega) rfl rfl (Nat.le_of_ble_eq_true rfl) (by decide) rfl (fun _ => rfl) (fun r3 m3 h => ?_) (fun _ h => h)
    refine b_istore (ls' := [vR 582, vI x1, vI (if r1 = 0 then 18 else 17 : Int), vI (m1 582 9), vI r3]) dX10_readSum_53 (Nat.le_of_ble_eq_true rfl) rfl ?_
    refine b_aload_n dX10_readSum_55 rfl ?_
    refine b_iload_n dX10_readSum_56 rfl ?_
    refine b_iload_n dX10_readSum_57 rfl ?_
    refine b_iload dX10_readSum_58 rfl ?_
    refine b_iconst dX10_readSum_60 ?_
    refine b_iload_n dX10_readSum_61 rfl ?_
    refine b_cVi (as := [vI (if r1 = 0 then 18 else 17 : Int), vI x1, vI r3, vI (-1), vI (m1 582 9)]) (st := []) dX10_readSum_62 mf_X10_node qs107 lk_X10_381 ly_582 rfl (p_X10_node (f := 1) (Nat.le_refl _) _ _ _ _ _ _ h) (by omega) rfl rfl (Nat.le_of_ble_eq_true rfl) (by decide) rfl (fun _ => rfl) (fun r4 m4 h => ?_) (fun _ h => h)
    refine b_istore_n (ls' := [vR 582, vI r4, vI (if r1 = 0 then 18 else 17 : Int), vI (m1 582 9), vI r3]) dX10_readSum_65 (Nat.le_of_ble_eq_true rfl) rfl ?_
    refine b_goto 5 dX10_readSum_66 (by decide) ?_
    refine b_fgt [true, true, false, false, false] (ls' := [vR 582, vI r4, vU, vU, vU]) rfl rfl ?_
    exact hK5 _ _ h
  have g1 := hs
  refine b_if_eq 37 dX10_readSum_29 g1 (by decide) (fun c1 => ?_) (fun c1 => ?_)
  ·
    refine b_bipush dX10_readSum_37 (by decide) ?_
    exact Eq.mp (congrArg (fun z => B f M_X10_readSum 39 [vR 582, vI x1, vU, vU, vU] (vI z :: []) m1 Q T) (show (if r1 = 0 then 18 else 17 : Int) = 18 by rw [if_pos c1])) K
  ·
    refine b_bipush dX10_readSum_32 (by decide) ?_
    refine b_goto 39 dX10_readSum_34 (by decide) ?_
    exact Eq.mp (congrArg (fun z => B f M_X10_readSum 39 [vR 582, vI x1, vU, vU, vU] (vI z :: []) m1 Q T) (show (if r1 = 0 then 18 else 17 : Int) = 17 by rw [if_neg c1])) K
theorem pl_X10_readSum_5 {f : Nat} {Q : Int → MM → Prop} {T : MM → Prop} {rec : Nat → List Int → MM → (Int → MM → Prop) → (MM → Prop) → Prop} {fr : Nat} (hrec : HR_X10_readE rec fr) (hf : 26 ≤ f ∧ fr + 1 ≤ f) : ∀ (n : Nat) (x1 : Int) (m : MM), P_X10_readSum_5 rec Q T n x1 m → B f M_X10_readSum 5 [vR 582, vI x1, vU, vU, vU] [] m Q T := by
  intro n
  induction n with
  | zero => intro x1 m h; exact h.elim
  | succ n ih =>
    intro x1 m h
    have h : P_X10_isSign 43 m (fun r1 m1 => (RI r1) ∧ (if r1 = 0 then P_X10_isSign 45 m1 (fun r2 m2 => (RI r2) ∧ (if r2 = 0 then Q x1 m2 else P_X10_readSum_23 rec Q T (fun z0 z1 => P_X10_readSum_5 rec Q T n z0 z1) x1 m2)) else P_X10_readSum_23 rec Q T (fun z0 z1 => P_X10_readSum_5 rec Q T n z0 z1) x1 m1)) := h
    refine b_aload_n dX10_readSum_5 rfl ?_
    refine b_bipush dX10_readSum_6 (by decide) ?_
    refine b_cVi (as := [vI 43]) (st := []) dX10_readSum_8 mf_X10_isSign qs104 lk_X10_359 ly_582 rfl (p_X10_isSign (f := 1) (Nat.le_refl _) _ _ h) (by omega) rfl rfl (Nat.le_of_ble_eq_true rfl) (by decide) rfl (fun _ => rfl) (fun r1 m1 h => ?_) (fun _ h => h)
    obtain ⟨g1, h⟩ := h
    refine b_if_ne 23 dX10_readSum_11 g1 (by decide) (fun c1 => ?_) (fun c1 => ?_)
    · have h := ifF c1 h
      exact pl_X10_readSum_23 hrec hf (fun _ _ h => ih _ _ h) _ _ h
    · have h := ifT (Decidable.of_not_not c1) h
      refine b_aload_n dX10_readSum_14 rfl ?_
      refine b_bipush dX10_readSum_15 (by decide) ?_
      refine b_cVi (as := [vI 45]) (st := []) dX10_readSum_17 mf_X10_isSign qs104 lk_X10_359 ly_582 rfl (p_X10_isSign (f := 1) (Nat.le_refl _) _ _ h) (by omega) rfl rfl (Nat.le_of_ble_eq_true rfl) (by decide) rfl (fun _ => rfl) (fun r2 m2 h => ?_) (fun _ h => h)
      obtain ⟨g2, h⟩ := h
      refine b_if_eq 69 dX10_readSum_20 g2 (by decide) (fun c2 => ?_) (fun c2 => ?_)
      · have h := ifT c2 h
        refine b_iload_n dX10_readSum_69 rfl ?_
        exact b_iret dX10_readSum_70 rfl h
      · have h := ifF c2 h
        exact pl_X10_readSum_23 hrec hf (fun _ _ h => ih _ _ h) _ _ h
theorem w_X10_readSum {f : Nat} {Q : Int → MM → Prop} {T : MM → Prop} {rec : Nat → List Int → MM → (Int → MM → Prop) → (MM → Prop) → Prop} {fr : Nat} (hrec : HR_X10_readE rec fr) (hf : 26 ≤ f ∧ fr + 1 ≤ f) (m : MM) (h : W_X10_readSum rec m Q T) : CC f M_X10_readSum [vR 582] m Q T := by
  refine CC.of (plainFor_of_name (by decide)) (Nat.le_of_ble_eq_true rfl) (ls := [vR 582, vU, vU, vU, vU]) rfl ?_
  have h : rec 8 [] m (fun r1 m1 => ∃ nn, P_X10_readSum_5 rec Q T nn r1 m1) T := h
  refine b_aload_n dX10_readSum_0 rfl ?_
  refine b_cVi (as := []) (st := []) dX10_readSum_1 mf_X10_readProduct qs119 lk_X10_424 ly_582 rfl (hrec.2.2.2.2.2.2.2.2.1 _ _ _ h) (by omega) rfl rfl (Nat.le_of_ble_eq_true rfl) (by decide) rfl (fun _ => rfl) (fun r1 m1 h => ?_) (fun _ h => h)
  refine b_istore_n (ls' := [vR 582, vI r1, vU, vU, vU]) dX10_readSum_4 (Nat.le_of_ble_eq_true rfl) rfl ?_
  obtain ⟨nn, h⟩ := h
  exact pl_X10_readSum_5 hrec hf nn _ _ h
theorem w_X10_readUnary {f : Nat} {Q : Int → MM → Prop} {T : MM → Prop} {rec : Nat → List Int → MM → (Int → MM → Prop) → (MM → Prop) → Prop} {fr : Nat} (hrec : HR_X10_readE rec fr) (hf : 26 ≤ f ∧ fr + 1 ≤ f) (m : MM) (h : W_X10_readUnary rec m Q T) : CC f M_X10_readUnary [vR 582] m Q T := by
  refine CC.of (plainFor_of_name (by decide)) (Nat.le_of_ble_eq_true rfl) (ls := [vR 582, vU, vU]) rfl ?_
  have h : P_X10_takesSign 45 m (fun r1 m1 => (RI r1) ∧ (if r1 = 0 then rec 2 [] m1 (fun r5 m6 => Q r5 m6) T else P_X10_opens (m 582 9) m1 (fun r2 m2 => rec 10 [] m2 (fun r3 m3 => ∀ m4 : MM, m4 = up m3 582 12 ((m3 582 12) - 1) → P_X10_node 10 r3 (-1) (-1) (m 582 9) m4 (fun r4 m5 => Q r4 m5)) T))) := h
  refine b_aload_n dX10_readUnary_0 rfl ?_
  refine b_getI dX10_readUnary_1 fk_X10_324 ly_582 ?_
  refine b_istore_n (ls' := [vR 582, vI (m 582 9), vU]) dX10_readUnary_4 (Nat.le_of_ble_eq_true rfl) rfl ?_
  refine b_aload_n dX10_readUnary_5 rfl ?_
  refine b_bipush dX10_readUnary_6 (by decide) ?_
  refine b_cVi (as := [vI 45]) (st := []) dX10_readUnary_8 mf_X10_takesSign qs110 lk_X10_430 ly_582 rfl (p_X10_takesSign (f := 3) (Nat.le_refl _) _ _ h) (by omega) rfl rfl (Nat.le_of_ble_eq_true rfl) (by decide) rfl (fun _ => rfl) (fun r1 m1 h => ?_) (fun _ h => h)
  obtain ⟨g1, h⟩ := h
  refine b_if_ne 19 dX10_readUnary_11 g1 (by decide) (fun c1 => ?_) (fun c1 => ?_)
  · have h := ifF c1 h
    refine b_aload_n dX10_readUnary_19 rfl ?_
    refine b_iload_n dX10_readUnary_20 rfl ?_
    refine b_cVv (as := [vI (m 582 9)]) (st := []) dX10_readUnary_21 mf_X10_opens qs105 lk_X10_375 ly_582 rfl (p_X10_opens (f := 1) (Nat.le_refl _) _ _ h) (by omega) rfl rfl (Nat.le_of_ble_eq_true rfl) (by decide) rfl (fun _ => rfl) (fun r2 m2 h => ?_) (fun _ h => h)
    refine b_aload_n dX10_readUnary_24 rfl ?_
    refine b_cVi (as := []) (st := []) dX10_readUnary_25 mf_X10_readUnary qs120 lk_X10_427 ly_582 rfl (hrec.2.2.2.2.2.2.2.2.2.2.1 _ _ _ h) (by omega) rfl rfl (Nat.le_of_ble_eq_true rfl) (by decide) rfl (fun _ => rfl) (fun r3 m3 h => ?_) (fun _ h => h)
    refine b_istore_n (ls' := [vR 582, vI (m 582 9), vI r3]) dX10_readUnary_28 (Nat.le_of_ble_eq_true rfl) rfl ?_
    refine b_aload_n dX10_readUnary_29 rfl ?_
    refine b_dup dX10_readUnary_30 rfl ?_
    refine b_getI dX10_readUnary_31 fk_X10_369 ly_582 ?_
    refine b_iconst dX10_readUnary_34 ?_
    refine b_isub dX10_readUnary_35 ?_
    refine b_putI dX10_readUnary_36 fk_X10_369 ly_582 (fun m4 em4 => ?_)
    have h := h m4 em4
    refine b_aload_n dX10_readUnary_39 rfl ?_
    refine b_bipush dX10_readUnary_40 (by decide) ?_
    refine b_iload_n dX10_readUnary_42 rfl ?_
    refine b_iconst dX10_readUnary_43 ?_
    refine b_iconst dX10_readUnary_44 ?_
    refine b_iload_n dX10_readUnary_45 rfl ?_
    refine b_cVi (as := [vI 10, vI r3, vI (-1), vI (-1), vI (m 582 9)]) (st := []) dX10_readUnary_46 mf_X10_node qs107 lk_X10_381 ly_582 rfl (p_X10_node (f := 1) (Nat.le_refl _) _ _ _ _ _ _ h) (by omega) rfl rfl (Nat.le_of_ble_eq_true rfl) (by decide) rfl (fun _ => rfl) (fun r4 m5 h => ?_) (fun _ h => h)
    exact b_iret dX10_readUnary_49 rfl h
  · have h := ifT (Decidable.of_not_not c1) h
    refine b_aload_n dX10_readUnary_14 rfl ?_
    refine b_cVi (as := []) (st := []) dX10_readUnary_15 mf_X10_readBehind qs121 lk_X10_433 ly_582 rfl (hrec.2.2.1 _ _ _ h) (by omega) rfl rfl (Nat.le_of_ble_eq_true rfl) (by decide) rfl (fun _ => rfl) (fun r5 m6 h => ?_) (fun _ h => h)
    exact b_iret dX10_readUnary_18 rfl h
def R_X10_readE : Nat → Nat → List Int → MM → (Int → MM → Prop) → (MM → Prop) → Prop
  | 0, _, _, _, _, _ => False
  | d + 1, i, as, m, Q, T => match i, as with
    | 0, [] => W_X10_readAnd (R_X10_readE d) m Q T
    | 1, [] => W_X10_readAtom (R_X10_readE d) m Q T
    | 2, [] => W_X10_readBehind (R_X10_readE d) m Q T
    | 3, [] => W_X10_readCompare (R_X10_readE d) m Q T
    | 4, [] => W_X10_readE (R_X10_readE d) m Q T
    | 5, [x1] => W_X10_readItems (R_X10_readE d) x1 m Q T
    | 6, [] => W_X10_readNot (R_X10_readE d) m Q T
    | 7, [] => W_X10_readOr (R_X10_readE d) m Q T
    | 8, [] => W_X10_readProduct (R_X10_readE d) m Q T
    | 9, [] => W_X10_readSum (R_X10_readE d) m Q T
    | 10, [] => W_X10_readUnary (R_X10_readE d) m Q T
    | _, _ => False
theorem pr_X10_readE : ∀ d f : Nat, 26 + d ≤ f → HR_X10_readE (R_X10_readE d) f := by
  intro d
  induction d with
  | zero => intro f hf; exact ⟨fun _ _ _ h => h.elim, fun _ _ _ h => h.elim, fun _ _ _ h => h.elim, fun _ _ _ h => h.elim, fun _ _ _ h => h.elim, fun _ _ _ _ h => h.elim, fun _ _ _ h => h.elim, fun _ _ _ h => h.elim, fun _ _ _ h => h.elim, fun _ _ _ h => h.elim, fun _ _ _ h => h.elim, trivial⟩
  | succ d ih =>
    intro f hf
    have hr := ih (f - 1) (by omega)
    exact ⟨fun m _ _ h => w_X10_readAnd hr (show 26 ≤ f ∧ f - 1 + 1 ≤ f by omega) m h, fun m _ _ h => w_X10_readAtom hr (show 26 ≤ f ∧ f - 1 + 1 ≤ f by omega) m h, fun m _ _ h => w_X10_readBehind hr (show 26 ≤ f ∧ f - 1 + 1 ≤ f by omega) m h, fun m _ _ h => w_X10_readCompare hr (show 26 ≤ f ∧ f - 1 + 1 ≤ f by omega) m h, fun m _ _ h => w_X10_readE hr (show 26 ≤ f ∧ f - 1 + 1 ≤ f by omega) m h, fun x1 m _ _ h => w_X10_readItems hr (show 26 ≤ f ∧ f - 1 + 1 ≤ f by omega) x1 m h, fun m _ _ h => w_X10_readNot hr (show 26 ≤ f ∧ f - 1 + 1 ≤ f by omega) m h, fun m _ _ h => w_X10_readOr hr (show 26 ≤ f ∧ f - 1 + 1 ≤ f by omega) m h, fun m _ _ h => w_X10_readProduct hr (show 26 ≤ f ∧ f - 1 + 1 ≤ f by omega) m h, fun m _ _ h => w_X10_readSum hr (show 26 ≤ f ∧ f - 1 + 1 ≤ f by omega) m h, fun m _ _ h => w_X10_readUnary hr (show 26 ≤ f ∧ f - 1 + 1 ≤ f by omega) m h, trivial⟩
