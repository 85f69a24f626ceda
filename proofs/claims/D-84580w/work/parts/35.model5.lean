set_option maxRecDepth 100000
theorem dX10_evalPart_0 : decode cX10_evalPart 0 = .ok (.aload_n 0, 1) := by decide +kernel
theorem dX10_evalPart_1 : decode cX10_evalPart 1 = .ok (.aload_n 0, 1) := by decide +kernel
theorem dX10_evalPart_2 : decode cX10_evalPart 2 = .ok (.iload_n 1, 1) := by decide +kernel
theorem dX10_evalPart_3 : decode cX10_evalPart 3 = .ok (.invokevirtual 802, 3) := by decide +kernel
theorem dX10_evalPart_6 : decode cX10_evalPart 6 = .ok (.invokevirtual 805, 3) := by decide +kernel
theorem dX10_evalPart_9 : decode cX10_evalPart 9 = .ok (.ifCond .ne 4, 3) := by decide +kernel
theorem dX10_evalPart_12 : decode cX10_evalPart 12 = .ok (.return_, 1) := by decide +kernel
theorem dX10_evalPart_13 : decode cX10_evalPart 13 = .ok (.aload_n 0, 1) := by decide +kernel
theorem dX10_evalPart_14 : decode cX10_evalPart 14 = .ok (.getfield 109, 3) := by decide +kernel
theorem dX10_evalPart_17 : decode cX10_evalPart 17 = .ok (.iload_n 1, 1) := by decide +kernel
theorem dX10_evalPart_18 : decode cX10_evalPart 18 = .ok (.iaload, 1) := by decide +kernel
theorem dX10_evalPart_19 : decode cX10_evalPart 19 = .ok (.istore_n 2, 1) := by decide +kernel
theorem dX10_evalPart_20 : decode cX10_evalPart 20 = .ok (.aload_n 0, 1) := by decide +kernel
theorem dX10_evalPart_21 : decode cX10_evalPart 21 = .ok (.getfield 106, 3) := by decide +kernel
theorem dX10_evalPart_24 : decode cX10_evalPart 24 = .ok (.iload_n 1, 1) := by decide +kernel
theorem dX10_evalPart_25 : decode cX10_evalPart 25 = .ok (.iaload, 1) := by decide +kernel
theorem dX10_evalPart_26 : decode cX10_evalPart 26 = .ok (.invokestatic 463, 3) := by decide +kernel
theorem dX10_evalPart_29 : decode cX10_evalPart 29 = .ok (.ifCond .eq 18, 3) := by decide +kernel
theorem dX10_evalPart_32 : decode cX10_evalPart 32 = .ok (.aload_n 0, 1) := by decide +kernel
theorem dX10_evalPart_33 : decode cX10_evalPart 33 = .ok (.iconst 1, 1) := by decide +kernel
theorem dX10_evalPart_34 : decode cX10_evalPart 34 = .ok (.iload_n 1, 1) := by decide +kernel
theorem dX10_evalPart_35 : decode cX10_evalPart 35 = .ok (.iconst 0, 1) := by decide +kernel
theorem dX10_evalPart_36 : decode cX10_evalPart 36 = .ok (.iconst 0, 1) := by decide +kernel
theorem dX10_evalPart_37 : decode cX10_evalPart 37 = .ok (.iconst 0, 1) := by decide +kernel
theorem dX10_evalPart_38 : decode cX10_evalPart 38 = .ok (.invokevirtual 730, 3) := by decide +kernel
theorem dX10_evalPart_41 : decode cX10_evalPart 41 = .ok (.aload_n 0, 1) := by decide +kernel
theorem dX10_evalPart_42 : decode cX10_evalPart 42 = .ok (.iload_n 2, 1) := by decide +kernel
theorem dX10_evalPart_43 : decode cX10_evalPart 43 = .ok (.invokevirtual 733, 3) := by decide +kernel
theorem dX10_evalPart_46 : decode cX10_evalPart 46 = .ok (.return_, 1) := by decide +kernel
theorem dX10_evalPart_47 : decode cX10_evalPart 47 = .ok (.aload_n 0, 1) := by decide +kernel
theorem dX10_evalPart_48 : decode cX10_evalPart 48 = .ok (.getfield 106, 3) := by decide +kernel
theorem dX10_evalPart_51 : decode cX10_evalPart 51 = .ok (.iload_n 1, 1) := by decide +kernel
theorem dX10_evalPart_52 : decode cX10_evalPart 52 = .ok (.iaload, 1) := by decide +kernel
theorem dX10_evalPart_53 : decode cX10_evalPart 53 = .ok (.tableswitch 309 0 7 #[47, 64, 78, 93, 145, 238, 248, 271], 47) := by decide +kernel
theorem dX10_evalPart_100 : decode cX10_evalPart 100 = .ok (.aload_n 0, 1) := by decide +kernel
theorem dX10_evalPart_101 : decode cX10_evalPart 101 = .ok (.aload_n 0, 1) := by decide +kernel
theorem dX10_evalPart_102 : decode cX10_evalPart 102 = .ok (.invokevirtual 808, 3) := by decide +kernel
theorem dX10_evalPart_105 : decode cX10_evalPart 105 = .ok (.aload_n 0, 1) := by decide +kernel
theorem dX10_evalPart_106 : decode cX10_evalPart 106 = .ok (.getfield 152, 3) := by decide +kernel
theorem dX10_evalPart_109 : decode cX10_evalPart 109 = .ok (.iload_n 1, 1) := by decide +kernel
theorem dX10_evalPart_110 : decode cX10_evalPart 110 = .ok (.laload, 1) := by decide +kernel
theorem dX10_evalPart_111 : decode cX10_evalPart 111 = .ok (.invokevirtual 633, 3) := by decide +kernel
theorem dX10_evalPart_114 : decode cX10_evalPart 114 = .ok (.goto 293, 3) := by decide +kernel
theorem dX10_evalPart_117 : decode cX10_evalPart 117 = .ok (.aload_n 0, 1) := by decide +kernel
theorem dX10_evalPart_118 : decode cX10_evalPart 118 = .ok (.aload_n 0, 1) := by decide +kernel
theorem dX10_evalPart_119 : decode cX10_evalPart 119 = .ok (.invokevirtual 808, 3) := by decide +kernel
theorem dX10_evalPart_122 : decode cX10_evalPart 122 = .ok (.iconst 2, 1) := by decide +kernel
theorem dX10_evalPart_123 : decode cX10_evalPart 123 = .ok (.iadd, 1) := by decide +kernel
theorem dX10_evalPart_124 : decode cX10_evalPart 124 = .ok (.lconst 1, 1) := by decide +kernel
theorem dX10_evalPart_125 : decode cX10_evalPart 125 = .ok (.invokevirtual 633, 3) := by decide +kernel
theorem dX10_evalPart_128 : decode cX10_evalPart 128 = .ok (.goto 279, 3) := by decide +kernel
theorem dX10_evalPart_131 : decode cX10_evalPart 131 = .ok (.aload_n 0, 1) := by decide +kernel
theorem dX10_evalPart_132 : decode cX10_evalPart 132 = .ok (.aload_n 0, 1) := by decide +kernel
theorem dX10_evalPart_133 : decode cX10_evalPart 133 = .ok (.invokevirtual 808, 3) := by decide +kernel
theorem dX10_evalPart_136 : decode cX10_evalPart 136 = .ok (.bipush 14, 2) := by decide +kernel
theorem dX10_evalPart_138 : decode cX10_evalPart 138 = .ok (.iadd, 1) := by decide +kernel
theorem dX10_evalPart_139 : decode cX10_evalPart 139 = .ok (.lconst 1, 1) := by decide +kernel
theorem dX10_evalPart_140 : decode cX10_evalPart 140 = .ok (.invokevirtual 633, 3) := by decide +kernel
theorem dX10_evalPart_143 : decode cX10_evalPart 143 = .ok (.goto 264, 3) := by decide +kernel
theorem dX10_evalPart_146 : decode cX10_evalPart 146 = .ok (.aload_n 0, 1) := by decide +kernel
theorem dX10_evalPart_147 : decode cX10_evalPart 147 = .ok (.invokevirtual 808, 3) := by decide +kernel
theorem dX10_evalPart_150 : decode cX10_evalPart 150 = .ok (.istore_n 3, 1) := by decide +kernel
theorem dX10_evalPart_151 : decode cX10_evalPart 151 = .ok (.iconst 0, 1) := by decide +kernel
theorem dX10_evalPart_152 : decode cX10_evalPart 152 = .ok (.istore 4, 2) := by decide +kernel
theorem dX10_evalPart_154 : decode cX10_evalPart 154 = .ok (.iload 4, 2) := by decide +kernel
theorem dX10_evalPart_156 : decode cX10_evalPart 156 = .ok (.sipush 882, 3) := by decide +kernel
theorem dX10_evalPart_159 : decode cX10_evalPart 159 = .ok (.if_icmp .ge 36, 3) := by decide +kernel
theorem dX10_evalPart_162 : decode cX10_evalPart 162 = .ok (.aload_n 0, 1) := by decide +kernel
theorem dX10_evalPart_163 : decode cX10_evalPart 163 = .ok (.getfield 250, 3) := by decide +kernel
theorem dX10_evalPart_166 : decode cX10_evalPart 166 = .ok (.iload_n 3, 1) := by decide +kernel
theorem dX10_evalPart_167 : decode cX10_evalPart 167 = .ok (.iload 4, 2) := by decide +kernel
theorem dX10_evalPart_169 : decode cX10_evalPart 169 = .ok (.iadd, 1) := by decide +kernel
theorem dX10_evalPart_170 : decode cX10_evalPart 170 = .ok (.aload_n 0, 1) := by decide +kernel
theorem dX10_evalPart_171 : decode cX10_evalPart 171 = .ok (.getfield 225, 3) := by decide +kernel
theorem dX10_evalPart_174 : decode cX10_evalPart 174 = .ok (.sipush 882, 3) := by decide +kernel
theorem dX10_evalPart_177 : decode cX10_evalPart 177 = .ok (.aload_n 0, 1) := by decide +kernel
theorem dX10_evalPart_178 : decode cX10_evalPart 178 = .ok (.getfield 127, 3) := by decide +kernel
theorem dX10_evalPart_181 : decode cX10_evalPart 181 = .ok (.iload_n 1, 1) := by decide +kernel
theorem dX10_evalPart_182 : decode cX10_evalPart 182 = .ok (.iaload, 1) := by decide +kernel
theorem dX10_evalPart_183 : decode cX10_evalPart 183 = .ok (.imul, 1) := by decide +kernel
theorem dX10_evalPart_184 : decode cX10_evalPart 184 = .ok (.iload 4, 2) := by decide +kernel
theorem dX10_evalPart_186 : decode cX10_evalPart 186 = .ok (.iadd, 1) := by decide +kernel
theorem dX10_evalPart_187 : decode cX10_evalPart 187 = .ok (.laload, 1) := by decide +kernel
theorem dX10_evalPart_188 : decode cX10_evalPart 188 = .ok (.lastore, 1) := by decide +kernel
theorem dX10_evalPart_189 : decode cX10_evalPart 189 = .ok (.iinc 4 1, 3) := by decide +kernel
theorem dX10_evalPart_192 : decode cX10_evalPart 192 = .ok (.goto (-38), 3) := by decide +kernel
theorem dX10_evalPart_195 : decode cX10_evalPart 195 = .ok (.goto 212, 3) := by decide +kernel
theorem dX10_evalPart_198 : decode cX10_evalPart 198 = .ok (.aload_n 0, 1) := by decide +kernel
theorem dX10_evalPart_199 : decode cX10_evalPart 199 = .ok (.invokevirtual 808, 3) := by decide +kernel
theorem dX10_evalPart_202 : decode cX10_evalPart 202 = .ok (.istore_n 3, 1) := by decide +kernel
theorem dX10_evalPart_203 : decode cX10_evalPart 203 = .ok (.aload_n 0, 1) := by decide +kernel
theorem dX10_evalPart_204 : decode cX10_evalPart 204 = .ok (.getfield 124, 3) := by decide +kernel
theorem dX10_evalPart_207 : decode cX10_evalPart 207 = .ok (.iload_n 1, 1) := by decide +kernel
theorem dX10_evalPart_208 : decode cX10_evalPart 208 = .ok (.iaload, 1) := by decide +kernel
theorem dX10_evalPart_209 : decode cX10_evalPart 209 = .ok (.ifCond .ne 25, 3) := by decide +kernel
theorem dX10_evalPart_212 : decode cX10_evalPart 212 = .ok (.aload_n 0, 1) := by decide +kernel
theorem dX10_evalPart_213 : decode cX10_evalPart 213 = .ok (.iload_n 3, 1) := by decide +kernel
theorem dX10_evalPart_214 : decode cX10_evalPart 214 = .ok (.aload_n 0, 1) := by decide +kernel
theorem dX10_evalPart_215 : decode cX10_evalPart 215 = .ok (.getfield 811, 3) := by decide +kernel
theorem dX10_evalPart_218 : decode cX10_evalPart 218 = .ok (.aload_n 0, 1) := by decide +kernel
theorem dX10_evalPart_219 : decode cX10_evalPart 219 = .ok (.getfield 127, 3) := by decide +kernel
theorem dX10_evalPart_222 : decode cX10_evalPart 222 = .ok (.iload_n 1, 1) := by decide +kernel
theorem dX10_evalPart_223 : decode cX10_evalPart 223 = .ok (.iaload, 1) := by decide +kernel
theorem dX10_evalPart_224 : decode cX10_evalPart 224 = .ok (.iadd, 1) := by decide +kernel
theorem dX10_evalPart_225 : decode cX10_evalPart 225 = .ok (.invokestatic 721, 3) := by decide +kernel
theorem dX10_evalPart_228 : decode cX10_evalPart 228 = .ok (.sipush 882, 3) := by decide +kernel
theorem dX10_evalPart_231 : decode cX10_evalPart 231 = .ok (.invokevirtual 658, 3) := by decide +kernel
theorem dX10_evalPart_234 : decode cX10_evalPart 234 = .ok (.iconst 0, 1) := by decide +kernel
theorem dX10_evalPart_235 : decode cX10_evalPart 235 = .ok (.istore 4, 2) := by decide +kernel
theorem dX10_evalPart_237 : decode cX10_evalPart 237 = .ok (.aload_n 0, 1) := by decide +kernel
theorem dX10_evalPart_238 : decode cX10_evalPart 238 = .ok (.getfield 124, 3) := by decide +kernel
theorem dX10_evalPart_241 : decode cX10_evalPart 241 = .ok (.iload_n 1, 1) := by decide +kernel
theorem dX10_evalPart_242 : decode cX10_evalPart 242 = .ok (.iaload, 1) := by decide +kernel
theorem dX10_evalPart_243 : decode cX10_evalPart 243 = .ok (.iconst 1, 1) := by decide +kernel
theorem dX10_evalPart_244 : decode cX10_evalPart 244 = .ok (.if_icmp .ne 44, 3) := by decide +kernel
theorem dX10_evalPart_247 : decode cX10_evalPart 247 = .ok (.iload 4, 2) := by decide +kernel
theorem dX10_evalPart_249 : decode cX10_evalPart 249 = .ok (.sipush 882, 3) := by decide +kernel
theorem dX10_evalPart_252 : decode cX10_evalPart 252 = .ok (.if_icmp .ge 36, 3) := by decide +kernel
theorem dX10_evalPart_255 : decode cX10_evalPart 255 = .ok (.aload_n 0, 1) := by decide +kernel
theorem dX10_evalPart_256 : decode cX10_evalPart 256 = .ok (.getfield 250, 3) := by decide +kernel
theorem dX10_evalPart_259 : decode cX10_evalPart 259 = .ok (.iload_n 3, 1) := by decide +kernel
theorem dX10_evalPart_260 : decode cX10_evalPart 260 = .ok (.iload 4, 2) := by decide +kernel
theorem dX10_evalPart_262 : decode cX10_evalPart 262 = .ok (.iadd, 1) := by decide +kernel
theorem dX10_evalPart_263 : decode cX10_evalPart 263 = .ok (.aload_n 0, 1) := by decide +kernel
theorem dX10_evalPart_264 : decode cX10_evalPart 264 = .ok (.getfield 228, 3) := by decide +kernel
theorem dX10_evalPart_267 : decode cX10_evalPart 267 = .ok (.sipush 882, 3) := by decide +kernel
theorem dX10_evalPart_270 : decode cX10_evalPart 270 = .ok (.aload_n 0, 1) := by decide +kernel
theorem dX10_evalPart_271 : decode cX10_evalPart 271 = .ok (.getfield 127, 3) := by decide +kernel
theorem dX10_evalPart_274 : decode cX10_evalPart 274 = .ok (.iload_n 1, 1) := by decide +kernel
theorem dX10_evalPart_275 : decode cX10_evalPart 275 = .ok (.iaload, 1) := by decide +kernel
theorem dX10_evalPart_276 : decode cX10_evalPart 276 = .ok (.imul, 1) := by decide +kernel
theorem dX10_evalPart_277 : decode cX10_evalPart 277 = .ok (.iload 4, 2) := by decide +kernel
theorem dX10_evalPart_279 : decode cX10_evalPart 279 = .ok (.iadd, 1) := by decide +kernel
theorem dX10_evalPart_280 : decode cX10_evalPart 280 = .ok (.laload, 1) := by decide +kernel
theorem dX10_evalPart_281 : decode cX10_evalPart 281 = .ok (.lastore, 1) := by decide +kernel
theorem dX10_evalPart_282 : decode cX10_evalPart 282 = .ok (.iinc 4 1, 3) := by decide +kernel
theorem dX10_evalPart_285 : decode cX10_evalPart 285 = .ok (.goto (-48), 3) := by decide +kernel
theorem dX10_evalPart_288 : decode cX10_evalPart 288 = .ok (.goto 119, 3) := by decide +kernel
theorem dX10_evalPart_291 : decode cX10_evalPart 291 = .ok (.aload_n 0, 1) := by decide +kernel
theorem dX10_evalPart_292 : decode cX10_evalPart 292 = .ok (.iload_n 1, 1) := by decide +kernel
theorem dX10_evalPart_293 : decode cX10_evalPart 293 = .ok (.iload_n 2, 1) := by decide +kernel
theorem dX10_evalPart_294 : decode cX10_evalPart 294 = .ok (.iconst 0, 1) := by decide +kernel
theorem dX10_evalPart_295 : decode cX10_evalPart 295 = .ok (.invokevirtual 758, 3) := by decide +kernel
theorem dX10_evalPart_298 : decode cX10_evalPart 298 = .ok (.goto 109, 3) := by decide +kernel
theorem dX10_evalPart_301 : decode cX10_evalPart 301 = .ok (.aload_n 0, 1) := by decide +kernel
theorem dX10_evalPart_302 : decode cX10_evalPart 302 = .ok (.bipush 10, 2) := by decide +kernel
theorem dX10_evalPart_304 : decode cX10_evalPart 304 = .ok (.iload_n 1, 1) := by decide +kernel
theorem dX10_evalPart_305 : decode cX10_evalPart 305 = .ok (.iconst 0, 1) := by decide +kernel
theorem dX10_evalPart_306 : decode cX10_evalPart 306 = .ok (.iconst 0, 1) := by decide +kernel
theorem dX10_evalPart_307 : decode cX10_evalPart 307 = .ok (.iconst 0, 1) := by decide +kernel
theorem dX10_evalPart_308 : decode cX10_evalPart 308 = .ok (.invokevirtual 730, 3) := by decide +kernel
theorem dX10_evalPart_311 : decode cX10_evalPart 311 = .ok (.aload_n 0, 1) := by decide +kernel
theorem dX10_evalPart_312 : decode cX10_evalPart 312 = .ok (.aload_n 0, 1) := by decide +kernel
theorem dX10_evalPart_313 : decode cX10_evalPart 313 = .ok (.getfield 109, 3) := by decide +kernel
theorem dX10_evalPart_316 : decode cX10_evalPart 316 = .ok (.iload_n 2, 1) := by decide +kernel
theorem dX10_evalPart_317 : decode cX10_evalPart 317 = .ok (.iaload, 1) := by decide +kernel
theorem dX10_evalPart_318 : decode cX10_evalPart 318 = .ok (.invokevirtual 733, 3) := by decide +kernel
theorem dX10_evalPart_321 : decode cX10_evalPart 321 = .ok (.goto 86, 3) := by decide +kernel
theorem dX10_evalPart_324 : decode cX10_evalPart 324 = .ok (.aload_n 0, 1) := by decide +kernel
theorem dX10_evalPart_325 : decode cX10_evalPart 325 = .ok (.invokevirtual 808, 3) := by decide +kernel
theorem dX10_evalPart_328 : decode cX10_evalPart 328 = .ok (.istore_n 3, 1) := by decide +kernel
theorem dX10_evalPart_329 : decode cX10_evalPart 329 = .ok (.aload_n 0, 1) := by decide +kernel
theorem dX10_evalPart_330 : decode cX10_evalPart 330 = .ok (.bipush 7, 2) := by decide +kernel
theorem dX10_evalPart_332 : decode cX10_evalPart 332 = .ok (.iload_n 1, 1) := by decide +kernel
theorem dX10_evalPart_333 : decode cX10_evalPart 333 = .ok (.iload_n 2, 1) := by decide +kernel
theorem dX10_evalPart_334 : decode cX10_evalPart 334 = .ok (.aload_n 0, 1) := by decide +kernel
theorem dX10_evalPart_335 : decode cX10_evalPart 335 = .ok (.getfield 109, 3) := by decide +kernel
theorem dX10_evalPart_338 : decode cX10_evalPart 338 = .ok (.iload_n 2, 1) := by decide +kernel
theorem dX10_evalPart_339 : decode cX10_evalPart 339 = .ok (.iaload, 1) := by decide +kernel
theorem dX10_evalPart_340 : decode cX10_evalPart 340 = .ok (.iconst 0, 1) := by decide +kernel
theorem dX10_evalPart_341 : decode cX10_evalPart 341 = .ok (.invokevirtual 730, 3) := by decide +kernel
theorem dX10_evalPart_344 : decode cX10_evalPart 344 = .ok (.aload_n 0, 1) := by decide +kernel
theorem dX10_evalPart_345 : decode cX10_evalPart 345 = .ok (.aload_n 0, 1) := by decide +kernel
theorem dX10_evalPart_346 : decode cX10_evalPart 346 = .ok (.getfield 109, 3) := by decide +kernel
theorem dX10_evalPart_349 : decode cX10_evalPart 349 = .ok (.aload_n 0, 1) := by decide +kernel
theorem dX10_evalPart_350 : decode cX10_evalPart 350 = .ok (.getfield 109, 3) := by decide +kernel
theorem dX10_evalPart_353 : decode cX10_evalPart 353 = .ok (.iload_n 2, 1) := by decide +kernel
theorem dX10_evalPart_354 : decode cX10_evalPart 354 = .ok (.iaload, 1) := by decide +kernel
theorem dX10_evalPart_355 : decode cX10_evalPart 355 = .ok (.iaload, 1) := by decide +kernel
theorem dX10_evalPart_356 : decode cX10_evalPart 356 = .ok (.invokevirtual 733, 3) := by decide +kernel
theorem dX10_evalPart_359 : decode cX10_evalPart 359 = .ok (.goto 48, 3) := by decide +kernel
theorem dX10_evalPart_362 : decode cX10_evalPart 362 = .ok (.aload_n 0, 1) := by decide +kernel
theorem dX10_evalPart_363 : decode cX10_evalPart 363 = .ok (.aload_n 0, 1) := by decide +kernel
theorem dX10_evalPart_364 : decode cX10_evalPart 364 = .ok (.getfield 106, 3) := by decide +kernel
theorem dX10_evalPart_367 : decode cX10_evalPart 367 = .ok (.iload_n 1, 1) := by decide +kernel
theorem dX10_evalPart_368 : decode cX10_evalPart 368 = .ok (.iaload, 1) := by decide +kernel
theorem dX10_evalPart_369 : decode cX10_evalPart 369 = .ok (.bipush 8, 2) := by decide +kernel
theorem dX10_evalPart_371 : decode cX10_evalPart 371 = .ok (.if_icmp .ne 7, 3) := by decide +kernel
theorem dX10_evalPart_374 : decode cX10_evalPart 374 = .ok (.iconst 3, 1) := by decide +kernel
theorem dX10_evalPart_375 : decode cX10_evalPart 375 = .ok (.goto 20, 3) := by decide +kernel
theorem dX10_evalPart_378 : decode cX10_evalPart 378 = .ok (.aload_n 0, 1) := by decide +kernel
theorem dX10_evalPart_379 : decode cX10_evalPart 379 = .ok (.getfield 106, 3) := by decide +kernel
theorem dX10_evalPart_382 : decode cX10_evalPart 382 = .ok (.iload_n 1, 1) := by decide +kernel
theorem dX10_evalPart_383 : decode cX10_evalPart 383 = .ok (.iaload, 1) := by decide +kernel
theorem dX10_evalPart_384 : decode cX10_evalPart 384 = .ok (.bipush 9, 2) := by decide +kernel
theorem dX10_evalPart_386 : decode cX10_evalPart 386 = .ok (.if_icmp .ne 7, 3) := by decide +kernel
theorem dX10_evalPart_389 : decode cX10_evalPart 389 = .ok (.iconst 5, 1) := by decide +kernel
theorem dX10_evalPart_390 : decode cX10_evalPart 390 = .ok (.goto 5, 3) := by decide +kernel
theorem dX10_evalPart_393 : decode cX10_evalPart 393 = .ok (.bipush 6, 2) := by decide +kernel
theorem dX10_evalPart_395 : decode cX10_evalPart 395 = .ok (.iload_n 1, 1) := by decide +kernel
theorem dX10_evalPart_396 : decode cX10_evalPart 396 = .ok (.iconst 0, 1) := by decide +kernel
theorem dX10_evalPart_397 : decode cX10_evalPart 397 = .ok (.iconst 0, 1) := by decide +kernel
theorem dX10_evalPart_398 : decode cX10_evalPart 398 = .ok (.iconst 0, 1) := by decide +kernel
theorem dX10_evalPart_399 : decode cX10_evalPart 399 = .ok (.invokevirtual 730, 3) := by decide +kernel
theorem dX10_evalPart_402 : decode cX10_evalPart 402 = .ok (.aload_n 0, 1) := by decide +kernel
theorem dX10_evalPart_403 : decode cX10_evalPart 403 = .ok (.iload_n 2, 1) := by decide +kernel
theorem dX10_evalPart_404 : decode cX10_evalPart 404 = .ok (.invokevirtual 733, 3) := by decide +kernel
theorem dX10_evalPart_407 : decode cX10_evalPart 407 = .ok (.return_, 1) := by decide +kernel
/-! AlgebraHouseModel.evalPart(I)V -/
def P_X10_evalPart_154 (Q : Int → MM → Prop) : Nat → Int → Int → Int → MM → Prop
  | 0, _, _, _, _ => False
  | n + 1, x1, x3, x4, m => (RI x4) ∧ (if 882 ≤ x4 then Q 0 m else (0 ≤ x1 ∧ x1 < 12000) ∧ (0 ≤ ((882 * (m 597 x1)) + x4) ∧ ((882 * (m 597 x1)) + x4) < 176400) ∧ (0 ≤ (x3 + x4) ∧ (x3 + x4) < 1600000) ∧ ∀ m1 : MM, m1 = up m 635 (x3 + x4) (m 629 ((882 * (m 597 x1)) + x4)) → P_X10_evalPart_154 Q n x1 x3 (x4 + 1) m1)
def P_X10_evalPart_237 (Q : Int → MM → Prop) : Nat → Int → Int → Int → MM → Prop
  | 0, _, _, _, _ => False
  | n + 1, x1, x3, x4, m => (0 ≤ x1 ∧ x1 < 12000) ∧ (RI (m 596 x1)) ∧ (if (m 596 x1) = 1 then (RI x4) ∧ (if 882 ≤ x4 then Q 0 m else (0 ≤ ((882 * (m 597 x1)) + x4) ∧ ((882 * (m 597 x1)) + x4) < 17640) ∧ (0 ≤ (x3 + x4) ∧ (x3 + x4) < 1600000) ∧ ∀ m1 : MM, m1 = up m 635 (x3 + x4) (m 630 ((882 * (m 597 x1)) + x4)) → P_X10_evalPart_237 Q n x1 x3 (x4 + 1) m1) else Q 0 m)
def P_X10_evalPart (x1 : Int) (m : MM) (Q : Int → MM → Prop) : Prop := P_X10_stepsOf x1 m (fun r1 m1 => P_X10_step r1 m1 (fun r2 m2 => (RI r2) ∧ (if r2 = 0 then Q 0 m2 else (0 ≤ x1 ∧ x1 < 12000) ∧ P_X10_isLeft (m2 590 x1) m2 (fun r3 m3 => (RI r3) ∧ (if r3 = 0 then (RI (m3 590 x1)) ∧ (if (m3 590 x1) = 0 then P_X10_newValue m3 (fun r4 m4 => P_X10_set r4 (m4 605 x1) m4 (fun r5 m5 => Q 0 m5)) else (if (m3 590 x1) = 1 then P_X10_newValue m3 (fun r6 m6 => P_X10_set (r6 + 2) 1 m6 (fun r7 m7 => Q 0 m7)) else (if (m3 590 x1) = 2 then P_X10_newValue m3 (fun r8 m8 => P_X10_set (r8 + 14) 1 m8 (fun r9 m9 => Q 0 m9)) else (if (m3 590 x1) = 3 then P_X10_newValue m3 (fun r10 m10 => ∃ nn, P_X10_evalPart_154 Q nn x1 r10 0 m10) else (if (m3 590 x1) = 4 then P_X10_newValue m3 (fun r11 m11 => (RI (m11 596 x1)) ∧ (if (m11 596 x1) = 0 then P_X10_valueAt ((m11 582 93) + (m11 597 x1)) m11 (fun r12 m12 => P_X10_copy r11 r12 882 m12 (fun r13 m13 => ∃ nn, P_X10_evalPart_237 Q nn x1 r11 0 m13)) else ∃ nn, P_X10_evalPart_237 Q nn x1 r11 0 m11)) else (if (m3 590 x1) = 5 then P_X10_arguments x1 (m2 591 x1) 0 m3 (fun r14 m14 => Q 0 m14) else (if (m3 590 x1) = 6 then P_X10_later_2 10 x1 0 0 0 m3 (fun r15 m15 => (0 ≤ (m2 591 x1) ∧ (m2 591 x1) < 12000) ∧ P_X10_later (m15 591 (m2 591 x1)) m15 (fun r16 m16 => Q 0 m16)) else (if (m3 590 x1) = 7 then P_X10_newValue m3 (fun r17 m17 => (0 ≤ (m2 591 x1) ∧ (m2 591 x1) < 12000) ∧ P_X10_later_2 7 x1 (m2 591 x1) (m17 591 (m2 591 x1)) 0 m17 (fun r18 m18 => (0 ≤ (m18 591 (m2 591 x1)) ∧ (m18 591 (m2 591 x1)) < 12000) ∧ P_X10_later (m18 591 (m18 591 (m2 591 x1))) m18 (fun r19 m19 => Q 0 m19))) else P_X10_later_2 (if (m3 590 x1) = 8 then 3 else (if (m3 590 x1) = 9 then 5 else 6 : Int) : Int) x1 0 0 0 m3 (fun r20 m20 => P_X10_later (m2 591 x1) m20 (fun r21 m21 => Q 0 m21)))))))))) else P_X10_later_2 1 x1 0 0 0 m3 (fun r22 m22 => P_X10_later (m2 591 x1) m22 (fun r23 m23 => Q 0 m23)))))))
theorem pl_X10_evalPart_154 {f : Nat} {Q : Int → MM → Prop} {T : MM → Prop} (hf : 327 ≤ f) : ∀ (n : Nat) (x1 : Int) (x3 : Int) (x4 : Int) (m : MM), P_X10_evalPart_154 Q n x1 x3 x4 m → B f M_X10_evalPart 154 [vR 582, vI x1, vU, vI x3, vI x4] [] m Q T := by
  intro n
  induction n with
  | zero => intro x1 x3 x4 m h; exact h.elim
  | succ n ih =>
    intro x1 x3 x4 m h
    have h : (RI x4) ∧ (if 882 ≤ x4 then Q 0 m else (0 ≤ x1 ∧ x1 < 12000) ∧ (0 ≤ ((882 * (m 597 x1)) + x4) ∧ ((882 * (m 597 x1)) + x4) < 176400) ∧ (0 ≤ (x3 + x4) ∧ (x3 + x4) < 1600000) ∧ ∀ m1 : MM, m1 = up m 635 (x3 + x4) (m 629 ((882 * (m 597 x1)) + x4)) → P_X10_evalPart_154 Q n x1 x3 (x4 + 1) m1) := h
    refine b_iload dX10_evalPart_154 rfl ?_
    refine b_sipush dX10_evalPart_156 (by decide) ?_
    obtain ⟨g1, h⟩ := h
    refine b_icmp_ge 195 dX10_evalPart_159 g1 (by decide) (by decide) (fun c1 => ?_) (fun c1 => ?_)
    · have h := ifT c1 h
      refine b_goto 407 dX10_evalPart_195 (by decide) ?_
      exact b_vret dX10_evalPart_407 rfl h
    · have h := ifF c1 h
      refine b_aload_n dX10_evalPart_162 rfl ?_
      refine b_getR dX10_evalPart_163 fk_X10_250 ly_582 gg_582_85 ?_
      refine b_iload_n dX10_evalPart_166 rfl ?_
      refine b_iload dX10_evalPart_167 rfl ?_
      refine b_iadd dX10_evalPart_169 ?_
      refine b_aload_n dX10_evalPart_170 rfl ?_
      refine b_getR dX10_evalPart_171 fk_X10_225 ly_582 gg_582_58 ?_
      refine b_sipush dX10_evalPart_174 (by decide) ?_
      refine b_aload_n dX10_evalPart_177 rfl ?_
      refine b_getR dX10_evalPart_178 fk_X10_127 ly_582 gg_582_23 ?_
      refine b_iload_n dX10_evalPart_181 rfl ?_
      obtain ⟨g2, h⟩ := h
      refine b_iald dX10_evalPart_182 ly_597 g2 ?_
      refine b_imul dX10_evalPart_183 ?_
      refine b_iload dX10_evalPart_184 rfl ?_
      refine b_iadd dX10_evalPart_186 ?_
      obtain ⟨g3, h⟩ := h
      refine b_lald dX10_evalPart_187 ly_629 g3 ?_
      obtain ⟨g4, h⟩ := h
      refine b_last dX10_evalPart_188 ly_635 g4 (fun m1 em1 => ?_)
      have h := h m1 em1
      refine b_iinc (ls' := [vR 582, vI x1, vU, vI x3, vI (x4 + 1)]) dX10_evalPart_189 rfl rfl ?_
      refine b_goto 154 dX10_evalPart_192 (by decide) ?_
      exact ih _ _ _ _ h
theorem pl_X10_evalPart_237 {f : Nat} {Q : Int → MM → Prop} {T : MM → Prop} (hf : 327 ≤ f) : ∀ (n : Nat) (x1 : Int) (x3 : Int) (x4 : Int) (m : MM), P_X10_evalPart_237 Q n x1 x3 x4 m → B f M_X10_evalPart 237 [vR 582, vI x1, vU, vI x3, vI x4] [] m Q T := by
  intro n
  induction n with
  | zero => intro x1 x3 x4 m h; exact h.elim
  | succ n ih =>
    intro x1 x3 x4 m h
    have h : (0 ≤ x1 ∧ x1 < 12000) ∧ (RI (m 596 x1)) ∧ (if (m 596 x1) = 1 then (RI x4) ∧ (if 882 ≤ x4 then Q 0 m else (0 ≤ ((882 * (m 597 x1)) + x4) ∧ ((882 * (m 597 x1)) + x4) < 17640) ∧ (0 ≤ (x3 + x4) ∧ (x3 + x4) < 1600000) ∧ ∀ m1 : MM, m1 = up m 635 (x3 + x4) (m 630 ((882 * (m 597 x1)) + x4)) → P_X10_evalPart_237 Q n x1 x3 (x4 + 1) m1) else Q 0 m) := h
    refine b_aload_n dX10_evalPart_237 rfl ?_
    refine b_getR dX10_evalPart_238 fk_X10_124 ly_582 gg_582_22 ?_
    refine b_iload_n dX10_evalPart_241 rfl ?_
    obtain ⟨g1, h⟩ := h
    refine b_iald dX10_evalPart_242 ly_596 g1 ?_
    refine b_iconst dX10_evalPart_243 ?_
    obtain ⟨g2, h⟩ := h
    refine b_icmp_ne 288 dX10_evalPart_244 g2 (by decide) (by decide) (fun c1 => ?_) (fun c1 => ?_)
    · have h := ifF c1 h
      refine b_goto 407 dX10_evalPart_288 (by decide) ?_
      exact b_vret dX10_evalPart_407 rfl h
    · have h := ifT (Decidable.of_not_not c1) h
      refine b_iload dX10_evalPart_247 rfl ?_
      refine b_sipush dX10_evalPart_249 (by decide) ?_
      obtain ⟨g3, h⟩ := h
      refine b_icmp_ge 288 dX10_evalPart_252 g3 (by decide) (by decide) (fun c2 => ?_) (fun c2 => ?_)
      · have h := ifT c2 h
        refine b_goto 407 dX10_evalPart_288 (by decide) ?_
        exact b_vret dX10_evalPart_407 rfl h
      · have h := ifF c2 h
        refine b_aload_n dX10_evalPart_255 rfl ?_
        refine b_getR dX10_evalPart_256 fk_X10_250 ly_582 gg_582_85 ?_
        refine b_iload_n dX10_evalPart_259 rfl ?_
        refine b_iload dX10_evalPart_260 rfl ?_
        refine b_iadd dX10_evalPart_262 ?_
        refine b_aload_n dX10_evalPart_263 rfl ?_
        refine b_getR dX10_evalPart_264 fk_X10_228 ly_582 gg_582_59 ?_
        refine b_sipush dX10_evalPart_267 (by decide) ?_
        refine b_aload_n dX10_evalPart_270 rfl ?_
        refine b_getR dX10_evalPart_271 fk_X10_127 ly_582 gg_582_23 ?_
        refine b_iload_n dX10_evalPart_274 rfl ?_
        refine b_iald dX10_evalPart_275 ly_597 g1 ?_
        refine b_imul dX10_evalPart_276 ?_
        refine b_iload dX10_evalPart_277 rfl ?_
        refine b_iadd dX10_evalPart_279 ?_
        obtain ⟨g4, h⟩ := h
        refine b_lald dX10_evalPart_280 ly_630 g4 ?_
        obtain ⟨g5, h⟩ := h
        refine b_last dX10_evalPart_281 ly_635 g5 (fun m1 em1 => ?_)
        have h := h m1 em1
        refine b_iinc (ls' := [vR 582, vI x1, vU, vI x3, vI (x4 + 1)]) dX10_evalPart_282 rfl rfl ?_
        refine b_goto 237 dX10_evalPart_285 (by decide) ?_
        exact ih _ _ _ _ h
theorem p_X10_evalPart {f : Nat} {Q : Int → MM → Prop} {T : MM → Prop} (hf : 327 ≤ f) (x1 : Int) (m : MM) (h : P_X10_evalPart x1 m Q) : CC f M_X10_evalPart [vR 582, vI x1] m Q T := by
  refine CC.of (plainFor_of_name (by decide)) (Nat.le_of_ble_eq_true rfl) (ls := [vR 582, vI x1, vU, vU, vU]) rfl ?_
  have h : P_X10_stepsOf x1 m (fun r1 m1 => P_X10_step r1 m1 (fun r2 m2 => (RI r2) ∧ (if r2 = 0 then Q 0 m2 else (0 ≤ x1 ∧ x1 < 12000) ∧ P_X10_isLeft (m2 590 x1) m2 (fun r3 m3 => (RI r3) ∧ (if r3 = 0 then (RI (m3 590 x1)) ∧ (if (m3 590 x1) = 0 then P_X10_newValue m3 (fun r4 m4 => P_X10_set r4 (m4 605 x1) m4 (fun r5 m5 => Q 0 m5)) else (if (m3 590 x1) = 1 then P_X10_newValue m3 (fun r6 m6 => P_X10_set (r6 + 2) 1 m6 (fun r7 m7 => Q 0 m7)) else (if (m3 590 x1) = 2 then P_X10_newValue m3 (fun r8 m8 => P_X10_set (r8 + 14) 1 m8 (fun r9 m9 => Q 0 m9)) else (if (m3 590 x1) = 3 then P_X10_newValue m3 (fun r10 m10 => ∃ nn, P_X10_evalPart_154 Q nn x1 r10 0 m10) else (if (m3 590 x1) = 4 then P_X10_newValue m3 (fun r11 m11 => (RI (m11 596 x1)) ∧ (if (m11 596 x1) = 0 then P_X10_valueAt ((m11 582 93) + (m11 597 x1)) m11 (fun r12 m12 => P_X10_copy r11 r12 882 m12 (fun r13 m13 => ∃ nn, P_X10_evalPart_237 Q nn x1 r11 0 m13)) else ∃ nn, P_X10_evalPart_237 Q nn x1 r11 0 m11)) else (if (m3 590 x1) = 5 then P_X10_arguments x1 (m2 591 x1) 0 m3 (fun r14 m14 => Q 0 m14) else (if (m3 590 x1) = 6 then P_X10_later_2 10 x1 0 0 0 m3 (fun r15 m15 => (0 ≤ (m2 591 x1) ∧ (m2 591 x1) < 12000) ∧ P_X10_later (m15 591 (m2 591 x1)) m15 (fun r16 m16 => Q 0 m16)) else (if (m3 590 x1) = 7 then P_X10_newValue m3 (fun r17 m17 => (0 ≤ (m2 591 x1) ∧ (m2 591 x1) < 12000) ∧ P_X10_later_2 7 x1 (m2 591 x1) (m17 591 (m2 591 x1)) 0 m17 (fun r18 m18 => (0 ≤ (m18 591 (m2 591 x1)) ∧ (m18 591 (m2 591 x1)) < 12000) ∧ P_X10_later (m18 591 (m18 591 (m2 591 x1))) m18 (fun r19 m19 => Q 0 m19))) else P_X10_later_2 (if (m3 590 x1) = 8 then 3 else (if (m3 590 x1) = 9 then 5 else 6 : Int) : Int) x1 0 0 0 m3 (fun r20 m20 => P_X10_later (m2 591 x1) m20 (fun r21 m21 => Q 0 m21)))))))))) else P_X10_later_2 1 x1 0 0 0 m3 (fun r22 m22 => P_X10_later (m2 591 x1) m22 (fun r23 m23 => Q 0 m23))))))) := h
  refine b_aload_n dX10_evalPart_0 rfl ?_
  refine b_aload_n dX10_evalPart_1 rfl ?_
  refine b_iload_n dX10_evalPart_2 rfl ?_
  refine b_cVl (as := [vI x1]) (st := [vR 582]) dX10_evalPart_3 mf_X10_stepsOf qs158 lk_X10_802 ly_582 rfl (p_X10_stepsOf (f := 2) (Nat.le_refl _) _ _ h) (by omega) rfl rfl (Nat.le_of_ble_eq_true rfl) (by decide) rfl (fun _ => rfl) (fun r1 m1 h => ?_) (fun _ h => h)
  refine b_cVi (as := [vL r1]) (st := []) dX10_evalPart_6 mf_X10_step qs160 lk_X10_805 ly_582 rfl (p_X10_step (f := 1) (Nat.le_refl _) _ _ h) (by omega) rfl rfl (Nat.le_of_ble_eq_true rfl) (by decide) rfl (fun _ => rfl) (fun r2 m2 h => ?_) (fun _ h => h)
  obtain ⟨g1, h⟩ := h
  refine b_if_ne 13 dX10_evalPart_9 g1 (by decide) (fun c1 => ?_) (fun c1 => ?_)
  · have h := ifF c1 h
    refine b_aload_n dX10_evalPart_13 rfl ?_
    refine b_getR dX10_evalPart_14 fk_X10_109 ly_582 gg_582_17 ?_
    refine b_iload_n dX10_evalPart_17 rfl ?_
    obtain ⟨g2, h⟩ := h
    refine b_iald dX10_evalPart_18 ly_591 g2 ?_
    refine b_istore_n (ls' := [vR 582, vI x1, vI (m2 591 x1), vU, vU]) dX10_evalPart_19 (Nat.le_of_ble_eq_true rfl) rfl ?_
    refine b_aload_n dX10_evalPart_20 rfl ?_
    refine b_getR dX10_evalPart_21 fk_X10_106 ly_582 gg_582_16 ?_
    refine b_iload_n dX10_evalPart_24 rfl ?_
    refine b_iald dX10_evalPart_25 ly_590 g2 ?_
    refine b_cSi (as := [vI (m2 590 x1)]) (st := []) dX10_evalPart_26 mf_X10_isLeft lk_X10_463 (p_X10_isLeft (f := 1) (Nat.le_refl _) _ _ h) (by omega) rfl rfl (Nat.le_of_ble_eq_true rfl) (by decide) rfl (fun _ => rfl) (fun r3 m3 h => ?_) (fun _ h => h)
    obtain ⟨g3, h⟩ := h
    refine b_if_eq 47 dX10_evalPart_29 g3 (by decide) (fun c2 => ?_) (fun c2 => ?_)
    · have h := ifT c2 h
      refine b_aload_n dX10_evalPart_47 rfl ?_
      refine b_getR dX10_evalPart_48 fk_X10_106 ly_582 gg_582_16 ?_
      refine b_iload_n dX10_evalPart_51 rfl ?_
      refine b_iald dX10_evalPart_52 ly_590 g2 ?_
      obtain ⟨g4, h⟩ := h
      by_cases c3 : (m3 590 x1) = 0
      · have h := ifT c3 h
        refine b_tswIn 100 dX10_evalPart_53 g4 (by omega) (by omega) (by rw [c3]; rfl) (by decide) ?_
        refine b_aload_n dX10_evalPart_100 rfl ?_
        refine b_aload_n dX10_evalPart_101 rfl ?_
        refine b_cVi (as := []) (st := [vR 582]) dX10_evalPart_102 mf_X10_newValue qs161 lk_X10_808 ly_582 rfl (p_X10_newValue (f := 3) (Nat.le_refl _) _ h) (by omega) rfl rfl (Nat.le_of_ble_eq_true rfl) (by decide) rfl (fun _ => rfl) (fun r4 m4 h => ?_) (fun _ h => h)
        refine b_aload_n dX10_evalPart_105 rfl ?_
        refine b_getR dX10_evalPart_106 fk_X10_152 ly_582 gg_582_31 ?_
        refine b_iload_n dX10_evalPart_109 rfl ?_
        refine b_lald dX10_evalPart_110 ly_605 g2 ?_
        refine b_cVv (as := [vI r4, vL (m4 605 x1)]) (st := []) dX10_evalPart_111 mf_X10_set qs163 lk_X10_633 ly_582 rfl (p_X10_set (f := 1) (Nat.le_refl _) _ _ _ h) (by omega) rfl rfl (Nat.le_of_ble_eq_true rfl) (by decide) rfl (fun _ => rfl) (fun r5 m5 h => ?_) (fun _ h => h)
        refine b_goto 407 dX10_evalPart_114 (by decide) ?_
        exact b_vret dX10_evalPart_407 rfl h
      have h := ifF c3 h
      by_cases c4 : (m3 590 x1) = 1
      · have h := ifT c4 h
        refine b_tswIn 117 dX10_evalPart_53 g4 (by omega) (by omega) (by rw [c4]; rfl) (by decide) ?_
        refine b_aload_n dX10_evalPart_117 rfl ?_
        refine b_aload_n dX10_evalPart_118 rfl ?_
        refine b_cVi (as := []) (st := [vR 582]) dX10_evalPart_119 mf_X10_newValue qs161 lk_X10_808 ly_582 rfl (p_X10_newValue (f := 3) (Nat.le_refl _) _ h) (by omega) rfl rfl (Nat.le_of_ble_eq_true rfl) (by decide) rfl (fun _ => rfl) (fun r6 m6 h => ?_) (fun _ h => h)
        refine b_iconst dX10_evalPart_122 ?_
        refine b_iadd dX10_evalPart_123 ?_
        refine b_lconst 1 dX10_evalPart_124 (by decide) ?_
        refine b_cVv (as := [vI (r6 + 2), vL 1]) (st := []) dX10_evalPart_125 mf_X10_set qs163 lk_X10_633 ly_582 rfl (p_X10_set (f := 1) (Nat.le_refl _) _ _ _ h) (by omega) rfl rfl (Nat.le_of_ble_eq_true rfl) (by decide) rfl (fun _ => rfl) (fun r7 m7 h => ?_) (fun _ h => h)
        refine b_goto 407 dX10_evalPart_128 (by decide) ?_
        exact b_vret dX10_evalPart_407 rfl h
      have h := ifF c4 h
      by_cases c5 : (m3 590 x1) = 2
      · have h := ifT c5 h
        refine b_tswIn 131 dX10_evalPart_53 g4 (by omega) (by omega) (by rw [c5]; rfl) (by decide) ?_
        refine b_aload_n dX10_evalPart_131 rfl ?_
        refine b_aload_n dX10_evalPart_132 rfl ?_
        refine b_cVi (as := []) (st := [vR 582]) dX10_evalPart_133 mf_X10_newValue qs161 lk_X10_808 ly_582 rfl (p_X10_newValue (f := 3) (Nat.le_refl _) _ h) (by omega) rfl rfl (Nat.le_of_ble_eq_true rfl) (by decide) rfl (fun _ => rfl) (fun r8 m8 h => ?_) (fun _ h => h)
        refine b_bipush dX10_evalPart_136 (by decide) ?_
        refine b_iadd dX10_evalPart_138 ?_
        refine b_lconst 1 dX10_evalPart_139 (by decide) ?_
        refine b_cVv (as := [vI (r8 + 14), vL 1]) (st := []) dX10_evalPart_140 mf_X10_set qs163 lk_X10_633 ly_582 rfl (p_X10_set (f := 1) (Nat.le_refl _) _ _ _ h) (by omega) rfl rfl (Nat.le_of_ble_eq_true rfl) (by decide) rfl (fun _ => rfl) (fun r9 m9 h => ?_) (fun _ h => h)
        refine b_goto 407 dX10_evalPart_143 (by decide) ?_
        exact b_vret dX10_evalPart_407 rfl h
      have h := ifF c5 h
      by_cases c6 : (m3 590 x1) = 3
      · have h := ifT c6 h
        refine b_tswIn 146 dX10_evalPart_53 g4 (by omega) (by omega) (by rw [c6]; rfl) (by decide) ?_
        refine b_aload_n dX10_evalPart_146 rfl ?_
        refine b_cVi (as := []) (st := []) dX10_evalPart_147 mf_X10_newValue qs161 lk_X10_808 ly_582 rfl (p_X10_newValue (f := 3) (Nat.le_refl _) _ h) (by omega) rfl rfl (Nat.le_of_ble_eq_true rfl) (by decide) rfl (fun _ => rfl) (fun r10 m10 h => ?_) (fun _ h => h)
        refine b_istore_n (ls' := [vR 582, vI x1, vI (m2 591 x1), vI r10, vU]) dX10_evalPart_150 (Nat.le_of_ble_eq_true rfl) rfl ?_
        refine b_iconst dX10_evalPart_151 ?_
        refine b_istore (ls' := [vR 582, vI x1, vI (m2 591 x1), vI r10, vI 0]) dX10_evalPart_152 (Nat.le_of_ble_eq_true rfl) rfl ?_
        refine b_fgt [true, true, false, true, true] (ls' := [vR 582, vI x1, vU, vI r10, vI 0]) rfl rfl ?_
        obtain ⟨nn, h⟩ := h
        exact pl_X10_evalPart_154 hf nn _ _ _ _ h
      have h := ifF c6 h
      by_cases c7 : (m3 590 x1) = 4
      · have h := ifT c7 h
        refine b_tswIn 198 dX10_evalPart_53 g4 (by omega) (by omega) (by rw [c7]; rfl) (by decide) ?_
        refine b_aload_n dX10_evalPart_198 rfl ?_
        refine b_cVi (as := []) (st := []) dX10_evalPart_199 mf_X10_newValue qs161 lk_X10_808 ly_582 rfl (p_X10_newValue (f := 3) (Nat.le_refl _) _ h) (by omega) rfl rfl (Nat.le_of_ble_eq_true rfl) (by decide) rfl (fun _ => rfl) (fun r11 m11 h => ?_) (fun _ h => h)
        refine b_istore_n (ls' := [vR 582, vI x1, vI (m2 591 x1), vI r11, vU]) dX10_evalPart_202 (Nat.le_of_ble_eq_true rfl) rfl ?_
        refine b_aload_n dX10_evalPart_203 rfl ?_
        refine b_getR dX10_evalPart_204 fk_X10_124 ly_582 gg_582_22 ?_
        refine b_iload_n dX10_evalPart_207 rfl ?_
        refine b_iald dX10_evalPart_208 ly_596 g2 ?_
        obtain ⟨g5, h⟩ := h
        refine b_if_ne 234 dX10_evalPart_209 g5 (by decide) (fun c8 => ?_) (fun c8 => ?_)
        · have h := ifF c8 h
          refine b_iconst dX10_evalPart_234 ?_
          refine b_istore (ls' := [vR 582, vI x1, vI (m2 591 x1), vI r11, vI 0]) dX10_evalPart_235 (Nat.le_of_ble_eq_true rfl) rfl ?_
          refine b_fgt [true, true, false, true, true] (ls' := [vR 582, vI x1, vU, vI r11, vI 0]) rfl rfl ?_
          obtain ⟨nn, h⟩ := h
          exact pl_X10_evalPart_237 hf nn _ _ _ _ h
        · have h := ifT (Decidable.of_not_not c8) h
          refine b_aload_n dX10_evalPart_212 rfl ?_
          refine b_iload_n dX10_evalPart_213 rfl ?_
          refine b_aload_n dX10_evalPart_214 rfl ?_
          refine b_getI dX10_evalPart_215 fk_X10_811 ly_582 ?_
          refine b_aload_n dX10_evalPart_218 rfl ?_
          refine b_getR dX10_evalPart_219 fk_X10_127 ly_582 gg_582_23 ?_
          refine b_iload_n dX10_evalPart_222 rfl ?_
          refine b_iald dX10_evalPart_223 ly_597 g2 ?_
          refine b_iadd dX10_evalPart_224 ?_
          refine b_cSi (as := [vI ((m11 582 93) + (m11 597 x1))]) (st := [vI r11, vR 582]) dX10_evalPart_225 mf_X10_valueAt lk_X10_721 (p_X10_valueAt (f := 1) (Nat.le_refl _) _ _ h) (by omega) rfl rfl (Nat.le_of_ble_eq_true rfl) (by decide) rfl (fun _ => rfl) (fun r12 m12 h => ?_) (fun _ h => h)
          refine b_sipush dX10_evalPart_228 (by decide) ?_
          refine b_cVv (as := [vI r11, vI r12, vI 882]) (st := []) dX10_evalPart_231 mf_X10_copy qs164 lk_X10_658 ly_582 rfl (p_X10_copy (f := 1) (Nat.le_refl _) _ _ _ _ h) (by omega) rfl rfl (Nat.le_of_ble_eq_true rfl) (by decide) rfl (fun _ => rfl) (fun r13 m13 h => ?_) (fun _ h => h)
          refine b_iconst dX10_evalPart_234 ?_
          refine b_istore (ls' := [vR 582, vI x1, vI (m2 591 x1), vI r11, vI 0]) dX10_evalPart_235 (Nat.le_of_ble_eq_true rfl) rfl ?_
          refine b_fgt [true, true, false, true, true] (ls' := [vR 582, vI x1, vU, vI r11, vI 0]) rfl rfl ?_
          obtain ⟨nn, h⟩ := h
          exact pl_X10_evalPart_237 hf nn _ _ _ _ h
      have h := ifF c7 h
      by_cases c9 : (m3 590 x1) = 5
      · have h := ifT c9 h
        refine b_tswIn 291 dX10_evalPart_53 g4 (by omega) (by omega) (by rw [c9]; rfl) (by decide) ?_
        refine b_aload_n dX10_evalPart_291 rfl ?_
        refine b_iload_n dX10_evalPart_292 rfl ?_
        refine b_iload_n dX10_evalPart_293 rfl ?_
        refine b_iconst dX10_evalPart_294 ?_
        refine b_cVv (as := [vI x1, vI (m2 591 x1), vI 0]) (st := []) dX10_evalPart_295 mf_X10_arguments qs165 lk_X10_758 ly_582 rfl (p_X10_arguments (f := 326) (Nat.le_refl _) _ _ _ _ h) (by omega) rfl rfl (Nat.le_of_ble_eq_true rfl) (by decide) rfl (fun _ => rfl) (fun r14 m14 h => ?_) (fun _ h => h)
        refine b_goto 407 dX10_evalPart_298 (by decide) ?_
        exact b_vret dX10_evalPart_407 rfl h
      have h := ifF c9 h
      by_cases c10 : (m3 590 x1) = 6
      · have h := ifT c10 h
        refine b_tswIn 301 dX10_evalPart_53 g4 (by omega) (by omega) (by rw [c10]; rfl) (by decide) ?_
        refine b_aload_n dX10_evalPart_301 rfl ?_
        refine b_bipush dX10_evalPart_302 (by decide) ?_
        refine b_iload_n dX10_evalPart_304 rfl ?_
        refine b_iconst dX10_evalPart_305 ?_
        refine b_iconst dX10_evalPart_306 ?_
        refine b_iconst dX10_evalPart_307 ?_
        refine b_cVv (as := [vI 10, vI x1, vI 0, vI 0, vI 0]) (st := []) dX10_evalPart_308 mf_X10_later_2 qs155 lk_X10_730 ly_582 rfl (p_X10_later_2 (f := 1) (Nat.le_refl _) _ _ _ _ _ _ h) (by omega) rfl rfl (Nat.le_of_ble_eq_true rfl) (by decide) rfl (fun _ => rfl) (fun r15 m15 h => ?_) (fun _ h => h)
        refine b_aload_n dX10_evalPart_311 rfl ?_
        refine b_aload_n dX10_evalPart_312 rfl ?_
        refine b_getR dX10_evalPart_313 fk_X10_109 ly_582 gg_582_17 ?_
        refine b_iload_n dX10_evalPart_316 rfl ?_
        obtain ⟨g6, h⟩ := h
        refine b_iald dX10_evalPart_317 ly_591 g6 ?_
        refine b_cVv (as := [vI (m15 591 (m2 591 x1))]) (st := []) dX10_evalPart_318 mf_X10_later qs154 lk_X10_733 ly_582 rfl (p_X10_later (f := 2) (Nat.le_refl _) _ _ h) (by omega) rfl rfl (Nat.le_of_ble_eq_true rfl) (by decide) rfl (fun _ => rfl) (fun r16 m16 h => ?_) (fun _ h => h)
        refine b_goto 407 dX10_evalPart_321 (by decide) ?_
        exact b_vret dX10_evalPart_407 rfl h
      have h := ifF c10 h
      by_cases c11 : (m3 590 x1) = 7
      · have h := ifT c11 h
        refine b_tswIn 324 dX10_evalPart_53 g4 (by omega) (by omega) (by rw [c11]; rfl) (by decide) ?_
        refine b_aload_n dX10_evalPart_324 rfl ?_
        refine b_cVi (as := []) (st := []) dX10_evalPart_325 mf_X10_newValue qs161 lk_X10_808 ly_582 rfl (p_X10_newValue (f := 3) (Nat.le_refl _) _ h) (by omega) rfl rfl (Nat.le_of_ble_eq_true rfl) (by decide) rfl (fun _ => rfl) (fun r17 m17 h => ?_) (fun _ h => h)
        refine b_istore_n (ls' := [vR 582, vI x1, vI (m2 591 x1), vI r17, vU]) dX10_evalPart_328 (Nat.le_of_ble_eq_true rfl) rfl ?_
        refine b_aload_n dX10_evalPart_329 rfl ?_
        refine b_bipush dX10_evalPart_330 (by decide) ?_
        refine b_iload_n dX10_evalPart_332 rfl ?_
        refine b_iload_n dX10_evalPart_333 rfl ?_
        refine b_aload_n dX10_evalPart_334 rfl ?_
        refine b_getR dX10_evalPart_335 fk_X10_109 ly_582 gg_582_17 ?_
        refine b_iload_n dX10_evalPart_338 rfl ?_
        obtain ⟨g7, h⟩ := h
        refine b_iald dX10_evalPart_339 ly_591 g7 ?_
        refine b_iconst dX10_evalPart_340 ?_
        refine b_cVv (as := [vI 7, vI x1, vI (m2 591 x1), vI (m17 591 (m2 591 x1)), vI 0]) (st := []) dX10_evalPart_341 mf_X10_later_2 qs155 lk_X10_730 ly_582 rfl (p_X10_later_2 (f := 1) (Nat.le_refl _) _ _ _ _ _ _ h) (by omega) rfl rfl (Nat.le_of_ble_eq_true rfl) (by decide) rfl (fun _ => rfl) (fun r18 m18 h => ?_) (fun _ h => h)
        refine b_aload_n dX10_evalPart_344 rfl ?_
        refine b_aload_n dX10_evalPart_345 rfl ?_
        refine b_getR dX10_evalPart_346 fk_X10_109 ly_582 gg_582_17 ?_
        refine b_aload_n dX10_evalPart_349 rfl ?_
        refine b_getR dX10_evalPart_350 fk_X10_109 ly_582 gg_582_17 ?_
        refine b_iload_n dX10_evalPart_353 rfl ?_
        refine b_iald dX10_evalPart_354 ly_591 g7 ?_
        obtain ⟨g8, h⟩ := h
        refine b_iald dX10_evalPart_355 ly_591 g8 ?_
        refine b_cVv (as := [vI (m18 591 (m18 591 (m2 591 x1)))]) (st := []) dX10_evalPart_356 mf_X10_later qs154 lk_X10_733 ly_582 rfl (p_X10_later (f := 2) (Nat.le_refl _) _ _ h) (by omega) rfl rfl (Nat.le_of_ble_eq_true rfl) (by decide) rfl (fun _ => rfl) (fun r19 m19 h => ?_) (fun _ h => h)
        refine b_goto 407 dX10_evalPart_359 (by decide) ?_
        exact b_vret dX10_evalPart_407 rfl h
      have h := ifF c11 h
      refine b_tswOut 362 dX10_evalPart_53 g4 (by omega) (by decide) ?_
      refine b_aload_n dX10_evalPart_362 rfl ?_
      refine b_aload_n dX10_evalPart_363 rfl ?_
      refine b_getR dX10_evalPart_364 fk_X10_106 ly_582 gg_582_16 ?_
      refine b_iload_n dX10_evalPart_367 rfl ?_
      refine b_iald dX10_evalPart_368 ly_590 g2 ?_
      refine b_bipush dX10_evalPart_369 (by decide) ?_
      have K : B f M_X10_evalPart 395 [vR 582, vI x1, vI (m2 591 x1), vU, vU] [vI (if (m3 590 x1) = 8 then 3 else (if (m3 590 x1) = 9 then 5 else 6 : Int) : Int), vR 582] m3 Q T := by
        refine b_iload_n dX10_evalPart_395 rfl ?_
        refine b_iconst dX10_evalPart_396 ?_
        refine b_iconst dX10_evalPart_397 ?_
        refine b_iconst dX10_evalPart_398 ?_
        refine b_cVv (as := [vI (if (m3 590 x1) = 8 then 3 else (if (m3 590 x1) = 9 then 5 else 6 : Int) : Int), vI x1, vI 0, vI 0, vI 0]) (st := []) dX10_evalPart_399 mf_X10_later_2 qs155 lk_X10_730 ly_582 rfl (p_X10_later_2 (f := 1) (Nat.le_refl _) _ _ _ _ _ _ h) (by omega) rfl rfl (Nat.le_of_ble_eq_true rfl) (by decide) rfl (fun _ => rfl) (fun r20 m20 h => ?_) (fun _ h => h)
        refine b_aload_n dX10_evalPart_402 rfl ?_
        refine b_iload_n dX10_evalPart_403 rfl ?_
        refine b_cVv (as := [vI (m2 591 x1)]) (st := []) dX10_evalPart_404 mf_X10_later qs154 lk_X10_733 ly_582 rfl (p_X10_later (f := 2) (Nat.le_refl _) _ _ h) (by omega) rfl rfl (Nat.le_of_ble_eq_true rfl) (by decide) rfl (fun _ => rfl) (fun r21 m21 h => ?_) (fun _ h => h)
        exact b_vret dX10_evalPart_407 rfl h
      refine b_icmp_ne 378 dX10_evalPart_371 g4 (by decide) (by decide) (fun c12 => ?_) (fun c12 => ?_)
      ·
        refine b_aload_n dX10_evalPart_378 rfl ?_
        refine b_getR dX10_evalPart_379 fk_X10_106 ly_582 gg_582_16 ?_
        refine b_iload_n dX10_evalPart_382 rfl ?_
        refine b_iald dX10_evalPart_383 ly_590 g2 ?_
        refine b_bipush dX10_evalPart_384 (by decide) ?_
        refine b_icmp_ne 393 dX10_evalPart_386 g4 (by decide) (by decide) (fun c13 => ?_) (fun c13 => ?_)
        ·
          refine b_bipush dX10_evalPart_393 (by decide) ?_
          exact Eq.mp (congrArg (fun z => B f M_X10_evalPart 395 [vR 582, vI x1, vI (m2 591 x1), vU, vU] (vI z :: [vR 582]) m3 Q T) (show (if (m3 590 x1) = 8 then 3 else (if (m3 590 x1) = 9 then 5 else 6 : Int) : Int) = 6 by rw [if_neg c12, if_neg c13])) K
        ·
          have c13 := Decidable.of_not_not c13
          refine b_iconst dX10_evalPart_389 ?_
          refine b_goto 395 dX10_evalPart_390 (by decide) ?_
          exact Eq.mp (congrArg (fun z => B f M_X10_evalPart 395 [vR 582, vI x1, vI (m2 591 x1), vU, vU] (vI z :: [vR 582]) m3 Q T) (show (if (m3 590 x1) = 8 then 3 else (if (m3 590 x1) = 9 then 5 else 6 : Int) : Int) = 5 by rw [if_neg c12, if_pos c13])) K
      ·
        have c12 := Decidable.of_not_not c12
        refine b_iconst dX10_evalPart_374 ?_
        refine b_goto 395 dX10_evalPart_375 (by decide) ?_
        exact Eq.mp (congrArg (fun z => B f M_X10_evalPart 395 [vR 582, vI x1, vI (m2 591 x1), vU, vU] (vI z :: [vR 582]) m3 Q T) (show (if (m3 590 x1) = 8 then 3 else (if (m3 590 x1) = 9 then 5 else 6 : Int) : Int) = 3 by rw [if_pos c12])) K
    · have h := ifF c2 h
      refine b_aload_n dX10_evalPart_32 rfl ?_
      refine b_iconst dX10_evalPart_33 ?_
      refine b_iload_n dX10_evalPart_34 rfl ?_
      refine b_iconst dX10_evalPart_35 ?_
      refine b_iconst dX10_evalPart_36 ?_
      refine b_iconst dX10_evalPart_37 ?_
      refine b_cVv (as := [vI 1, vI x1, vI 0, vI 0, vI 0]) (st := []) dX10_evalPart_38 mf_X10_later_2 qs155 lk_X10_730 ly_582 rfl (p_X10_later_2 (f := 1) (Nat.le_refl _) _ _ _ _ _ _ h) (by omega) rfl rfl (Nat.le_of_ble_eq_true rfl) (by decide) rfl (fun _ => rfl) (fun r22 m22 h => ?_) (fun _ h => h)
      refine b_aload_n dX10_evalPart_41 rfl ?_
      refine b_iload_n dX10_evalPart_42 rfl ?_
      refine b_cVv (as := [vI (m2 591 x1)]) (st := []) dX10_evalPart_43 mf_X10_later qs154 lk_X10_733 ly_582 rfl (p_X10_later (f := 2) (Nat.le_refl _) _ _ h) (by omega) rfl rfl (Nat.le_of_ble_eq_true rfl) (by decide) rfl (fun _ => rfl) (fun r23 m23 h => ?_) (fun _ h => h)
      exact b_vret dX10_evalPart_46 rfl h
  · have h := ifT (Decidable.of_not_not c1) h
    exact b_vret dX10_evalPart_12 rfl h
theorem dX10_evalSecond_0 : decode cX10_evalSecond 0 = .ok (.aload_n 0, 1) := by decide +kernel
theorem dX10_evalSecond_1 : decode cX10_evalSecond 1 = .ok (.getfield 127, 3) := by decide +kernel
theorem dX10_evalSecond_4 : decode cX10_evalSecond 4 = .ok (.iload_n 1, 1) := by decide +kernel
theorem dX10_evalSecond_5 : decode cX10_evalSecond 5 = .ok (.iaload, 1) := by decide +kernel
theorem dX10_evalSecond_6 : decode cX10_evalSecond 6 = .ok (.istore_n 2, 1) := by decide +kernel
theorem dX10_evalSecond_7 : decode cX10_evalSecond 7 = .ok (.aload_n 0, 1) := by decide +kernel
theorem dX10_evalSecond_8 : decode cX10_evalSecond 8 = .ok (.getfield 718, 3) := by decide +kernel
theorem dX10_evalSecond_11 : decode cX10_evalSecond 11 = .ok (.iconst 2, 1) := by decide +kernel
theorem dX10_evalSecond_12 : decode cX10_evalSecond 12 = .ok (.isub, 1) := by decide +kernel
theorem dX10_evalSecond_13 : decode cX10_evalSecond 13 = .ok (.istore_n 3, 1) := by decide +kernel
theorem dX10_evalSecond_14 : decode cX10_evalSecond 14 = .ok (.iload_n 2, 1) := by decide +kernel
theorem dX10_evalSecond_15 : decode cX10_evalSecond 15 = .ok (.ifCond .eq 8, 3) := by decide +kernel
theorem dX10_evalSecond_18 : decode cX10_evalSecond 18 = .ok (.iload_n 2, 1) := by decide +kernel
theorem dX10_evalSecond_19 : decode cX10_evalSecond 19 = .ok (.iconst 3, 1) := by decide +kernel
theorem dX10_evalSecond_20 : decode cX10_evalSecond 20 = .ok (.if_icmp .ne 41, 3) := by decide +kernel
theorem dX10_evalSecond_23 : decode cX10_evalSecond 23 = .ok (.aload_n 0, 1) := by decide +kernel
theorem dX10_evalSecond_24 : decode cX10_evalSecond 24 = .ok (.aload_n 0, 1) := by decide +kernel
theorem dX10_evalSecond_25 : decode cX10_evalSecond 25 = .ok (.getfield 109, 3) := by decide +kernel
theorem dX10_evalSecond_28 : decode cX10_evalSecond 28 = .ok (.aload_n 0, 1) := by decide +kernel
theorem dX10_evalSecond_29 : decode cX10_evalSecond 29 = .ok (.getfield 118, 3) := by decide +kernel
theorem dX10_evalSecond_32 : decode cX10_evalSecond 32 = .ok (.aload_n 0, 1) := by decide +kernel
theorem dX10_evalSecond_33 : decode cX10_evalSecond 33 = .ok (.getfield 109, 3) := by decide +kernel
theorem dX10_evalSecond_36 : decode cX10_evalSecond 36 = .ok (.iload_n 1, 1) := by decide +kernel
theorem dX10_evalSecond_37 : decode cX10_evalSecond 37 = .ok (.iaload, 1) := by decide +kernel
theorem dX10_evalSecond_38 : decode cX10_evalSecond 38 = .ok (.iaload, 1) := by decide +kernel
theorem dX10_evalSecond_39 : decode cX10_evalSecond 39 = .ok (.iaload, 1) := by decide +kernel
theorem dX10_evalSecond_40 : decode cX10_evalSecond 40 = .ok (.aload_n 0, 1) := by decide +kernel
theorem dX10_evalSecond_41 : decode cX10_evalSecond 41 = .ok (.getfield 130, 3) := by decide +kernel
theorem dX10_evalSecond_44 : decode cX10_evalSecond 44 = .ok (.iload_n 1, 1) := by decide +kernel
theorem dX10_evalSecond_45 : decode cX10_evalSecond 45 = .ok (.iaload, 1) := by decide +kernel
theorem dX10_evalSecond_46 : decode cX10_evalSecond 46 = .ok (.aload_n 0, 1) := by decide +kernel
theorem dX10_evalSecond_47 : decode cX10_evalSecond 47 = .ok (.getfield 133, 3) := by decide +kernel
theorem dX10_evalSecond_50 : decode cX10_evalSecond 50 = .ok (.iload_n 1, 1) := by decide +kernel
theorem dX10_evalSecond_51 : decode cX10_evalSecond 51 = .ok (.iaload, 1) := by decide +kernel
theorem dX10_evalSecond_52 : decode cX10_evalSecond 52 = .ok (.aload_n 0, 1) := by decide +kernel
theorem dX10_evalSecond_53 : decode cX10_evalSecond 53 = .ok (.getfield 136, 3) := by decide +kernel
theorem dX10_evalSecond_56 : decode cX10_evalSecond 56 = .ok (.iload_n 1, 1) := by decide +kernel
theorem dX10_evalSecond_57 : decode cX10_evalSecond 57 = .ok (.iaload, 1) := by decide +kernel
theorem dX10_evalSecond_58 : decode cX10_evalSecond 58 = .ok (.invokevirtual 747, 3) := by decide +kernel
theorem dX10_evalSecond_61 : decode cX10_evalSecond 61 = .ok (.aload_n 0, 1) := by decide +kernel
theorem dX10_evalSecond_62 : decode cX10_evalSecond 62 = .ok (.getfield 601, 3) := by decide +kernel
theorem dX10_evalSecond_65 : decode cX10_evalSecond 65 = .ok (.ifCond .le 4, 3) := by decide +kernel
theorem dX10_evalSecond_68 : decode cX10_evalSecond 68 = .ok (.return_, 1) := by decide +kernel
theorem dX10_evalSecond_69 : decode cX10_evalSecond 69 = .ok (.aload_n 0, 1) := by decide +kernel
theorem dX10_evalSecond_70 : decode cX10_evalSecond 70 = .ok (.iload_n 1, 1) := by decide +kernel
theorem dX10_evalSecond_71 : decode cX10_evalSecond 71 = .ok (.iload_n 2, 1) := by decide +kernel
theorem dX10_evalSecond_72 : decode cX10_evalSecond 72 = .ok (.aload_n 0, 1) := by decide +kernel
theorem dX10_evalSecond_73 : decode cX10_evalSecond 73 = .ok (.getfield 109, 3) := by decide +kernel
theorem dX10_evalSecond_76 : decode cX10_evalSecond 76 = .ok (.aload_n 0, 1) := by decide +kernel
theorem dX10_evalSecond_77 : decode cX10_evalSecond 77 = .ok (.getfield 109, 3) := by decide +kernel
theorem dX10_evalSecond_80 : decode cX10_evalSecond 80 = .ok (.iload_n 1, 1) := by decide +kernel
theorem dX10_evalSecond_81 : decode cX10_evalSecond 81 = .ok (.iaload, 1) := by decide +kernel
theorem dX10_evalSecond_82 : decode cX10_evalSecond 82 = .ok (.iaload, 1) := by decide +kernel
theorem dX10_evalSecond_83 : decode cX10_evalSecond 83 = .ok (.iload_n 3, 1) := by decide +kernel
theorem dX10_evalSecond_84 : decode cX10_evalSecond 84 = .ok (.invokestatic 721, 3) := by decide +kernel
theorem dX10_evalSecond_87 : decode cX10_evalSecond 87 = .ok (.iload_n 3, 1) := by decide +kernel
theorem dX10_evalSecond_88 : decode cX10_evalSecond 88 = .ok (.iconst 1, 1) := by decide +kernel
theorem dX10_evalSecond_89 : decode cX10_evalSecond 89 = .ok (.iadd, 1) := by decide +kernel
theorem dX10_evalSecond_90 : decode cX10_evalSecond 90 = .ok (.invokestatic 721, 3) := by decide +kernel
theorem dX10_evalSecond_93 : decode cX10_evalSecond 93 = .ok (.invokevirtual 823, 3) := by decide +kernel
theorem dX10_evalSecond_96 : decode cX10_evalSecond 96 = .ok (.aload_n 0, 1) := by decide +kernel
theorem dX10_evalSecond_97 : decode cX10_evalSecond 97 = .ok (.iload_n 3, 1) := by decide +kernel
theorem dX10_evalSecond_98 : decode cX10_evalSecond 98 = .ok (.iconst 1, 1) := by decide +kernel
theorem dX10_evalSecond_99 : decode cX10_evalSecond 99 = .ok (.iadd, 1) := by decide +kernel
theorem dX10_evalSecond_100 : decode cX10_evalSecond 100 = .ok (.putfield 718, 3) := by decide +kernel
theorem dX10_evalSecond_103 : decode cX10_evalSecond 103 = .ok (.return_, 1) := by decide +kernel
/-! AlgebraHouseModel.evalSecond(I)V -/
def P_X10_evalSecond_61 (Q : Int → MM → Prop) (x1 : Int) (x2 : Int) (x3 : Int) (m : MM) : Prop := (RI (m 582 84)) ∧ (if (m 582 84) ≤ 0 then (0 ≤ x1 ∧ x1 < 12000) ∧ (0 ≤ (m 591 x1) ∧ (m 591 x1) < 12000) ∧ P_X10_valueAt x3 m (fun r1 m1 => P_X10_valueAt (x3 + 1) m1 (fun r2 m2 => P_X10_built x1 x2 (m 591 (m 591 x1)) r1 r2 m2 (fun r3 m3 => ∀ m4 : MM, m4 = up m3 582 86 (x3 + 1) → Q 0 m4))) else Q 0 m)
def P_X10_evalSecond_23 (Q : Int → MM → Prop) (x1 : Int) (x2 : Int) (x3 : Int) (m : MM) : Prop := (0 ≤ x1 ∧ x1 < 12000) ∧ (0 ≤ (m 591 x1) ∧ (m 591 x1) < 12000) ∧ (0 ≤ (m 594 (m 591 x1)) ∧ (m 594 (m 591 x1)) < 12000) ∧ P_X10_goLatest (m 591 (m 594 (m 591 x1))) (m 598 x1) (m 599 x1) (m 600 x1) m (fun r1 m1 => P_X10_evalSecond_61 Q x1 x2 x3 m1)
def P_X10_evalSecond (x1 : Int) (m : MM) (Q : Int → MM → Prop) : Prop := (0 ≤ x1 ∧ x1 < 12000) ∧ (RI (m 597 x1)) ∧ (if (m 597 x1) = 0 then P_X10_evalSecond_23 Q x1 (m 597 x1) ((m 582 86) - 2) m else (if (m 597 x1) = 3 then P_X10_evalSecond_23 Q x1 (m 597 x1) ((m 582 86) - 2) m else P_X10_evalSecond_61 Q x1 (m 597 x1) ((m 582 86) - 2) m))
theorem pl_X10_evalSecond_61 {f : Nat} {Q : Int → MM → Prop} {T : MM → Prop} (hf : 10 ≤ f) : ∀ (x1 : Int) (x2 : Int) (x3 : Int) (m : MM), P_X10_evalSecond_61 Q x1 x2 x3 m → B f M_X10_evalSecond 61 [vR 582, vI x1, vI x2, vI x3] [] m Q T := by
  intro x1 x2 x3 m h
  have h : (RI (m 582 84)) ∧ (if (m 582 84) ≤ 0 then (0 ≤ x1 ∧ x1 < 12000) ∧ (0 ≤ (m 591 x1) ∧ (m 591 x1) < 12000) ∧ P_X10_valueAt x3 m (fun r1 m1 => P_X10_valueAt (x3 + 1) m1 (fun r2 m2 => P_X10_built x1 x2 (m 591 (m 591 x1)) r1 r2 m2 (fun r3 m3 => ∀ m4 : MM, m4 = up m3 582 86 (x3 + 1) → Q 0 m4))) else Q 0 m) := h
  refine b_aload_n dX10_evalSecond_61 rfl ?_
  refine b_getI dX10_evalSecond_62 fk_X10_601 ly_582 ?_
  obtain ⟨g1, h⟩ := h
  refine b_if_le 69 dX10_evalSecond_65 g1 (by decide) (fun c1 => ?_) (fun c1 => ?_)
  · have h := ifT c1 h
    refine b_aload_n dX10_evalSecond_69 rfl ?_
    refine b_iload_n dX10_evalSecond_70 rfl ?_
    refine b_iload_n dX10_evalSecond_71 rfl ?_
    refine b_aload_n dX10_evalSecond_72 rfl ?_
    refine b_getR dX10_evalSecond_73 fk_X10_109 ly_582 gg_582_17 ?_
    refine b_aload_n dX10_evalSecond_76 rfl ?_
    refine b_getR dX10_evalSecond_77 fk_X10_109 ly_582 gg_582_17 ?_
    refine b_iload_n dX10_evalSecond_80 rfl ?_
    obtain ⟨g2, h⟩ := h
    refine b_iald dX10_evalSecond_81 ly_591 g2 ?_
    obtain ⟨g3, h⟩ := h
    refine b_iald dX10_evalSecond_82 ly_591 g3 ?_
    refine b_iload_n dX10_evalSecond_83 rfl ?_
    refine b_cSi (as := [vI x3]) (st := [vI (m 591 (m 591 x1)), vI x2, vI x1, vR 582]) dX10_evalSecond_84 mf_X10_valueAt lk_X10_721 (p_X10_valueAt (f := 1) (Nat.le_refl _) _ _ h) (by omega) rfl rfl (Nat.le_of_ble_eq_true rfl) (by decide) rfl (fun _ => rfl) (fun r1 m1 h => ?_) (fun _ h => h)
    refine b_iload_n dX10_evalSecond_87 rfl ?_
    refine b_iconst dX10_evalSecond_88 ?_
    refine b_iadd dX10_evalSecond_89 ?_
    refine b_cSi (as := [vI (x3 + 1)]) (st := [vI r1, vI (m 591 (m 591 x1)), vI x2, vI x1, vR 582]) dX10_evalSecond_90 mf_X10_valueAt lk_X10_721 (p_X10_valueAt (f := 1) (Nat.le_refl _) _ _ h) (by omega) rfl rfl (Nat.le_of_ble_eq_true rfl) (by decide) rfl (fun _ => rfl) (fun r2 m2 h => ?_) (fun _ h => h)
    refine b_cVv (as := [vI x1, vI x2, vI (m 591 (m 591 x1)), vI r1, vI r2]) (st := []) dX10_evalSecond_93 mf_X10_built qs196 lk_X10_823 ly_582 rfl (p_X10_built (f := 9) (Nat.le_refl _) _ _ _ _ _ _ h) (by omega) rfl rfl (Nat.le_of_ble_eq_true rfl) (by decide) rfl (fun _ => rfl) (fun r3 m3 h => ?_) (fun _ h => h)
    refine b_aload_n dX10_evalSecond_96 rfl ?_
    refine b_iload_n dX10_evalSecond_97 rfl ?_
    refine b_iconst dX10_evalSecond_98 ?_
    refine b_iadd dX10_evalSecond_99 ?_
    refine b_putI dX10_evalSecond_100 fk_X10_718 ly_582 (fun m4 em4 => ?_)
    have h := h m4 em4
    exact b_vret dX10_evalSecond_103 rfl h
  · have h := ifF c1 h
    exact b_vret dX10_evalSecond_68 rfl h
theorem pl_X10_evalSecond_23 {f : Nat} {Q : Int → MM → Prop} {T : MM → Prop} (hf : 10 ≤ f) : ∀ (x1 : Int) (x2 : Int) (x3 : Int) (m : MM), P_X10_evalSecond_23 Q x1 x2 x3 m → B f M_X10_evalSecond 23 [vR 582, vI x1, vI x2, vI x3] [] m Q T := by
  intro x1 x2 x3 m h
  have h : (0 ≤ x1 ∧ x1 < 12000) ∧ (0 ≤ (m 591 x1) ∧ (m 591 x1) < 12000) ∧ (0 ≤ (m 594 (m 591 x1)) ∧ (m 594 (m 591 x1)) < 12000) ∧ P_X10_goLatest (m 591 (m 594 (m 591 x1))) (m 598 x1) (m 599 x1) (m 600 x1) m (fun r1 m1 => P_X10_evalSecond_61 Q x1 x2 x3 m1) := h
  refine b_aload_n dX10_evalSecond_23 rfl ?_
  refine b_aload_n dX10_evalSecond_24 rfl ?_
  refine b_getR dX10_evalSecond_25 fk_X10_109 ly_582 gg_582_17 ?_
  refine b_aload_n dX10_evalSecond_28 rfl ?_
  refine b_getR dX10_evalSecond_29 fk_X10_118 ly_582 gg_582_20 ?_
  refine b_aload_n dX10_evalSecond_32 rfl ?_
  refine b_getR dX10_evalSecond_33 fk_X10_109 ly_582 gg_582_17 ?_
  refine b_iload_n dX10_evalSecond_36 rfl ?_
  obtain ⟨g1, h⟩ := h
  refine b_iald dX10_evalSecond_37 ly_591 g1 ?_
  obtain ⟨g2, h⟩ := h
  refine b_iald dX10_evalSecond_38 ly_594 g2 ?_
  obtain ⟨g3, h⟩ := h
  refine b_iald dX10_evalSecond_39 ly_591 g3 ?_
  refine b_aload_n dX10_evalSecond_40 rfl ?_
  refine b_getR dX10_evalSecond_41 fk_X10_130 ly_582 gg_582_24 ?_
  refine b_iload_n dX10_evalSecond_44 rfl ?_
  refine b_iald dX10_evalSecond_45 ly_598 g1 ?_
  refine b_aload_n dX10_evalSecond_46 rfl ?_
  refine b_getR dX10_evalSecond_47 fk_X10_133 ly_582 gg_582_25 ?_
  refine b_iload_n dX10_evalSecond_50 rfl ?_
  refine b_iald dX10_evalSecond_51 ly_599 g1 ?_
  refine b_aload_n dX10_evalSecond_52 rfl ?_
  refine b_getR dX10_evalSecond_53 fk_X10_136 ly_582 gg_582_26 ?_
  refine b_iload_n dX10_evalSecond_56 rfl ?_
  refine b_iald dX10_evalSecond_57 ly_600 g1 ?_
  refine b_cVv (as := [vI (m 591 (m 594 (m 591 x1))), vI (m 598 x1), vI (m 599 x1), vI (m 600 x1)]) (st := []) dX10_evalSecond_58 mf_X10_goLatest qs180 lk_X10_747 ly_582 rfl (p_X10_goLatest (f := 3) (Nat.le_refl _) _ _ _ _ _ h) (by omega) rfl rfl (Nat.le_of_ble_eq_true rfl) (by decide) rfl (fun _ => rfl) (fun r1 m1 h => ?_) (fun _ h => h)
  exact pl_X10_evalSecond_61 hf _ _ _ _ h
theorem p_X10_evalSecond {f : Nat} {Q : Int → MM → Prop} {T : MM → Prop} (hf : 10 ≤ f) (x1 : Int) (m : MM) (h : P_X10_evalSecond x1 m Q) : CC f M_X10_evalSecond [vR 582, vI x1] m Q T := by
  refine CC.of (plainFor_of_name (by decide)) (Nat.le_of_ble_eq_true rfl) (ls := [vR 582, vI x1, vU, vU]) rfl ?_
  have h : (0 ≤ x1 ∧ x1 < 12000) ∧ (RI (m 597 x1)) ∧ (if (m 597 x1) = 0 then P_X10_evalSecond_23 Q x1 (m 597 x1) ((m 582 86) - 2) m else (if (m 597 x1) = 3 then P_X10_evalSecond_23 Q x1 (m 597 x1) ((m 582 86) - 2) m else P_X10_evalSecond_61 Q x1 (m 597 x1) ((m 582 86) - 2) m)) := h
  refine b_aload_n dX10_evalSecond_0 rfl ?_
  refine b_getR dX10_evalSecond_1 fk_X10_127 ly_582 gg_582_23 ?_
  refine b_iload_n dX10_evalSecond_4 rfl ?_
  obtain ⟨g1, h⟩ := h
  refine b_iald dX10_evalSecond_5 ly_597 g1 ?_
  refine b_istore_n (ls' := [vR 582, vI x1, vI (m 597 x1), vU]) dX10_evalSecond_6 (Nat.le_of_ble_eq_true rfl) rfl ?_
  refine b_aload_n dX10_evalSecond_7 rfl ?_
  refine b_getI dX10_evalSecond_8 fk_X10_718 ly_582 ?_
  refine b_iconst dX10_evalSecond_11 ?_
  refine b_isub dX10_evalSecond_12 ?_
  refine b_istore_n (ls' := [vR 582, vI x1, vI (m 597 x1), vI ((m 582 86) - 2)]) dX10_evalSecond_13 (Nat.le_of_ble_eq_true rfl) rfl ?_
  refine b_iload_n dX10_evalSecond_14 rfl ?_
  obtain ⟨g2, h⟩ := h
  refine b_if_eq 23 dX10_evalSecond_15 g2 (by decide) (fun c1 => ?_) (fun c1 => ?_)
  · have h := ifT c1 h
    exact pl_X10_evalSecond_23 hf _ _ _ _ h
  · have h := ifF c1 h
    refine b_iload_n dX10_evalSecond_18 rfl ?_
    refine b_iconst dX10_evalSecond_19 ?_
    refine b_icmp_ne 61 dX10_evalSecond_20 g2 (by decide) (by decide) (fun c2 => ?_) (fun c2 => ?_)
    · have h := ifF c2 h
      exact pl_X10_evalSecond_61 hf _ _ _ _ h
    · have h := ifT (Decidable.of_not_not c2) h
      exact pl_X10_evalSecond_23 hf _ _ _ _ h
theorem dX10_isAlike_0 : decode cX10_isAlike 0 = .ok (.iconst 0, 1) := by decide +kernel
theorem dX10_isAlike_1 : decode cX10_isAlike 1 = .ok (.istore_n 3, 1) := by decide +kernel
theorem dX10_isAlike_2 : decode cX10_isAlike 2 = .ok (.iload_n 3, 1) := by decide +kernel
theorem dX10_isAlike_3 : decode cX10_isAlike 3 = .ok (.sipush 882, 3) := by decide +kernel
theorem dX10_isAlike_6 : decode cX10_isAlike 6 = .ok (.if_icmp .ge 31, 3) := by decide +kernel
theorem dX10_isAlike_9 : decode cX10_isAlike 9 = .ok (.aload_n 0, 1) := by decide +kernel
theorem dX10_isAlike_10 : decode cX10_isAlike 10 = .ok (.getfield 250, 3) := by decide +kernel
theorem dX10_isAlike_13 : decode cX10_isAlike 13 = .ok (.iload_n 1, 1) := by decide +kernel
theorem dX10_isAlike_14 : decode cX10_isAlike 14 = .ok (.iload_n 3, 1) := by decide +kernel
theorem dX10_isAlike_15 : decode cX10_isAlike 15 = .ok (.iadd, 1) := by decide +kernel
theorem dX10_isAlike_16 : decode cX10_isAlike 16 = .ok (.laload, 1) := by decide +kernel
theorem dX10_isAlike_17 : decode cX10_isAlike 17 = .ok (.aload_n 0, 1) := by decide +kernel
theorem dX10_isAlike_18 : decode cX10_isAlike 18 = .ok (.getfield 250, 3) := by decide +kernel
theorem dX10_isAlike_21 : decode cX10_isAlike 21 = .ok (.iload_n 2, 1) := by decide +kernel
theorem dX10_isAlike_22 : decode cX10_isAlike 22 = .ok (.iload_n 3, 1) := by decide +kernel
theorem dX10_isAlike_23 : decode cX10_isAlike 23 = .ok (.iadd, 1) := by decide +kernel
theorem dX10_isAlike_24 : decode cX10_isAlike 24 = .ok (.laload, 1) := by decide +kernel
theorem dX10_isAlike_25 : decode cX10_isAlike 25 = .ok (.lcmp, 1) := by decide +kernel
theorem dX10_isAlike_26 : decode cX10_isAlike 26 = .ok (.ifCond .eq 5, 3) := by decide +kernel
theorem dX10_isAlike_29 : decode cX10_isAlike 29 = .ok (.iconst 0, 1) := by decide +kernel
theorem dX10_isAlike_30 : decode cX10_isAlike 30 = .ok (.ireturn, 1) := by decide +kernel
theorem dX10_isAlike_31 : decode cX10_isAlike 31 = .ok (.iinc 3 1, 3) := by decide +kernel
theorem dX10_isAlike_34 : decode cX10_isAlike 34 = .ok (.goto (-32), 3) := by decide +kernel
theorem dX10_isAlike_37 : decode cX10_isAlike 37 = .ok (.iconst 1, 1) := by decide +kernel
theorem dX10_isAlike_38 : decode cX10_isAlike 38 = .ok (.ireturn, 1) := by decide +kernel
/-! AlgebraHouseModel.isAlike(II)Z -/
def P_X10_isAlike_2 (Q : Int → MM → Prop) : Nat → Int → Int → Int → MM → Prop
  | 0, _, _, _, _ => False
  | n + 1, x1, x2, x3, m => (RI x3) ∧ (if 882 ≤ x3 then Q 1 m else (0 ≤ (x1 + x3) ∧ (x1 + x3) < 1600000) ∧ (0 ≤ (x2 + x3) ∧ (x2 + x3) < 1600000) ∧ (RL (m 635 (x1 + x3))) ∧ (RL (m 635 (x2 + x3))) ∧ (if (m 635 (x1 + x3)) = (m 635 (x2 + x3)) then P_X10_isAlike_2 Q n x1 x2 (x3 + 1) m else Q 0 m))
def P_X10_isAlike (x1 : Int) (x2 : Int) (m : MM) (Q : Int → MM → Prop) : Prop := ∃ nn, P_X10_isAlike_2 Q nn x1 x2 0 m
theorem pl_X10_isAlike_2 {f : Nat} {Q : Int → MM → Prop} {T : MM → Prop} (hf : 1 ≤ f) : ∀ (n : Nat) (x1 : Int) (x2 : Int) (x3 : Int) (m : MM), P_X10_isAlike_2 Q n x1 x2 x3 m → B f M_X10_isAlike 2 [vR 582, vI x1, vI x2, vI x3] [] m Q T := by
  intro n
  induction n with
  | zero => intro x1 x2 x3 m h; exact h.elim
  | succ n ih =>
    intro x1 x2 x3 m h
    have h : (RI x3) ∧ (if 882 ≤ x3 then Q 1 m else (0 ≤ (x1 + x3) ∧ (x1 + x3) < 1600000) ∧ (0 ≤ (x2 + x3) ∧ (x2 + x3) < 1600000) ∧ (RL (m 635 (x1 + x3))) ∧ (RL (m 635 (x2 + x3))) ∧ (if (m 635 (x1 + x3)) = (m 635 (x2 + x3)) then P_X10_isAlike_2 Q n x1 x2 (x3 + 1) m else Q 0 m)) := h
    refine b_iload_n dX10_isAlike_2 rfl ?_
    refine b_sipush dX10_isAlike_3 (by decide) ?_
    obtain ⟨g1, h⟩ := h
    refine b_icmp_ge 37 dX10_isAlike_6 g1 (by decide) (by decide) (fun c1 => ?_) (fun c1 => ?_)
    · have h := ifT c1 h
      refine b_iconst dX10_isAlike_37 ?_
      exact b_zret dX10_isAlike_38 rfl (Or.inr rfl) h
    · have h := ifF c1 h
      refine b_aload_n dX10_isAlike_9 rfl ?_
      refine b_getR dX10_isAlike_10 fk_X10_250 ly_582 gg_582_85 ?_
      refine b_iload_n dX10_isAlike_13 rfl ?_
      refine b_iload_n dX10_isAlike_14 rfl ?_
      refine b_iadd dX10_isAlike_15 ?_
      obtain ⟨g2, h⟩ := h
      refine b_lald dX10_isAlike_16 ly_635 g2 ?_
      refine b_aload_n dX10_isAlike_17 rfl ?_
      refine b_getR dX10_isAlike_18 fk_X10_250 ly_582 gg_582_85 ?_
      refine b_iload_n dX10_isAlike_21 rfl ?_
      refine b_iload_n dX10_isAlike_22 rfl ?_
      refine b_iadd dX10_isAlike_23 ?_
      obtain ⟨g3, h⟩ := h
      refine b_lald dX10_isAlike_24 ly_635 g3 ?_
      obtain ⟨g4, h⟩ := h
      obtain ⟨g5, h⟩ := h
      refine b_lc_eq 31 dX10_isAlike_25 dX10_isAlike_26 g4 g5 (by decide) (fun c2 => ?_) (fun c2 => ?_)
      · have h := ifT c2 h
        refine b_iinc (ls' := [vR 582, vI x1, vI x2, vI (x3 + 1)]) dX10_isAlike_31 rfl rfl ?_
        refine b_goto 2 dX10_isAlike_34 (by decide) ?_
        exact ih _ _ _ _ h
      · have h := ifF c2 h
        refine b_iconst dX10_isAlike_29 ?_
        exact b_zret dX10_isAlike_30 rfl (Or.inl rfl) h
theorem p_X10_isAlike {f : Nat} {Q : Int → MM → Prop} {T : MM → Prop} (hf : 1 ≤ f) (x1 : Int) (x2 : Int) (m : MM) (h : P_X10_isAlike x1 x2 m Q) : CC f M_X10_isAlike [vR 582, vI x1, vI x2] m Q T := by
  refine CC.of (plainFor_of_name (by decide)) (Nat.le_of_ble_eq_true rfl) (ls := [vR 582, vI x1, vI x2, vU]) rfl ?_
  have h : ∃ nn, P_X10_isAlike_2 Q nn x1 x2 0 m := h
  refine b_iconst dX10_isAlike_0 ?_
  refine b_istore_n (ls' := [vR 582, vI x1, vI x2, vI 0]) dX10_isAlike_1 (Nat.le_of_ble_eq_true rfl) rfl ?_
  obtain ⟨nn, h⟩ := h
  exact pl_X10_isAlike_2 hf nn _ _ _ _ h
theorem dX10_tell_0 : decode cX10_tell 0 = .ok (.aload_n 0, 1) := by decide +kernel
theorem dX10_tell_1 : decode cX10_tell 1 = .ok (.iload_n 1, 1) := by decide +kernel
theorem dX10_tell_2 : decode cX10_tell 2 = .ok (.sipush 882, 3) := by decide +kernel
theorem dX10_tell_5 : decode cX10_tell 5 = .ok (.invokevirtual 685, 3) := by decide +kernel
theorem dX10_tell_8 : decode cX10_tell 8 = .ok (.aload_n 0, 1) := by decide +kernel
theorem dX10_tell_9 : decode cX10_tell 9 = .ok (.iload_n 1, 1) := by decide +kernel
theorem dX10_tell_10 : decode cX10_tell 10 = .ok (.iload_n 2, 1) := by decide +kernel
theorem dX10_tell_11 : decode cX10_tell 11 = .ok (.ifCond .eq 7, 3) := by decide +kernel
theorem dX10_tell_14 : decode cX10_tell 14 = .ok (.lconst 1, 1) := by decide +kernel
theorem dX10_tell_15 : decode cX10_tell 15 = .ok (.goto 4, 3) := by decide +kernel
theorem dX10_tell_18 : decode cX10_tell 18 = .ok (.lconst 0, 1) := by decide +kernel
theorem dX10_tell_19 : decode cX10_tell 19 = .ok (.invokevirtual 633, 3) := by decide +kernel
theorem dX10_tell_22 : decode cX10_tell 22 = .ok (.return_, 1) := by decide +kernel
/-! AlgebraHouseModel.tell(IZ)V -/
def P_X10_tell (x1 : Int) (x2 : Int) (m : MM) (Q : Int → MM → Prop) : Prop := P_X10_clear x1 882 m (fun r1 m1 => ((RI x2)) ∧ P_X10_set x1 (if x2 = 0 then 0 else 1 : Int) m1 (fun r2 m2 => Q 0 m2))
theorem p_X10_tell {f : Nat} {Q : Int → MM → Prop} {T : MM → Prop} (hf : 3 ≤ f) (x1 : Int) (x2 : Int) (m : MM) (h : P_X10_tell x1 x2 m Q) : CC f M_X10_tell [vR 582, vI x1, vI x2] m Q T := by
  refine CC.of (plainFor_of_name (by decide)) (Nat.le_of_ble_eq_true rfl) (ls := [vR 582, vI x1, vI x2]) rfl ?_
  have h : P_X10_clear x1 882 m (fun r1 m1 => ((RI x2)) ∧ P_X10_set x1 (if x2 = 0 then 0 else 1 : Int) m1 (fun r2 m2 => Q 0 m2)) := h
  refine b_aload_n dX10_tell_0 rfl ?_
  refine b_iload_n dX10_tell_1 rfl ?_
  refine b_sipush dX10_tell_2 (by decide) ?_
  refine b_cVv (as := [vI x1, vI 882]) (st := []) dX10_tell_5 mf_X10_clear qs162 lk_X10_685 ly_582 rfl (p_X10_clear (f := 2) (Nat.le_refl _) _ _ _ h) (by omega) rfl rfl (Nat.le_of_ble_eq_true rfl) (by decide) rfl (fun _ => rfl) (fun r1 m1 h => ?_) (fun _ h => h)
  refine b_aload_n dX10_tell_8 rfl ?_
  refine b_iload_n dX10_tell_9 rfl ?_
  refine b_iload_n dX10_tell_10 rfl ?_
  obtain ⟨hs, h⟩ := h
  have K : B f M_X10_tell 19 [vR 582, vI x1, vI x2] [vL (if x2 = 0 then 0 else 1 : Int), vI x1, vR 582] m1 Q T := by
    clear hs
    refine b_cVv (as := [vI x1, vL (if x2 = 0 then 0 else 1 : Int)]) (st := []) dX10_tell_19 mf_X10_set qs163 lk_X10_633 ly_582 rfl (p_X10_set (f := 1) (Nat.le_refl _) _ _ _ h) (by omega) rfl rfl (Nat.le_of_ble_eq_true rfl) (by decide) rfl (fun _ => rfl) (fun r2 m2 h => ?_) (fun _ h => h)
    exact b_vret dX10_tell_22 rfl h
  have g1 := hs
  refine b_if_eq 18 dX10_tell_11 g1 (by decide) (fun c1 => ?_) (fun c1 => ?_)
  ·
    refine b_lconst 0 dX10_tell_18 (by decide) ?_
    exact Eq.mp (congrArg (fun z => B f M_X10_tell 19 [vR 582, vI x1, vI x2] (vL z :: [vI x1, vR 582]) m1 Q T) (show (if x2 = 0 then 0 else 1 : Int) = 0 by rw [if_pos c1])) K
  ·
    refine b_lconst 1 dX10_tell_14 (by decide) ?_
    refine b_goto 19 dX10_tell_15 (by decide) ?_
    exact Eq.mp (congrArg (fun z => B f M_X10_tell 19 [vR 582, vI x1, vI x2] (vL z :: [vI x1, vR 582]) m1 Q T) (show (if x2 = 0 then 0 else 1 : Int) = 1 by rw [if_neg c1])) K
theorem dX10_evalTwo_0 : decode cX10_evalTwo 0 = .ok (.aload_n 0, 1) := by decide +kernel
theorem dX10_evalTwo_1 : decode cX10_evalTwo 1 = .ok (.getfield 109, 3) := by decide +kernel
theorem dX10_evalTwo_4 : decode cX10_evalTwo 4 = .ok (.iload_n 1, 1) := by decide +kernel
theorem dX10_evalTwo_5 : decode cX10_evalTwo 5 = .ok (.iaload, 1) := by decide +kernel
theorem dX10_evalTwo_6 : decode cX10_evalTwo 6 = .ok (.istore 4, 2) := by decide +kernel
theorem dX10_evalTwo_8 : decode cX10_evalTwo 8 = .ok (.aload_n 0, 1) := by decide +kernel
theorem dX10_evalTwo_9 : decode cX10_evalTwo 9 = .ok (.getfield 112, 3) := by decide +kernel
theorem dX10_evalTwo_12 : decode cX10_evalTwo 12 = .ok (.iload_n 1, 1) := by decide +kernel
theorem dX10_evalTwo_13 : decode cX10_evalTwo 13 = .ok (.iaload, 1) := by decide +kernel
theorem dX10_evalTwo_14 : decode cX10_evalTwo 14 = .ok (.istore 5, 2) := by decide +kernel
theorem dX10_evalTwo_16 : decode cX10_evalTwo 16 = .ok (.aload_n 0, 1) := by decide +kernel
theorem dX10_evalTwo_17 : decode cX10_evalTwo 17 = .ok (.getfield 106, 3) := by decide +kernel
theorem dX10_evalTwo_20 : decode cX10_evalTwo 20 = .ok (.iload_n 1, 1) := by decide +kernel
theorem dX10_evalTwo_21 : decode cX10_evalTwo 21 = .ok (.iaload, 1) := by decide +kernel
theorem dX10_evalTwo_22 : decode cX10_evalTwo 22 = .ok (.istore 6, 2) := by decide +kernel
theorem dX10_evalTwo_24 : decode cX10_evalTwo 24 = .ok (.aload_n 0, 1) := by decide +kernel
theorem dX10_evalTwo_25 : decode cX10_evalTwo 25 = .ok (.iload 4, 2) := by decide +kernel
theorem dX10_evalTwo_27 : decode cX10_evalTwo 27 = .ok (.iload 5, 2) := by decide +kernel
theorem dX10_evalTwo_29 : decode cX10_evalTwo 29 = .ok (.invokevirtual 489, 3) := by decide +kernel
theorem dX10_evalTwo_32 : decode cX10_evalTwo 32 = .ok (.istore 7, 2) := by decide +kernel
theorem dX10_evalTwo_34 : decode cX10_evalTwo 34 = .ok (.iload 6, 2) := by decide +kernel
theorem dX10_evalTwo_36 : decode cX10_evalTwo 36 = .ok (.bipush 20, 2) := by decide +kernel
theorem dX10_evalTwo_38 : decode cX10_evalTwo 38 = .ok (.if_icmp .ne 14, 3) := by decide +kernel
theorem dX10_evalTwo_41 : decode cX10_evalTwo 41 = .ok (.aload_n 0, 1) := by decide +kernel
theorem dX10_evalTwo_42 : decode cX10_evalTwo 42 = .ok (.getfield 442, 3) := by decide +kernel
theorem dX10_evalTwo_45 : decode cX10_evalTwo 45 = .ok (.ifCond .ne 7, 3) := by decide +kernel
theorem dX10_evalTwo_48 : decode cX10_evalTwo 48 = .ok (.iconst 1, 1) := by decide +kernel
theorem dX10_evalTwo_49 : decode cX10_evalTwo 49 = .ok (.goto 7, 3) := by decide +kernel
theorem dX10_evalTwo_52 : decode cX10_evalTwo 52 = .ok (.aload_n 0, 1) := by decide +kernel
theorem dX10_evalTwo_53 : decode cX10_evalTwo 53 = .ok (.getfield 442, 3) := by decide +kernel
theorem dX10_evalTwo_56 : decode cX10_evalTwo 56 = .ok (.istore 8, 2) := by decide +kernel
theorem dX10_evalTwo_58 : decode cX10_evalTwo 58 = .ok (.aload_n 0, 1) := by decide +kernel
theorem dX10_evalTwo_59 : decode cX10_evalTwo 59 = .ok (.getfield 450, 3) := by decide +kernel
theorem dX10_evalTwo_62 : decode cX10_evalTwo 62 = .ok (.istore 9, 2) := by decide +kernel
theorem dX10_evalTwo_64 : decode cX10_evalTwo 64 = .ok (.aload_n 0, 1) := by decide +kernel
theorem dX10_evalTwo_65 : decode cX10_evalTwo 65 = .ok (.getfield 453, 3) := by decide +kernel
theorem dX10_evalTwo_68 : decode cX10_evalTwo 68 = .ok (.istore 10, 2) := by decide +kernel
theorem dX10_evalTwo_70 : decode cX10_evalTwo 70 = .ok (.aload_n 0, 1) := by decide +kernel
theorem dX10_evalTwo_71 : decode cX10_evalTwo 71 = .ok (.iload_n 2, 1) := by decide +kernel
theorem dX10_evalTwo_72 : decode cX10_evalTwo 72 = .ok (.aload_n 0, 1) := by decide +kernel
theorem dX10_evalTwo_73 : decode cX10_evalTwo 73 = .ok (.getfield 130, 3) := by decide +kernel
theorem dX10_evalTwo_76 : decode cX10_evalTwo 76 = .ok (.iload 4, 2) := by decide +kernel
theorem dX10_evalTwo_78 : decode cX10_evalTwo 78 = .ok (.iaload, 1) := by decide +kernel
theorem dX10_evalTwo_79 : decode cX10_evalTwo 79 = .ok (.aload_n 0, 1) := by decide +kernel
theorem dX10_evalTwo_80 : decode cX10_evalTwo 80 = .ok (.getfield 133, 3) := by decide +kernel
theorem dX10_evalTwo_83 : decode cX10_evalTwo 83 = .ok (.iload 4, 2) := by decide +kernel
theorem dX10_evalTwo_85 : decode cX10_evalTwo 85 = .ok (.iaload, 1) := by decide +kernel
theorem dX10_evalTwo_86 : decode cX10_evalTwo 86 = .ok (.aload_n 0, 1) := by decide +kernel
theorem dX10_evalTwo_87 : decode cX10_evalTwo 87 = .ok (.getfield 136, 3) := by decide +kernel
theorem dX10_evalTwo_90 : decode cX10_evalTwo 90 = .ok (.iload 4, 2) := by decide +kernel
theorem dX10_evalTwo_92 : decode cX10_evalTwo 92 = .ok (.iaload, 1) := by decide +kernel
theorem dX10_evalTwo_93 : decode cX10_evalTwo 93 = .ok (.iload 8, 2) := by decide +kernel
theorem dX10_evalTwo_95 : decode cX10_evalTwo 95 = .ok (.iload 9, 2) := by decide +kernel
theorem dX10_evalTwo_97 : decode cX10_evalTwo 97 = .ok (.iload 10, 2) := by decide +kernel
theorem dX10_evalTwo_99 : decode cX10_evalTwo 99 = .ok (.invokevirtual 724, 3) := by decide +kernel
theorem dX10_evalTwo_102 : decode cX10_evalTwo 102 = .ok (.iload 6, 2) := by decide +kernel
theorem dX10_evalTwo_104 : decode cX10_evalTwo 104 = .ok (.bipush 20, 2) := by decide +kernel
theorem dX10_evalTwo_106 : decode cX10_evalTwo 106 = .ok (.if_icmp .ne 24, 3) := by decide +kernel
theorem dX10_evalTwo_109 : decode cX10_evalTwo 109 = .ok (.aload_n 0, 1) := by decide +kernel
theorem dX10_evalTwo_110 : decode cX10_evalTwo 110 = .ok (.iload_n 3, 1) := by decide +kernel
theorem dX10_evalTwo_111 : decode cX10_evalTwo 111 = .ok (.aload_n 0, 1) := by decide +kernel
theorem dX10_evalTwo_112 : decode cX10_evalTwo 112 = .ok (.getfield 130, 3) := by decide +kernel
theorem dX10_evalTwo_115 : decode cX10_evalTwo 115 = .ok (.iload 5, 2) := by decide +kernel
theorem dX10_evalTwo_117 : decode cX10_evalTwo 117 = .ok (.iaload, 1) := by decide +kernel
theorem dX10_evalTwo_118 : decode cX10_evalTwo 118 = .ok (.iconst 0, 1) := by decide +kernel
theorem dX10_evalTwo_119 : decode cX10_evalTwo 119 = .ok (.iconst 0, 1) := by decide +kernel
theorem dX10_evalTwo_120 : decode cX10_evalTwo 120 = .ok (.iload 8, 2) := by decide +kernel
theorem dX10_evalTwo_122 : decode cX10_evalTwo 122 = .ok (.iconst 0, 1) := by decide +kernel
theorem dX10_evalTwo_123 : decode cX10_evalTwo 123 = .ok (.iconst 0, 1) := by decide +kernel
theorem dX10_evalTwo_124 : decode cX10_evalTwo 124 = .ok (.invokevirtual 724, 3) := by decide +kernel
theorem dX10_evalTwo_127 : decode cX10_evalTwo 127 = .ok (.goto 35, 3) := by decide +kernel
theorem dX10_evalTwo_130 : decode cX10_evalTwo 130 = .ok (.aload_n 0, 1) := by decide +kernel
theorem dX10_evalTwo_131 : decode cX10_evalTwo 131 = .ok (.iload_n 3, 1) := by decide +kernel
theorem dX10_evalTwo_132 : decode cX10_evalTwo 132 = .ok (.aload_n 0, 1) := by decide +kernel
theorem dX10_evalTwo_133 : decode cX10_evalTwo 133 = .ok (.getfield 130, 3) := by decide +kernel
theorem dX10_evalTwo_136 : decode cX10_evalTwo 136 = .ok (.iload 5, 2) := by decide +kernel
theorem dX10_evalTwo_138 : decode cX10_evalTwo 138 = .ok (.iaload, 1) := by decide +kernel
theorem dX10_evalTwo_139 : decode cX10_evalTwo 139 = .ok (.aload_n 0, 1) := by decide +kernel
theorem dX10_evalTwo_140 : decode cX10_evalTwo 140 = .ok (.getfield 133, 3) := by decide +kernel
theorem dX10_evalTwo_143 : decode cX10_evalTwo 143 = .ok (.iload 5, 2) := by decide +kernel
theorem dX10_evalTwo_145 : decode cX10_evalTwo 145 = .ok (.iaload, 1) := by decide +kernel
theorem dX10_evalTwo_146 : decode cX10_evalTwo 146 = .ok (.aload_n 0, 1) := by decide +kernel
theorem dX10_evalTwo_147 : decode cX10_evalTwo 147 = .ok (.getfield 136, 3) := by decide +kernel
theorem dX10_evalTwo_150 : decode cX10_evalTwo 150 = .ok (.iload 5, 2) := by decide +kernel
theorem dX10_evalTwo_152 : decode cX10_evalTwo 152 = .ok (.iaload, 1) := by decide +kernel
theorem dX10_evalTwo_153 : decode cX10_evalTwo 153 = .ok (.iload 8, 2) := by decide +kernel
theorem dX10_evalTwo_155 : decode cX10_evalTwo 155 = .ok (.iload 9, 2) := by decide +kernel
theorem dX10_evalTwo_157 : decode cX10_evalTwo 157 = .ok (.iload 10, 2) := by decide +kernel
theorem dX10_evalTwo_159 : decode cX10_evalTwo 159 = .ok (.invokevirtual 724, 3) := by decide +kernel
theorem dX10_evalTwo_162 : decode cX10_evalTwo 162 = .ok (.iload 6, 2) := by decide +kernel
theorem dX10_evalTwo_164 : decode cX10_evalTwo 164 = .ok (.tableswitch 243 13 20 #[48, 62, 84, 131, 178, 195, 212, 228], 48) := by decide +kernel
theorem dX10_evalTwo_212 : decode cX10_evalTwo 212 = .ok (.aload_n 0, 1) := by decide +kernel
theorem dX10_evalTwo_213 : decode cX10_evalTwo 213 = .ok (.iload_n 2, 1) := by decide +kernel
theorem dX10_evalTwo_214 : decode cX10_evalTwo 214 = .ok (.aload_n 0, 1) := by decide +kernel
theorem dX10_evalTwo_215 : decode cX10_evalTwo 215 = .ok (.iload_n 2, 1) := by decide +kernel
theorem dX10_evalTwo_216 : decode cX10_evalTwo 216 = .ok (.iload_n 3, 1) := by decide +kernel
theorem dX10_evalTwo_217 : decode cX10_evalTwo 217 = .ok (.invokevirtual 783, 3) := by decide +kernel
theorem dX10_evalTwo_220 : decode cX10_evalTwo 220 = .ok (.invokevirtual 786, 3) := by decide +kernel
theorem dX10_evalTwo_223 : decode cX10_evalTwo 223 = .ok (.goto 225, 3) := by decide +kernel
theorem dX10_evalTwo_226 : decode cX10_evalTwo 226 = .ok (.aload_n 0, 1) := by decide +kernel
theorem dX10_evalTwo_227 : decode cX10_evalTwo 227 = .ok (.iload_n 2, 1) := by decide +kernel
theorem dX10_evalTwo_228 : decode cX10_evalTwo 228 = .ok (.aload_n 0, 1) := by decide +kernel
theorem dX10_evalTwo_229 : decode cX10_evalTwo 229 = .ok (.iload_n 2, 1) := by decide +kernel
theorem dX10_evalTwo_230 : decode cX10_evalTwo 230 = .ok (.iload_n 3, 1) := by decide +kernel
theorem dX10_evalTwo_231 : decode cX10_evalTwo 231 = .ok (.invokevirtual 783, 3) := by decide +kernel
theorem dX10_evalTwo_234 : decode cX10_evalTwo 234 = .ok (.ifCond .ne 7, 3) := by decide +kernel
theorem dX10_evalTwo_237 : decode cX10_evalTwo 237 = .ok (.iconst 1, 1) := by decide +kernel
theorem dX10_evalTwo_238 : decode cX10_evalTwo 238 = .ok (.goto 4, 3) := by decide +kernel
theorem dX10_evalTwo_241 : decode cX10_evalTwo 241 = .ok (.iconst 0, 1) := by decide +kernel
theorem dX10_evalTwo_242 : decode cX10_evalTwo 242 = .ok (.invokevirtual 786, 3) := by decide +kernel
theorem dX10_evalTwo_245 : decode cX10_evalTwo 245 = .ok (.goto 203, 3) := by decide +kernel
theorem dX10_evalTwo_248 : decode cX10_evalTwo 248 = .ok (.aload_n 0, 1) := by decide +kernel
theorem dX10_evalTwo_249 : decode cX10_evalTwo 249 = .ok (.iload_n 2, 1) := by decide +kernel
theorem dX10_evalTwo_250 : decode cX10_evalTwo 250 = .ok (.aload_n 0, 1) := by decide +kernel
theorem dX10_evalTwo_251 : decode cX10_evalTwo 251 = .ok (.getfield 250, 3) := by decide +kernel
theorem dX10_evalTwo_254 : decode cX10_evalTwo 254 = .ok (.iload_n 2, 1) := by decide +kernel
theorem dX10_evalTwo_255 : decode cX10_evalTwo 255 = .ok (.laload, 1) := by decide +kernel
theorem dX10_evalTwo_256 : decode cX10_evalTwo 256 = .ok (.aload_n 0, 1) := by decide +kernel
theorem dX10_evalTwo_257 : decode cX10_evalTwo 257 = .ok (.getfield 250, 3) := by decide +kernel
theorem dX10_evalTwo_260 : decode cX10_evalTwo 260 = .ok (.iload_n 3, 1) := by decide +kernel
theorem dX10_evalTwo_261 : decode cX10_evalTwo 261 = .ok (.iconst 1, 1) := by decide +kernel
theorem dX10_evalTwo_262 : decode cX10_evalTwo 262 = .ok (.iadd, 1) := by decide +kernel
theorem dX10_evalTwo_263 : decode cX10_evalTwo 263 = .ok (.laload, 1) := by decide +kernel
theorem dX10_evalTwo_264 : decode cX10_evalTwo 264 = .ok (.lmul, 1) := by decide +kernel
theorem dX10_evalTwo_265 : decode cX10_evalTwo 265 = .ok (.aload_n 0, 1) := by decide +kernel
theorem dX10_evalTwo_266 : decode cX10_evalTwo 266 = .ok (.getfield 250, 3) := by decide +kernel
theorem dX10_evalTwo_269 : decode cX10_evalTwo 269 = .ok (.iload_n 3, 1) := by decide +kernel
theorem dX10_evalTwo_270 : decode cX10_evalTwo 270 = .ok (.laload, 1) := by decide +kernel
theorem dX10_evalTwo_271 : decode cX10_evalTwo 271 = .ok (.aload_n 0, 1) := by decide +kernel
theorem dX10_evalTwo_272 : decode cX10_evalTwo 272 = .ok (.getfield 250, 3) := by decide +kernel
theorem dX10_evalTwo_275 : decode cX10_evalTwo 275 = .ok (.iload_n 2, 1) := by decide +kernel
theorem dX10_evalTwo_276 : decode cX10_evalTwo 276 = .ok (.iconst 1, 1) := by decide +kernel
theorem dX10_evalTwo_277 : decode cX10_evalTwo 277 = .ok (.iadd, 1) := by decide +kernel
theorem dX10_evalTwo_278 : decode cX10_evalTwo 278 = .ok (.laload, 1) := by decide +kernel
theorem dX10_evalTwo_279 : decode cX10_evalTwo 279 = .ok (.lmul, 1) := by decide +kernel
theorem dX10_evalTwo_280 : decode cX10_evalTwo 280 = .ok (.lcmp, 1) := by decide +kernel
theorem dX10_evalTwo_281 : decode cX10_evalTwo 281 = .ok (.ifCond .ge 7, 3) := by decide +kernel
theorem dX10_evalTwo_284 : decode cX10_evalTwo 284 = .ok (.iconst 1, 1) := by decide +kernel
theorem dX10_evalTwo_285 : decode cX10_evalTwo 285 = .ok (.goto 4, 3) := by decide +kernel
theorem dX10_evalTwo_288 : decode cX10_evalTwo 288 = .ok (.iconst 0, 1) := by decide +kernel
theorem dX10_evalTwo_289 : decode cX10_evalTwo 289 = .ok (.invokevirtual 786, 3) := by decide +kernel
theorem dX10_evalTwo_292 : decode cX10_evalTwo 292 = .ok (.goto 156, 3) := by decide +kernel
theorem dX10_evalTwo_295 : decode cX10_evalTwo 295 = .ok (.aload_n 0, 1) := by decide +kernel
theorem dX10_evalTwo_296 : decode cX10_evalTwo 296 = .ok (.iload_n 2, 1) := by decide +kernel
theorem dX10_evalTwo_297 : decode cX10_evalTwo 297 = .ok (.aload_n 0, 1) := by decide +kernel
theorem dX10_evalTwo_298 : decode cX10_evalTwo 298 = .ok (.getfield 250, 3) := by decide +kernel
theorem dX10_evalTwo_301 : decode cX10_evalTwo 301 = .ok (.iload_n 2, 1) := by decide +kernel
theorem dX10_evalTwo_302 : decode cX10_evalTwo 302 = .ok (.laload, 1) := by decide +kernel
theorem dX10_evalTwo_303 : decode cX10_evalTwo 303 = .ok (.aload_n 0, 1) := by decide +kernel
theorem dX10_evalTwo_304 : decode cX10_evalTwo 304 = .ok (.getfield 250, 3) := by decide +kernel
theorem dX10_evalTwo_307 : decode cX10_evalTwo 307 = .ok (.iload_n 3, 1) := by decide +kernel
theorem dX10_evalTwo_308 : decode cX10_evalTwo 308 = .ok (.iconst 1, 1) := by decide +kernel
theorem dX10_evalTwo_309 : decode cX10_evalTwo 309 = .ok (.iadd, 1) := by decide +kernel
theorem dX10_evalTwo_310 : decode cX10_evalTwo 310 = .ok (.laload, 1) := by decide +kernel
theorem dX10_evalTwo_311 : decode cX10_evalTwo 311 = .ok (.lmul, 1) := by decide +kernel
theorem dX10_evalTwo_312 : decode cX10_evalTwo 312 = .ok (.aload_n 0, 1) := by decide +kernel
theorem dX10_evalTwo_313 : decode cX10_evalTwo 313 = .ok (.getfield 250, 3) := by decide +kernel
theorem dX10_evalTwo_316 : decode cX10_evalTwo 316 = .ok (.iload_n 3, 1) := by decide +kernel
theorem dX10_evalTwo_317 : decode cX10_evalTwo 317 = .ok (.laload, 1) := by decide +kernel
theorem dX10_evalTwo_318 : decode cX10_evalTwo 318 = .ok (.aload_n 0, 1) := by decide +kernel
theorem dX10_evalTwo_319 : decode cX10_evalTwo 319 = .ok (.getfield 250, 3) := by decide +kernel
theorem dX10_evalTwo_322 : decode cX10_evalTwo 322 = .ok (.iload_n 2, 1) := by decide +kernel
theorem dX10_evalTwo_323 : decode cX10_evalTwo 323 = .ok (.iconst 1, 1) := by decide +kernel
theorem dX10_evalTwo_324 : decode cX10_evalTwo 324 = .ok (.iadd, 1) := by decide +kernel
theorem dX10_evalTwo_325 : decode cX10_evalTwo 325 = .ok (.laload, 1) := by decide +kernel
theorem dX10_evalTwo_326 : decode cX10_evalTwo 326 = .ok (.lmul, 1) := by decide +kernel
theorem dX10_evalTwo_327 : decode cX10_evalTwo 327 = .ok (.lcmp, 1) := by decide +kernel
theorem dX10_evalTwo_328 : decode cX10_evalTwo 328 = .ok (.ifCond .gt 7, 3) := by decide +kernel
theorem dX10_evalTwo_331 : decode cX10_evalTwo 331 = .ok (.iconst 1, 1) := by decide +kernel
theorem dX10_evalTwo_332 : decode cX10_evalTwo 332 = .ok (.goto 4, 3) := by decide +kernel
theorem dX10_evalTwo_335 : decode cX10_evalTwo 335 = .ok (.iconst 0, 1) := by decide +kernel
theorem dX10_evalTwo_336 : decode cX10_evalTwo 336 = .ok (.invokevirtual 786, 3) := by decide +kernel
theorem dX10_evalTwo_339 : decode cX10_evalTwo 339 = .ok (.goto 109, 3) := by decide +kernel
theorem dX10_evalTwo_342 : decode cX10_evalTwo 342 = .ok (.aload_n 0, 1) := by decide +kernel
theorem dX10_evalTwo_343 : decode cX10_evalTwo 343 = .ok (.iload_n 2, 1) := by decide +kernel
theorem dX10_evalTwo_344 : decode cX10_evalTwo 344 = .ok (.iload_n 2, 1) := by decide +kernel
theorem dX10_evalTwo_345 : decode cX10_evalTwo 345 = .ok (.iload_n 3, 1) := by decide +kernel
theorem dX10_evalTwo_346 : decode cX10_evalTwo 346 = .ok (.iload 8, 2) := by decide +kernel
theorem dX10_evalTwo_348 : decode cX10_evalTwo 348 = .ok (.iload 9, 2) := by decide +kernel
theorem dX10_evalTwo_350 : decode cX10_evalTwo 350 = .ok (.iload 10, 2) := by decide +kernel
theorem dX10_evalTwo_352 : decode cX10_evalTwo 352 = .ok (.iconst 0, 1) := by decide +kernel
theorem dX10_evalTwo_353 : decode cX10_evalTwo 353 = .ok (.invokevirtual 751, 3) := by decide +kernel
theorem dX10_evalTwo_356 : decode cX10_evalTwo 356 = .ok (.goto 92, 3) := by decide +kernel
theorem dX10_evalTwo_359 : decode cX10_evalTwo 359 = .ok (.aload_n 0, 1) := by decide +kernel
theorem dX10_evalTwo_360 : decode cX10_evalTwo 360 = .ok (.iload_n 2, 1) := by decide +kernel
theorem dX10_evalTwo_361 : decode cX10_evalTwo 361 = .ok (.iload_n 2, 1) := by decide +kernel
theorem dX10_evalTwo_362 : decode cX10_evalTwo 362 = .ok (.iload_n 3, 1) := by decide +kernel
theorem dX10_evalTwo_363 : decode cX10_evalTwo 363 = .ok (.iload 8, 2) := by decide +kernel
theorem dX10_evalTwo_365 : decode cX10_evalTwo 365 = .ok (.iload 9, 2) := by decide +kernel
theorem dX10_evalTwo_367 : decode cX10_evalTwo 367 = .ok (.iload 10, 2) := by decide +kernel
theorem dX10_evalTwo_369 : decode cX10_evalTwo 369 = .ok (.iconst 1, 1) := by decide +kernel
theorem dX10_evalTwo_370 : decode cX10_evalTwo 370 = .ok (.invokevirtual 751, 3) := by decide +kernel
theorem dX10_evalTwo_373 : decode cX10_evalTwo 373 = .ok (.goto 75, 3) := by decide +kernel
theorem dX10_evalTwo_376 : decode cX10_evalTwo 376 = .ok (.aload_n 0, 1) := by decide +kernel
theorem dX10_evalTwo_377 : decode cX10_evalTwo 377 = .ok (.iload_n 2, 1) := by decide +kernel
theorem dX10_evalTwo_378 : decode cX10_evalTwo 378 = .ok (.iload_n 2, 1) := by decide +kernel
theorem dX10_evalTwo_379 : decode cX10_evalTwo 379 = .ok (.iload_n 3, 1) := by decide +kernel
theorem dX10_evalTwo_380 : decode cX10_evalTwo 380 = .ok (.iload 8, 2) := by decide +kernel
theorem dX10_evalTwo_382 : decode cX10_evalTwo 382 = .ok (.iload 9, 2) := by decide +kernel
theorem dX10_evalTwo_384 : decode cX10_evalTwo 384 = .ok (.iload 10, 2) := by decide +kernel
theorem dX10_evalTwo_386 : decode cX10_evalTwo 386 = .ok (.invokevirtual 779, 3) := by decide +kernel
theorem dX10_evalTwo_389 : decode cX10_evalTwo 389 = .ok (.goto 59, 3) := by decide +kernel
theorem dX10_evalTwo_392 : decode cX10_evalTwo 392 = .ok (.aload_n 0, 1) := by decide +kernel
theorem dX10_evalTwo_393 : decode cX10_evalTwo 393 = .ok (.iload_n 2, 1) := by decide +kernel
theorem dX10_evalTwo_394 : decode cX10_evalTwo 394 = .ok (.iload_n 3, 1) := by decide +kernel
theorem dX10_evalTwo_395 : decode cX10_evalTwo 395 = .ok (.iload 8, 2) := by decide +kernel
theorem dX10_evalTwo_397 : decode cX10_evalTwo 397 = .ok (.iload 9, 2) := by decide +kernel
theorem dX10_evalTwo_399 : decode cX10_evalTwo 399 = .ok (.iload 10, 2) := by decide +kernel
theorem dX10_evalTwo_401 : decode cX10_evalTwo 401 = .ok (.invokevirtual 790, 3) := by decide +kernel
theorem dX10_evalTwo_404 : decode cX10_evalTwo 404 = .ok (.goto 44, 3) := by decide +kernel
theorem dX10_evalTwo_407 : decode cX10_evalTwo 407 = .ok (.aload_n 0, 1) := by decide +kernel
theorem dX10_evalTwo_408 : decode cX10_evalTwo 408 = .ok (.iload_n 2, 1) := by decide +kernel
theorem dX10_evalTwo_409 : decode cX10_evalTwo 409 = .ok (.iload_n 3, 1) := by decide +kernel
theorem dX10_evalTwo_410 : decode cX10_evalTwo 410 = .ok (.iload 8, 2) := by decide +kernel
theorem dX10_evalTwo_412 : decode cX10_evalTwo 412 = .ok (.iload 9, 2) := by decide +kernel
theorem dX10_evalTwo_414 : decode cX10_evalTwo 414 = .ok (.invokevirtual 793, 3) := by decide +kernel
theorem dX10_evalTwo_417 : decode cX10_evalTwo 417 = .ok (.aload_n 0, 1) := by decide +kernel
theorem dX10_evalTwo_418 : decode cX10_evalTwo 418 = .ok (.getfield 601, 3) := by decide +kernel
theorem dX10_evalTwo_421 : decode cX10_evalTwo 421 = .ok (.ifCond .ne 27, 3) := by decide +kernel
theorem dX10_evalTwo_424 : decode cX10_evalTwo 424 = .ok (.aload_n 0, 1) := by decide +kernel
theorem dX10_evalTwo_425 : decode cX10_evalTwo 425 = .ok (.iload_n 2, 1) := by decide +kernel
theorem dX10_evalTwo_426 : decode cX10_evalTwo 426 = .ok (.iload 6, 2) := by decide +kernel
theorem dX10_evalTwo_428 : decode cX10_evalTwo 428 = .ok (.bipush 21, 2) := by decide +kernel
theorem dX10_evalTwo_430 : decode cX10_evalTwo 430 = .ok (.if_icmp .ne 9, 3) := by decide +kernel
theorem dX10_evalTwo_433 : decode cX10_evalTwo 433 = .ok (.ldc_w 703, 3) := by decide +kernel
theorem dX10_evalTwo_436 : decode cX10_evalTwo 436 = .ok (.goto 6, 3) := by decide +kernel
theorem dX10_evalTwo_439 : decode cX10_evalTwo 439 = .ok (.ldc_w 750, 3) := by decide +kernel
theorem dX10_evalTwo_442 : decode cX10_evalTwo 442 = .ok (.sipush 882, 3) := by decide +kernel
theorem dX10_evalTwo_445 : decode cX10_evalTwo 445 = .ok (.invokevirtual 658, 3) := by decide +kernel
theorem dX10_evalTwo_448 : decode cX10_evalTwo 448 = .ok (.return_, 1) := by decide +kernel
/-! AlgebraHouseModel.evalTwo(III)V -/
def P_X10_evalTwo_162 (Q : Int → MM → Prop) (x2 : Int) (x3 : Int) (x6 : Int) (x8 : Int) (x9 : Int) (x10 : Int) (m : MM) : Prop := (RI x6) ∧ (if x6 = 13 then P_X10_isAlike x2 x3 m (fun r1 m1 => P_X10_tell x2 r1 m1 (fun r2 m2 => Q 0 m2)) else (if x6 = 14 then P_X10_isAlike x2 x3 m (fun r3 m3 => ((RI r3)) ∧ P_X10_tell x2 (if r3 = 0 then 1 else 0 : Int) m3 (fun r4 m4 => Q 0 m4)) else (if x6 = 15 then (0 ≤ x2 ∧ x2 < 1600000) ∧ (0 ≤ (x3 + 1) ∧ (x3 + 1) < 1600000) ∧ (0 ≤ x3 ∧ x3 < 1600000) ∧ (0 ≤ (x2 + 1) ∧ (x2 + 1) < 1600000) ∧ ((RL ((m 635 x2) * (m 635 (x3 + 1)))) ∧ (RL ((m 635 x3) * (m 635 (x2 + 1))))) ∧ P_X10_tell x2 (if ((m 635 x3) * (m 635 (x2 + 1))) ≤ ((m 635 x2) * (m 635 (x3 + 1))) then 0 else 1 : Int) m (fun r5 m5 => Q 0 m5) else (if x6 = 16 then (0 ≤ x2 ∧ x2 < 1600000) ∧ (0 ≤ (x3 + 1) ∧ (x3 + 1) < 1600000) ∧ (0 ≤ x3 ∧ x3 < 1600000) ∧ (0 ≤ (x2 + 1) ∧ (x2 + 1) < 1600000) ∧ ((RL ((m 635 x2) * (m 635 (x3 + 1)))) ∧ (RL ((m 635 x3) * (m 635 (x2 + 1))))) ∧ P_X10_tell x2 (if ((m 635 x3) * (m 635 (x2 + 1))) < ((m 635 x2) * (m 635 (x3 + 1))) then 0 else 1 : Int) m (fun r6 m6 => Q 0 m6) else (if x6 = 17 then P_X10_addValues x2 x2 x3 x8 x9 x10 0 m (fun r7 m7 => Q 0 m7) else (if x6 = 18 then P_X10_addValues x2 x2 x3 x8 x9 x10 1 m (fun r8 m8 => Q 0 m8) else (if x6 = 19 then P_X10_multiplyValues x2 x2 x3 x8 x9 x10 m (fun r9 m9 => Q 0 m9) else (if x6 = 20 then P_X10_divideBy x2 x3 x8 x9 x10 m (fun r10 m10 => Q 0 m10) else P_X10_divide x2 x3 x8 x9 m (fun r11 m11 => (RI (m11 582 84)) ∧ (if (m11 582 84) = 0 then P_X10_copy x2 (if x6 = 21 then 1592000 else 1593000 : Int) 882 m11 (fun r12 m12 => Q 0 m12) else Q 0 m11))))))))))
def P_X10_evalTwo (x1 : Int) (x2 : Int) (x3 : Int) (m : MM) (Q : Int → MM → Prop) : Prop := (0 ≤ x1 ∧ x1 < 12000) ∧ P_X10_joinsParts (m 591 x1) (m 592 x1) m (fun r1 m1 => ((RI (m 590 x1)) ∧ (if (m 590 x1) = 20 then ((RI (m1 582 65))) else True)) ∧ (0 ≤ (m 591 x1) ∧ (m 591 x1) < 12000) ∧ P_X10_go x2 (m1 598 (m 591 x1)) (m1 599 (m 591 x1)) (m1 600 (m 591 x1)) (if (m 590 x1) = 20 then (if (m1 582 65) = 0 then 1 else (m1 582 65) : Int) else (m1 582 65) : Int) (m1 582 66) (m1 582 67) m1 (fun r2 m2 => (RI (m 590 x1)) ∧ (if (m 590 x1) = 20 then (0 ≤ (m 592 x1) ∧ (m 592 x1) < 12000) ∧ P_X10_go x3 (m2 598 (m 592 x1)) 0 0 (if (m 590 x1) = 20 then (if (m1 582 65) = 0 then 1 else (m1 582 65) : Int) else (m1 582 65) : Int) 0 0 m2 (fun r4 m4 => P_X10_evalTwo_162 Q x2 x3 (m 590 x1) (if (m 590 x1) = 20 then (if (m1 582 65) = 0 then 1 else (m1 582 65) : Int) else (m1 582 65) : Int) (m1 582 66) (m1 582 67) m4) else (0 ≤ (m 592 x1) ∧ (m 592 x1) < 12000) ∧ P_X10_go x3 (m2 598 (m 592 x1)) (m2 599 (m 592 x1)) (m2 600 (m 592 x1)) (if (m 590 x1) = 20 then (if (m1 582 65) = 0 then 1 else (m1 582 65) : Int) else (m1 582 65) : Int) (m1 582 66) (m1 582 67) m2 (fun r3 m3 => P_X10_evalTwo_162 Q x2 x3 (m 590 x1) (if (m 590 x1) = 20 then (if (m1 582 65) = 0 then 1 else (m1 582 65) : Int) else (m1 582 65) : Int) (m1 582 66) (m1 582 67) m3))))
theorem pl_X10_evalTwo_162 {f : Nat} {Q : Int → MM → Prop} {T : MM → Prop} (hf : 7 ≤ f) : ∀ (x2 : Int) (x3 : Int) (x6 : Int) (x8 : Int) (x9 : Int) (x10 : Int) (m : MM), P_X10_evalTwo_162 Q x2 x3 x6 x8 x9 x10 m → B f M_X10_evalTwo 162 [vR 582, vU, vI x2, vI x3, vU, vU, vI x6, vU, vI x8, vI x9, vI x10] [] m Q T := by
  intro x2 x3 x6 x8 x9 x10 m h
  have h : (RI x6) ∧ (if x6 = 13 then P_X10_isAlike x2 x3 m (fun r1 m1 => P_X10_tell x2 r1 m1 (fun r2 m2 => Q 0 m2)) else (if x6 = 14 then P_X10_isAlike x2 x3 m (fun r3 m3 => ((RI r3)) ∧ P_X10_tell x2 (if r3 = 0 then 1 else 0 : Int) m3 (fun r4 m4 => Q 0 m4)) else (if x6 = 15 then (0 ≤ x2 ∧ x2 < 1600000) ∧ (0 ≤ (x3 + 1) ∧ (x3 + 1) < 1600000) ∧ (0 ≤ x3 ∧ x3 < 1600000) ∧ (0 ≤ (x2 + 1) ∧ (x2 + 1) < 1600000) ∧ ((RL ((m 635 x2) * (m 635 (x3 + 1)))) ∧ (RL ((m 635 x3) * (m 635 (x2 + 1))))) ∧ P_X10_tell x2 (if ((m 635 x3) * (m 635 (x2 + 1))) ≤ ((m 635 x2) * (m 635 (x3 + 1))) then 0 else 1 : Int) m (fun r5 m5 => Q 0 m5) else (if x6 = 16 then (0 ≤ x2 ∧ x2 < 1600000) ∧ (0 ≤ (x3 + 1) ∧ (x3 + 1) < 1600000) ∧ (0 ≤ x3 ∧ x3 < 1600000) ∧ (0 ≤ (x2 + 1) ∧ (x2 + 1) < 1600000) ∧ ((RL ((m 635 x2) * (m 635 (x3 + 1)))) ∧ (RL ((m 635 x3) * (m 635 (x2 + 1))))) ∧ P_X10_tell x2 (if ((m 635 x3) * (m 635 (x2 + 1))) < ((m 635 x2) * (m 635 (x3 + 1))) then 0 else 1 : Int) m (fun r6 m6 => Q 0 m6) else (if x6 = 17 then P_X10_addValues x2 x2 x3 x8 x9 x10 0 m (fun r7 m7 => Q 0 m7) else (if x6 = 18 then P_X10_addValues x2 x2 x3 x8 x9 x10 1 m (fun r8 m8 => Q 0 m8) else (if x6 = 19 then P_X10_multiplyValues x2 x2 x3 x8 x9 x10 m (fun r9 m9 => Q 0 m9) else (if x6 = 20 then P_X10_divideBy x2 x3 x8 x9 x10 m (fun r10 m10 => Q 0 m10) else P_X10_divide x2 x3 x8 x9 m (fun r11 m11 => (RI (m11 582 84)) ∧ (if (m11 582 84) = 0 then P_X10_copy x2 (if x6 = 21 then 1592000 else 1593000 : Int) 882 m11 (fun r12 m12 => Q 0 m12) else Q 0 m11)))))))))) := h
  refine b_iload dX10_evalTwo_162 rfl ?_
  obtain ⟨g1, h⟩ := h
  by_cases c1 : x6 = 13
  · have h := ifT c1 h
    refine b_tswIn 212 dX10_evalTwo_164 g1 (by omega) (by omega) (by rw [c1]; rfl) (by decide) ?_
    refine b_aload_n dX10_evalTwo_212 rfl ?_
    refine b_iload_n dX10_evalTwo_213 rfl ?_
    refine b_aload_n dX10_evalTwo_214 rfl ?_
    refine b_iload_n dX10_evalTwo_215 rfl ?_
    refine b_iload_n dX10_evalTwo_216 rfl ?_
    refine b_cVi (as := [vI x2, vI x3]) (st := [vI x2, vR 582]) dX10_evalTwo_217 mf_X10_isAlike qs184 lk_X10_783 ly_582 rfl (p_X10_isAlike (f := 1) (Nat.le_refl _) _ _ _ h) (by omega) rfl rfl (Nat.le_of_ble_eq_true rfl) (by decide) rfl (fun _ => rfl) (fun r1 m1 h => ?_) (fun _ h => h)
    refine b_cVv (as := [vI x2, vI r1]) (st := []) dX10_evalTwo_220 mf_X10_tell qs185 lk_X10_786 ly_582 rfl (p_X10_tell (f := 3) (Nat.le_refl _) _ _ _ h) (by omega) rfl rfl (Nat.le_of_ble_eq_true rfl) (by decide) rfl (fun _ => rfl) (fun r2 m2 h => ?_) (fun _ h => h)
    refine b_goto 448 dX10_evalTwo_223 (by decide) ?_
    exact b_vret dX10_evalTwo_448 rfl h
  have h := ifF c1 h
  by_cases c2 : x6 = 14
  · have h := ifT c2 h
    refine b_tswIn 226 dX10_evalTwo_164 g1 (by omega) (by omega) (by rw [c2]; rfl) (by decide) ?_
    refine b_aload_n dX10_evalTwo_226 rfl ?_
    refine b_iload_n dX10_evalTwo_227 rfl ?_
    refine b_aload_n dX10_evalTwo_228 rfl ?_
    refine b_iload_n dX10_evalTwo_229 rfl ?_
    refine b_iload_n dX10_evalTwo_230 rfl ?_
    refine b_cVi (as := [vI x2, vI x3]) (st := [vI x2, vR 582]) dX10_evalTwo_231 mf_X10_isAlike qs184 lk_X10_783 ly_582 rfl (p_X10_isAlike (f := 1) (Nat.le_refl _) _ _ _ h) (by omega) rfl rfl (Nat.le_of_ble_eq_true rfl) (by decide) rfl (fun _ => rfl) (fun r3 m3 h => ?_) (fun _ h => h)
    obtain ⟨hs, h⟩ := h
    have K : B f M_X10_evalTwo 242 [vR 582, vU, vI x2, vI x3, vU, vU, vI x6, vU, vI x8, vI x9, vI x10] [vI (if r3 = 0 then 1 else 0 : Int), vI x2, vR 582] m3 Q T := by
      clear hs
      refine b_cVv (as := [vI x2, vI (if r3 = 0 then 1 else 0 : Int)]) (st := []) dX10_evalTwo_242 mf_X10_tell qs185 lk_X10_786 ly_582 rfl (p_X10_tell (f := 3) (Nat.le_refl _) _ _ _ h) (by omega) rfl rfl (Nat.le_of_ble_eq_true rfl) (by decide) rfl (fun _ => rfl) (fun r4 m4 h => ?_) (fun _ h => h)
      refine b_goto 448 dX10_evalTwo_245 (by decide) ?_
      exact b_vret dX10_evalTwo_448 rfl h
    have g2 := hs
    refine b_if_ne 241 dX10_evalTwo_234 g2 (by decide) (fun c3 => ?_) (fun c3 => ?_)
    ·
      refine b_iconst dX10_evalTwo_241 ?_
      exact Eq.mp (congrArg (fun z => B f M_X10_evalTwo 242 [vR 582, vU, vI x2, vI x3, vU, vU, vI x6, vU, vI x8, vI x9, vI x10] (vI z :: [vI x2, vR 582]) m3 Q T) (show (if r3 = 0 then 1 else 0 : Int) = 0 by rw [if_neg c3])) K
    ·
      have c3 := Decidable.of_not_not c3
      refine b_iconst dX10_evalTwo_237 ?_
      refine b_goto 242 dX10_evalTwo_238 (by decide) ?_
      exact Eq.mp (congrArg (fun z => B f M_X10_evalTwo 242 [vR 582, vU, vI x2, vI x3, vU, vU, vI x6, vU, vI x8, vI x9, vI x10] (vI z :: [vI x2, vR 582]) m3 Q T) (show (if r3 = 0 then 1 else 0 : Int) = 1 by rw [if_pos c3])) K
  have h := ifF c2 h
  by_cases c4 : x6 = 15
  · have h := ifT c4 h
    refine b_tswIn 248 dX10_evalTwo_164 g1 (by omega) (by omega) (by rw [c4]; rfl) (by decide) ?_
    refine b_aload_n dX10_evalTwo_248 rfl ?_
    refine b_iload_n dX10_evalTwo_249 rfl ?_
    refine b_aload_n dX10_evalTwo_250 rfl ?_
    refine b_getR dX10_evalTwo_251 fk_X10_250 ly_582 gg_582_85 ?_
    refine b_iload_n dX10_evalTwo_254 rfl ?_
    obtain ⟨g3, h⟩ := h
    refine b_lald dX10_evalTwo_255 ly_635 g3 ?_
    refine b_aload_n dX10_evalTwo_256 rfl ?_
    refine b_getR dX10_evalTwo_257 fk_X10_250 ly_582 gg_582_85 ?_
    refine b_iload_n dX10_evalTwo_260 rfl ?_
    refine b_iconst dX10_evalTwo_261 ?_
    refine b_iadd dX10_evalTwo_262 ?_
    obtain ⟨g4, h⟩ := h
    refine b_lald dX10_evalTwo_263 ly_635 g4 ?_
    refine b_lmul dX10_evalTwo_264 ?_
    refine b_aload_n dX10_evalTwo_265 rfl ?_
    refine b_getR dX10_evalTwo_266 fk_X10_250 ly_582 gg_582_85 ?_
    refine b_iload_n dX10_evalTwo_269 rfl ?_
    obtain ⟨g5, h⟩ := h
    refine b_lald dX10_evalTwo_270 ly_635 g5 ?_
    refine b_aload_n dX10_evalTwo_271 rfl ?_
    refine b_getR dX10_evalTwo_272 fk_X10_250 ly_582 gg_582_85 ?_
    refine b_iload_n dX10_evalTwo_275 rfl ?_
    refine b_iconst dX10_evalTwo_276 ?_
    refine b_iadd dX10_evalTwo_277 ?_
    obtain ⟨g6, h⟩ := h
    refine b_lald dX10_evalTwo_278 ly_635 g6 ?_
    refine b_lmul dX10_evalTwo_279 ?_
    obtain ⟨hs, h⟩ := h
    have K : B f M_X10_evalTwo 289 [vR 582, vU, vI x2, vI x3, vU, vU, vI x6, vU, vI x8, vI x9, vI x10] [vI (if ((m 635 x3) * (m 635 (x2 + 1))) ≤ ((m 635 x2) * (m 635 (x3 + 1))) then 0 else 1 : Int), vI x2, vR 582] m Q T := by
      clear hs
      refine b_cVv (as := [vI x2, vI (if ((m 635 x3) * (m 635 (x2 + 1))) ≤ ((m 635 x2) * (m 635 (x3 + 1))) then 0 else 1 : Int)]) (st := []) dX10_evalTwo_289 mf_X10_tell qs185 lk_X10_786 ly_582 rfl (p_X10_tell (f := 3) (Nat.le_refl _) _ _ _ h) (by omega) rfl rfl (Nat.le_of_ble_eq_true rfl) (by decide) rfl (fun _ => rfl) (fun r5 m5 h => ?_) (fun _ h => h)
      refine b_goto 448 dX10_evalTwo_292 (by decide) ?_
      exact b_vret dX10_evalTwo_448 rfl h
    obtain ⟨g7, g8⟩ := hs
    refine b_lc_ge 288 dX10_evalTwo_280 dX10_evalTwo_281 g7 g8 (by decide) (fun c5 => ?_) (fun c5 => ?_)
    ·
      refine b_iconst dX10_evalTwo_288 ?_
      exact Eq.mp (congrArg (fun z => B f M_X10_evalTwo 289 [vR 582, vU, vI x2, vI x3, vU, vU, vI x6, vU, vI x8, vI x9, vI x10] (vI z :: [vI x2, vR 582]) m Q T) (show (if ((m 635 x3) * (m 635 (x2 + 1))) ≤ ((m 635 x2) * (m 635 (x3 + 1))) then 0 else 1 : Int) = 0 by rw [if_pos c5])) K
    ·
      refine b_iconst dX10_evalTwo_284 ?_
      refine b_goto 289 dX10_evalTwo_285 (by decide) ?_
      exact Eq.mp (congrArg (fun z => B f M_X10_evalTwo 289 [vR 582, vU, vI x2, vI x3, vU, vU, vI x6, vU, vI x8, vI x9, vI x10] (vI z :: [vI x2, vR 582]) m Q T) (show (if ((m 635 x3) * (m 635 (x2 + 1))) ≤ ((m 635 x2) * (m 635 (x3 + 1))) then 0 else 1 : Int) = 1 by rw [if_neg c5])) K
  have h := ifF c4 h
  by_cases c6 : x6 = 16
  · have h := ifT c6 h
    refine b_tswIn 295 dX10_evalTwo_164 g1 (by omega) (by omega) (by rw [c6]; rfl) (by decide) ?_
    refine b_aload_n dX10_evalTwo_295 rfl ?_
    refine b_iload_n dX10_evalTwo_296 rfl ?_
    refine b_aload_n dX10_evalTwo_297 rfl ?_
    refine b_getR dX10_evalTwo_298 fk_X10_250 ly_582 gg_582_85 ?_
    refine b_iload_n dX10_evalTwo_301 rfl ?_
    obtain ⟨g9, h⟩ := h
    refine b_lald dX10_evalTwo_302 ly_635 g9 ?_
    refine b_aload_n dX10_evalTwo_303 rfl ?_
    refine b_getR dX10_evalTwo_304 fk_X10_250 ly_582 gg_582_85 ?_
    refine b_iload_n dX10_evalTwo_307 rfl ?_
    refine b_iconst dX10_evalTwo_308 ?_
    refine b_iadd dX10_evalTwo_309 ?_
    obtain ⟨g10, h⟩ := h
    refine b_lald dX10_evalTwo_310 ly_635 g10 ?_
    refine b_lmul dX10_evalTwo_311 ?_
    refine b_aload_n dX10_evalTwo_312 rfl ?_
    refine b_getR dX10_evalTwo_313 fk_X10_250 ly_582 gg_582_85 ?_
    refine b_iload_n dX10_evalTwo_316 rfl ?_
    obtain ⟨g11, h⟩ := h
    refine b_lald dX10_evalTwo_317 ly_635 g11 ?_
    refine b_aload_n dX10_evalTwo_318 rfl ?_
    refine b_getR dX10_evalTwo_319 fk_X10_250 ly_582 gg_582_85 ?_
    refine b_iload_n dX10_evalTwo_322 rfl ?_
    refine b_iconst dX10_evalTwo_323 ?_
    refine b_iadd dX10_evalTwo_324 ?_
    obtain ⟨g12, h⟩ := h
    refine b_lald dX10_evalTwo_325 ly_635 g12 ?_
    refine b_lmul dX10_evalTwo_326 ?_
    obtain ⟨hs, h⟩ := h
    have K : B f M_X10_evalTwo 336 [vR 582, vU, vI x2, vI x3, vU, vU, vI x6, vU, vI x8, vI x9, vI x10] [vI (if ((m 635 x3) * (m 635 (x2 + 1))) < ((m 635 x2) * (m 635 (x3 + 1))) then 0 else 1 : Int), vI x2, vR 582] m Q T := by
      clear hs
      refine b_cVv (as := [vI x2, vI (if ((m 635 x3) * (m 635 (x2 + 1))) < ((m 635 x2) * (m 635 (x3 + 1))) then 0 else 1 : Int)]) (st := []) dX10_evalTwo_336 mf_X10_tell qs185 lk_X10_786 ly_582 rfl (p_X10_tell (f := 3) (Nat.le_refl _) _ _ _ h) (by omega) rfl rfl (Nat.le_of_ble_eq_true rfl) (by decide) rfl (fun _ => rfl) (fun r6 m6 h => ?_) (fun _ h => h)
      refine b_goto 448 dX10_evalTwo_339 (by decide) ?_
      exact b_vret dX10_evalTwo_448 rfl h
    obtain ⟨g13, g14⟩ := hs
    refine b_lc_gt 335 dX10_evalTwo_327 dX10_evalTwo_328 g13 g14 (by decide) (fun c7 => ?_) (fun c7 => ?_)
    ·
      refine b_iconst dX10_evalTwo_335 ?_
      exact Eq.mp (congrArg (fun z => B f M_X10_evalTwo 336 [vR 582, vU, vI x2, vI x3, vU, vU, vI x6, vU, vI x8, vI x9, vI x10] (vI z :: [vI x2, vR 582]) m Q T) (show (if ((m 635 x3) * (m 635 (x2 + 1))) < ((m 635 x2) * (m 635 (x3 + 1))) then 0 else 1 : Int) = 0 by rw [if_pos c7])) K
    ·
      refine b_iconst dX10_evalTwo_331 ?_
      refine b_goto 336 dX10_evalTwo_332 (by decide) ?_
      exact Eq.mp (congrArg (fun z => B f M_X10_evalTwo 336 [vR 582, vU, vI x2, vI x3, vU, vU, vI x6, vU, vI x8, vI x9, vI x10] (vI z :: [vI x2, vR 582]) m Q T) (show (if ((m 635 x3) * (m 635 (x2 + 1))) < ((m 635 x2) * (m 635 (x3 + 1))) then 0 else 1 : Int) = 1 by rw [if_neg c7])) K
  have h := ifF c6 h
  by_cases c8 : x6 = 17
  · have h := ifT c8 h
    refine b_tswIn 342 dX10_evalTwo_164 g1 (by omega) (by omega) (by rw [c8]; rfl) (by decide) ?_
    refine b_aload_n dX10_evalTwo_342 rfl ?_
    refine b_iload_n dX10_evalTwo_343 rfl ?_
    refine b_iload_n dX10_evalTwo_344 rfl ?_
    refine b_iload_n dX10_evalTwo_345 rfl ?_
    refine b_iload dX10_evalTwo_346 rfl ?_
    refine b_iload dX10_evalTwo_348 rfl ?_
    refine b_iload dX10_evalTwo_350 rfl ?_
    refine b_iconst dX10_evalTwo_352 ?_
    refine b_cVv (as := [vI x2, vI x2, vI x3, vI x8, vI x9, vI x10, vI 0]) (st := []) dX10_evalTwo_353 mf_X10_addValues qs186 lk_X10_751 ly_582 rfl (p_X10_addValues (f := 5) (Nat.le_refl _) _ _ _ _ _ _ _ _ h) (by omega) rfl rfl (Nat.le_of_ble_eq_true rfl) (by decide) rfl (fun _ => rfl) (fun r7 m7 h => ?_) (fun _ h => h)
    refine b_goto 448 dX10_evalTwo_356 (by decide) ?_
    exact b_vret dX10_evalTwo_448 rfl h
  have h := ifF c8 h
  by_cases c9 : x6 = 18
  · have h := ifT c9 h
    refine b_tswIn 359 dX10_evalTwo_164 g1 (by omega) (by omega) (by rw [c9]; rfl) (by decide) ?_
    refine b_aload_n dX10_evalTwo_359 rfl ?_
    refine b_iload_n dX10_evalTwo_360 rfl ?_
    refine b_iload_n dX10_evalTwo_361 rfl ?_
    refine b_iload_n dX10_evalTwo_362 rfl ?_
    refine b_iload dX10_evalTwo_363 rfl ?_
    refine b_iload dX10_evalTwo_365 rfl ?_
    refine b_iload dX10_evalTwo_367 rfl ?_
    refine b_iconst dX10_evalTwo_369 ?_
    refine b_cVv (as := [vI x2, vI x2, vI x3, vI x8, vI x9, vI x10, vI 1]) (st := []) dX10_evalTwo_370 mf_X10_addValues qs186 lk_X10_751 ly_582 rfl (p_X10_addValues (f := 5) (Nat.le_refl _) _ _ _ _ _ _ _ _ h) (by omega) rfl rfl (Nat.le_of_ble_eq_true rfl) (by decide) rfl (fun _ => rfl) (fun r8 m8 h => ?_) (fun _ h => h)
    refine b_goto 448 dX10_evalTwo_373 (by decide) ?_
    exact b_vret dX10_evalTwo_448 rfl h
  have h := ifF c9 h
  by_cases c10 : x6 = 19
  · have h := ifT c10 h
    refine b_tswIn 376 dX10_evalTwo_164 g1 (by omega) (by omega) (by rw [c10]; rfl) (by decide) ?_
    refine b_aload_n dX10_evalTwo_376 rfl ?_
    refine b_iload_n dX10_evalTwo_377 rfl ?_
    refine b_iload_n dX10_evalTwo_378 rfl ?_
    refine b_iload_n dX10_evalTwo_379 rfl ?_
    refine b_iload dX10_evalTwo_380 rfl ?_
    refine b_iload dX10_evalTwo_382 rfl ?_
    refine b_iload dX10_evalTwo_384 rfl ?_
    refine b_cVv (as := [vI x2, vI x2, vI x3, vI x8, vI x9, vI x10]) (st := []) dX10_evalTwo_386 mf_X10_multiplyValues qs170 lk_X10_779 ly_582 rfl (p_X10_multiplyValues (f := 6) (Nat.le_refl _) _ _ _ _ _ _ _ h) (by omega) rfl rfl (Nat.le_of_ble_eq_true rfl) (by decide) rfl (fun _ => rfl) (fun r9 m9 h => ?_) (fun _ h => h)
    refine b_goto 448 dX10_evalTwo_389 (by decide) ?_
    exact b_vret dX10_evalTwo_448 rfl h
  have h := ifF c10 h
  by_cases c11 : x6 = 20
  · have h := ifT c11 h
    refine b_tswIn 392 dX10_evalTwo_164 g1 (by omega) (by omega) (by rw [c11]; rfl) (by decide) ?_
    refine b_aload_n dX10_evalTwo_392 rfl ?_
    refine b_iload_n dX10_evalTwo_393 rfl ?_
    refine b_iload_n dX10_evalTwo_394 rfl ?_
    refine b_iload dX10_evalTwo_395 rfl ?_
    refine b_iload dX10_evalTwo_397 rfl ?_
    refine b_iload dX10_evalTwo_399 rfl ?_
    refine b_cVv (as := [vI x2, vI x3, vI x8, vI x9, vI x10]) (st := []) dX10_evalTwo_401 mf_X10_divideBy qs189 lk_X10_790 ly_582 rfl (p_X10_divideBy (f := 4) (Nat.le_refl _) _ _ _ _ _ _ h) (by omega) rfl rfl (Nat.le_of_ble_eq_true rfl) (by decide) rfl (fun _ => rfl) (fun r10 m10 h => ?_) (fun _ h => h)
    refine b_goto 448 dX10_evalTwo_404 (by decide) ?_
    exact b_vret dX10_evalTwo_448 rfl h
  have h := ifF c11 h
  refine b_tswOut 407 dX10_evalTwo_164 g1 (by omega) (by decide) ?_
  refine b_aload_n dX10_evalTwo_407 rfl ?_
  refine b_iload_n dX10_evalTwo_408 rfl ?_
  refine b_iload_n dX10_evalTwo_409 rfl ?_
  refine b_iload dX10_evalTwo_410 rfl ?_
  refine b_iload dX10_evalTwo_412 rfl ?_
  refine b_cVv (as := [vI x2, vI x3, vI x8, vI x9]) (st := []) dX10_evalTwo_414 mf_X10_divide qs191 lk_X10_793 ly_582 rfl (p_X10_divide (f := 4) (Nat.le_refl _) _ _ _ _ _ h) (by omega) rfl rfl (Nat.le_of_ble_eq_true rfl) (by decide) rfl (fun _ => rfl) (fun r11 m11 h => ?_) (fun _ h => h)
  refine b_aload_n dX10_evalTwo_417 rfl ?_
  refine b_getI dX10_evalTwo_418 fk_X10_601 ly_582 ?_
  obtain ⟨g15, h⟩ := h
  refine b_if_ne 448 dX10_evalTwo_421 g15 (by decide) (fun c12 => ?_) (fun c12 => ?_)
  · have h := ifF c12 h
    exact b_vret dX10_evalTwo_448 rfl h
  · have h := ifT (Decidable.of_not_not c12) h
    refine b_aload_n dX10_evalTwo_424 rfl ?_
    refine b_iload_n dX10_evalTwo_425 rfl ?_
    refine b_iload dX10_evalTwo_426 rfl ?_
    refine b_bipush dX10_evalTwo_428 (by decide) ?_
    have K : B f M_X10_evalTwo 442 [vR 582, vU, vI x2, vI x3, vU, vU, vI x6, vU, vI x8, vI x9, vI x10] [vI (if x6 = 21 then 1592000 else 1593000 : Int), vI x2, vR 582] m11 Q T := by
      refine b_sipush dX10_evalTwo_442 (by decide) ?_
      refine b_cVv (as := [vI x2, vI (if x6 = 21 then 1592000 else 1593000 : Int), vI 882]) (st := []) dX10_evalTwo_445 mf_X10_copy qs164 lk_X10_658 ly_582 rfl (p_X10_copy (f := 1) (Nat.le_refl _) _ _ _ _ h) (by omega) rfl rfl (Nat.le_of_ble_eq_true rfl) (by decide) rfl (fun _ => rfl) (fun r12 m12 h => ?_) (fun _ h => h)
      exact b_vret dX10_evalTwo_448 rfl h
    refine b_icmp_ne 439 dX10_evalTwo_430 g1 (by decide) (by decide) (fun c13 => ?_) (fun c13 => ?_)
    ·
      refine b_ldcw (1593000) dX10_evalTwo_439 q2347 (by decide) ?_
      exact Eq.mp (congrArg (fun z => B f M_X10_evalTwo 442 [vR 582, vU, vI x2, vI x3, vU, vU, vI x6, vU, vI x8, vI x9, vI x10] (vI z :: [vI x2, vR 582]) m11 Q T) (show (if x6 = 21 then 1592000 else 1593000 : Int) = 1593000 by rw [if_neg c13])) K
    ·
      have c13 := Decidable.of_not_not c13
      refine b_ldcw (1592000) dX10_evalTwo_433 q2466 (by decide) ?_
      refine b_goto 442 dX10_evalTwo_436 (by decide) ?_
      exact Eq.mp (congrArg (fun z => B f M_X10_evalTwo 442 [vR 582, vU, vI x2, vI x3, vU, vU, vI x6, vU, vI x8, vI x9, vI x10] (vI z :: [vI x2, vR 582]) m11 Q T) (show (if x6 = 21 then 1592000 else 1593000 : Int) = 1592000 by rw [if_pos c13])) K
theorem p_X10_evalTwo {f : Nat} {Q : Int → MM → Prop} {T : MM → Prop} (hf : 7 ≤ f) (x1 : Int) (x2 : Int) (x3 : Int) (m : MM) (h : P_X10_evalTwo x1 x2 x3 m Q) : CC f M_X10_evalTwo [vR 582, vI x1, vI x2, vI x3] m Q T := by
  refine CC.of (plainFor_of_name (by decide)) (Nat.le_of_ble_eq_true rfl) (ls := [vR 582, vI x1, vI x2, vI x3, vU, vU, vU, vU, vU, vU, vU]) rfl ?_
  have h : (0 ≤ x1 ∧ x1 < 12000) ∧ P_X10_joinsParts (m 591 x1) (m 592 x1) m (fun r1 m1 => ((RI (m 590 x1)) ∧ (if (m 590 x1) = 20 then ((RI (m1 582 65))) else True)) ∧ (0 ≤ (m 591 x1) ∧ (m 591 x1) < 12000) ∧ P_X10_go x2 (m1 598 (m 591 x1)) (m1 599 (m 591 x1)) (m1 600 (m 591 x1)) (if (m 590 x1) = 20 then (if (m1 582 65) = 0 then 1 else (m1 582 65) : Int) else (m1 582 65) : Int) (m1 582 66) (m1 582 67) m1 (fun r2 m2 => (RI (m 590 x1)) ∧ (if (m 590 x1) = 20 then (0 ≤ (m 592 x1) ∧ (m 592 x1) < 12000) ∧ P_X10_go x3 (m2 598 (m 592 x1)) 0 0 (if (m 590 x1) = 20 then (if (m1 582 65) = 0 then 1 else (m1 582 65) : Int) else (m1 582 65) : Int) 0 0 m2 (fun r4 m4 => P_X10_evalTwo_162 Q x2 x3 (m 590 x1) (if (m 590 x1) = 20 then (if (m1 582 65) = 0 then 1 else (m1 582 65) : Int) else (m1 582 65) : Int) (m1 582 66) (m1 582 67) m4) else (0 ≤ (m 592 x1) ∧ (m 592 x1) < 12000) ∧ P_X10_go x3 (m2 598 (m 592 x1)) (m2 599 (m 592 x1)) (m2 600 (m 592 x1)) (if (m 590 x1) = 20 then (if (m1 582 65) = 0 then 1 else (m1 582 65) : Int) else (m1 582 65) : Int) (m1 582 66) (m1 582 67) m2 (fun r3 m3 => P_X10_evalTwo_162 Q x2 x3 (m 590 x1) (if (m 590 x1) = 20 then (if (m1 582 65) = 0 then 1 else (m1 582 65) : Int) else (m1 582 65) : Int) (m1 582 66) (m1 582 67) m3)))) := h
  refine b_aload_n dX10_evalTwo_0 rfl ?_
  refine b_getR dX10_evalTwo_1 fk_X10_109 ly_582 gg_582_17 ?_
  refine b_iload_n dX10_evalTwo_4 rfl ?_
  obtain ⟨g1, h⟩ := h
  refine b_iald dX10_evalTwo_5 ly_591 g1 ?_
  refine b_istore (ls' := [vR 582, vI x1, vI x2, vI x3, vI (m 591 x1), vU, vU, vU, vU, vU, vU]) dX10_evalTwo_6 (Nat.le_of_ble_eq_true rfl) rfl ?_
  refine b_aload_n dX10_evalTwo_8 rfl ?_
  refine b_getR dX10_evalTwo_9 fk_X10_112 ly_582 gg_582_18 ?_
  refine b_iload_n dX10_evalTwo_12 rfl ?_
  refine b_iald dX10_evalTwo_13 ly_592 g1 ?_
  refine b_istore (ls' := [vR 582, vI x1, vI x2, vI x3, vI (m 591 x1), vI (m 592 x1), vU, vU, vU, vU, vU]) dX10_evalTwo_14 (Nat.le_of_ble_eq_true rfl) rfl ?_
  refine b_aload_n dX10_evalTwo_16 rfl ?_
  refine b_getR dX10_evalTwo_17 fk_X10_106 ly_582 gg_582_16 ?_
  refine b_iload_n dX10_evalTwo_20 rfl ?_
  refine b_iald dX10_evalTwo_21 ly_590 g1 ?_
  refine b_istore (ls' := [vR 582, vI x1, vI x2, vI x3, vI (m 591 x1), vI (m 592 x1), vI (m 590 x1), vU, vU, vU, vU]) dX10_evalTwo_22 (Nat.le_of_ble_eq_true rfl) rfl ?_
  refine b_aload_n dX10_evalTwo_24 rfl ?_
  refine b_iload dX10_evalTwo_25 rfl ?_
  refine b_iload dX10_evalTwo_27 rfl ?_
  refine b_cVi (as := [vI (m 591 x1), vI (m 592 x1)]) (st := []) dX10_evalTwo_29 mf_X10_joinsParts qs148 lk_X10_489 ly_582 rfl (p_X10_joinsParts (f := 3) (Nat.le_refl _) _ _ _ h) (by omega) rfl rfl (Nat.le_of_ble_eq_true rfl) (by decide) rfl (fun _ => rfl) (fun r1 m1 h => ?_) (fun _ h => h)
  refine b_istore (ls' := [vR 582, vI x1, vI x2, vI x3, vI (m 591 x1), vI (m 592 x1), vI (m 590 x1), vI r1, vU, vU, vU]) dX10_evalTwo_32 (Nat.le_of_ble_eq_true rfl) rfl ?_
  refine b_iload dX10_evalTwo_34 rfl ?_
  refine b_bipush dX10_evalTwo_36 (by decide) ?_
  obtain ⟨hs, h⟩ := h
  have K : B f M_X10_evalTwo 56 [vR 582, vI x1, vI x2, vI x3, vI (m 591 x1), vI (m 592 x1), vI (m 590 x1), vI r1, vU, vU, vU] [vI (if (m 590 x1) = 20 then (if (m1 582 65) = 0 then 1 else (m1 582 65) : Int) else (m1 582 65) : Int)] m1 Q T := by
    clear hs
    refine b_istore (ls' := [vR 582, vI x1, vI x2, vI x3, vI (m 591 x1), vI (m 592 x1), vI (m 590 x1), vI r1, vI (if (m 590 x1) = 20 then (if (m1 582 65) = 0 then 1 else (m1 582 65) : Int) else (m1 582 65) : Int), vU, vU]) dX10_evalTwo_56 (Nat.le_of_ble_eq_true rfl) rfl ?_
    refine b_aload_n dX10_evalTwo_58 rfl ?_
    refine b_getI dX10_evalTwo_59 fk_X10_450 ly_582 ?_
    refine b_istore (ls' := [vR 582, vI x1, vI x2, vI x3, vI (m 591 x1), vI (m 592 x1), vI (m 590 x1), vI r1, vI (if (m 590 x1) = 20 then (if (m1 582 65) = 0 then 1 else (m1 582 65) : Int) else (m1 582 65) : Int), vI (m1 582 66), vU]) dX10_evalTwo_62 (Nat.le_of_ble_eq_true rfl) rfl ?_
    refine b_aload_n dX10_evalTwo_64 rfl ?_
    refine b_getI dX10_evalTwo_65 fk_X10_453 ly_582 ?_
    refine b_istore (ls' := [vR 582, vI x1, vI x2, vI x3, vI (m 591 x1), vI (m 592 x1), vI (m 590 x1), vI r1, vI (if (m 590 x1) = 20 then (if (m1 582 65) = 0 then 1 else (m1 582 65) : Int) else (m1 582 65) : Int), vI (m1 582 66), vI (m1 582 67)]) dX10_evalTwo_68 (Nat.le_of_ble_eq_true rfl) rfl ?_
    refine b_aload_n dX10_evalTwo_70 rfl ?_
    refine b_iload_n dX10_evalTwo_71 rfl ?_
    refine b_aload_n dX10_evalTwo_72 rfl ?_
    refine b_getR dX10_evalTwo_73 fk_X10_130 ly_582 gg_582_24 ?_
    refine b_iload dX10_evalTwo_76 rfl ?_
    obtain ⟨g4, h⟩ := h
    refine b_iald dX10_evalTwo_78 ly_598 g4 ?_
    refine b_aload_n dX10_evalTwo_79 rfl ?_
    refine b_getR dX10_evalTwo_80 fk_X10_133 ly_582 gg_582_25 ?_
    refine b_iload dX10_evalTwo_83 rfl ?_
    refine b_iald dX10_evalTwo_85 ly_599 g4 ?_
    refine b_aload_n dX10_evalTwo_86 rfl ?_
    refine b_getR dX10_evalTwo_87 fk_X10_136 ly_582 gg_582_26 ?_
    refine b_iload dX10_evalTwo_90 rfl ?_
    refine b_iald dX10_evalTwo_92 ly_600 g4 ?_
    refine b_iload dX10_evalTwo_93 rfl ?_
    refine b_iload dX10_evalTwo_95 rfl ?_
    refine b_iload dX10_evalTwo_97 rfl ?_
    refine b_cVv (as := [vI x2, vI (m1 598 (m 591 x1)), vI (m1 599 (m 591 x1)), vI (m1 600 (m 591 x1)), vI (if (m 590 x1) = 20 then (if (m1 582 65) = 0 then 1 else (m1 582 65) : Int) else (m1 582 65) : Int), vI (m1 582 66), vI (m1 582 67)]) (st := []) dX10_evalTwo_99 mf_X10_go qs181 lk_X10_724 ly_582 rfl (p_X10_go (f := 2) (Nat.le_refl _) _ _ _ _ _ _ _ _ h) (by omega) rfl rfl (Nat.le_of_ble_eq_true rfl) (by decide) rfl (fun _ => rfl) (fun r2 m2 h => ?_) (fun _ h => h)
    refine b_iload dX10_evalTwo_102 rfl ?_
    refine b_bipush dX10_evalTwo_104 (by decide) ?_
    obtain ⟨g5, h⟩ := h
    refine b_icmp_ne 130 dX10_evalTwo_106 g5 (by decide) (by decide) (fun c1 => ?_) (fun c1 => ?_)
    · have h := ifF c1 h
      refine b_aload_n dX10_evalTwo_130 rfl ?_
      refine b_iload_n dX10_evalTwo_131 rfl ?_
      refine b_aload_n dX10_evalTwo_132 rfl ?_
      refine b_getR dX10_evalTwo_133 fk_X10_130 ly_582 gg_582_24 ?_
      refine b_iload dX10_evalTwo_136 rfl ?_
      obtain ⟨g6, h⟩ := h
      refine b_iald dX10_evalTwo_138 ly_598 g6 ?_
      refine b_aload_n dX10_evalTwo_139 rfl ?_
      refine b_getR dX10_evalTwo_140 fk_X10_133 ly_582 gg_582_25 ?_
      refine b_iload dX10_evalTwo_143 rfl ?_
      refine b_iald dX10_evalTwo_145 ly_599 g6 ?_
      refine b_aload_n dX10_evalTwo_146 rfl ?_
      refine b_getR dX10_evalTwo_147 fk_X10_136 ly_582 gg_582_26 ?_
      refine b_iload dX10_evalTwo_150 rfl ?_
      refine b_iald dX10_evalTwo_152 ly_600 g6 ?_
      refine b_iload dX10_evalTwo_153 rfl ?_
      refine b_iload dX10_evalTwo_155 rfl ?_
      refine b_iload dX10_evalTwo_157 rfl ?_
      refine b_cVv (as := [vI x3, vI (m2 598 (m 592 x1)), vI (m2 599 (m 592 x1)), vI (m2 600 (m 592 x1)), vI (if (m 590 x1) = 20 then (if (m1 582 65) = 0 then 1 else (m1 582 65) : Int) else (m1 582 65) : Int), vI (m1 582 66), vI (m1 582 67)]) (st := []) dX10_evalTwo_159 mf_X10_go qs181 lk_X10_724 ly_582 rfl (p_X10_go (f := 2) (Nat.le_refl _) _ _ _ _ _ _ _ _ h) (by omega) rfl rfl (Nat.le_of_ble_eq_true rfl) (by decide) rfl (fun _ => rfl) (fun r3 m3 h => ?_) (fun _ h => h)
      refine b_fgt [true, false, true, true, false, false, true, false, true, true, true] (ls' := [vR 582, vU, vI x2, vI x3, vU, vU, vI (m 590 x1), vU, vI (if (m 590 x1) = 20 then (if (m1 582 65) = 0 then 1 else (m1 582 65) : Int) else (m1 582 65) : Int), vI (m1 582 66), vI (m1 582 67)]) rfl rfl ?_
      exact pl_X10_evalTwo_162 hf _ _ _ _ _ _ _ h
    · have h := ifT (Decidable.of_not_not c1) h
      refine b_aload_n dX10_evalTwo_109 rfl ?_
      refine b_iload_n dX10_evalTwo_110 rfl ?_
      refine b_aload_n dX10_evalTwo_111 rfl ?_
      refine b_getR dX10_evalTwo_112 fk_X10_130 ly_582 gg_582_24 ?_
      refine b_iload dX10_evalTwo_115 rfl ?_
      obtain ⟨g7, h⟩ := h
      refine b_iald dX10_evalTwo_117 ly_598 g7 ?_
      refine b_iconst dX10_evalTwo_118 ?_
      refine b_iconst dX10_evalTwo_119 ?_
      refine b_iload dX10_evalTwo_120 rfl ?_
      refine b_iconst dX10_evalTwo_122 ?_
      refine b_iconst dX10_evalTwo_123 ?_
      refine b_cVv (as := [vI x3, vI (m2 598 (m 592 x1)), vI 0, vI 0, vI (if (m 590 x1) = 20 then (if (m1 582 65) = 0 then 1 else (m1 582 65) : Int) else (m1 582 65) : Int), vI 0, vI 0]) (st := []) dX10_evalTwo_124 mf_X10_go qs181 lk_X10_724 ly_582 rfl (p_X10_go (f := 2) (Nat.le_refl _) _ _ _ _ _ _ _ _ h) (by omega) rfl rfl (Nat.le_of_ble_eq_true rfl) (by decide) rfl (fun _ => rfl) (fun r4 m4 h => ?_) (fun _ h => h)
      refine b_goto 162 dX10_evalTwo_127 (by decide) ?_
      refine b_fgt [true, false, true, true, false, false, true, false, true, true, true] (ls' := [vR 582, vU, vI x2, vI x3, vU, vU, vI (m 590 x1), vU, vI (if (m 590 x1) = 20 then (if (m1 582 65) = 0 then 1 else (m1 582 65) : Int) else (m1 582 65) : Int), vI (m1 582 66), vI (m1 582 67)]) rfl rfl ?_
      exact pl_X10_evalTwo_162 hf _ _ _ _ _ _ _ h
  obtain ⟨g2, hs⟩ := hs
  refine b_icmp_ne 52 dX10_evalTwo_38 g2 (by decide) (by decide) (fun c2 => ?_) (fun c2 => ?_)
  ·
    refine b_aload_n dX10_evalTwo_52 rfl ?_
    refine b_getI dX10_evalTwo_53 fk_X10_442 ly_582 ?_
    exact Eq.mp (congrArg (fun z => B f M_X10_evalTwo 56 [vR 582, vI x1, vI x2, vI x3, vI (m 591 x1), vI (m 592 x1), vI (m 590 x1), vI r1, vU, vU, vU] (vI z :: []) m1 Q T) (show (if (m 590 x1) = 20 then (if (m1 582 65) = 0 then 1 else (m1 582 65) : Int) else (m1 582 65) : Int) = (m1 582 65) by rw [if_neg c2])) K
  ·
    have c2 := Decidable.of_not_not c2
    have hs := ifT c2 hs
    have g3 := hs
    refine b_aload_n dX10_evalTwo_41 rfl ?_
    refine b_getI dX10_evalTwo_42 fk_X10_442 ly_582 ?_
    refine b_if_ne 52 dX10_evalTwo_45 g3 (by decide) (fun c3 => ?_) (fun c3 => ?_)
    ·
      refine b_aload_n dX10_evalTwo_52 rfl ?_
      refine b_getI dX10_evalTwo_53 fk_X10_442 ly_582 ?_
      exact Eq.mp (congrArg (fun z => B f M_X10_evalTwo 56 [vR 582, vI x1, vI x2, vI x3, vI (m 591 x1), vI (m 592 x1), vI (m 590 x1), vI r1, vU, vU, vU] (vI z :: []) m1 Q T) (show (if (m 590 x1) = 20 then (if (m1 582 65) = 0 then 1 else (m1 582 65) : Int) else (m1 582 65) : Int) = (m1 582 65) by rw [if_pos c2, if_neg c3])) K
    ·
      have c3 := Decidable.of_not_not c3
      refine b_iconst dX10_evalTwo_48 ?_
      refine b_goto 56 dX10_evalTwo_49 (by decide) ?_
      exact Eq.mp (congrArg (fun z => B f M_X10_evalTwo 56 [vR 582, vI x1, vI x2, vI x3, vI (m 591 x1), vI (m 592 x1), vI (m 590 x1), vI r1, vU, vU, vU] (vI z :: []) m1 Q T) (show (if (m 590 x1) = 20 then (if (m1 582 65) = 0 then 1 else (m1 582 65) : Int) else (m1 582 65) : Int) = 1 by rw [if_pos c2, if_pos c3])) K
theorem dX10_leaveCall_0 : decode cX10_leaveCall 0 = .ok (.aload_n 0, 1) := by decide +kernel
theorem dX10_leaveCall_1 : decode cX10_leaveCall 1 = .ok (.dup, 1) := by decide +kernel
theorem dX10_leaveCall_2 : decode cX10_leaveCall 2 = .ok (.getfield 814, 3) := by decide +kernel
theorem dX10_leaveCall_5 : decode cX10_leaveCall 5 = .ok (.iconst 1, 1) := by decide +kernel
theorem dX10_leaveCall_6 : decode cX10_leaveCall 6 = .ok (.isub, 1) := by decide +kernel
theorem dX10_leaveCall_7 : decode cX10_leaveCall 7 = .ok (.putfield 814, 3) := by decide +kernel
theorem dX10_leaveCall_10 : decode cX10_leaveCall 10 = .ok (.aload_n 0, 1) := by decide +kernel
theorem dX10_leaveCall_11 : decode cX10_leaveCall 11 = .ok (.getfield 271, 3) := by decide +kernel
theorem dX10_leaveCall_14 : decode cX10_leaveCall 14 = .ok (.aload_n 0, 1) := by decide +kernel
theorem dX10_leaveCall_15 : decode cX10_leaveCall 15 = .ok (.getfield 814, 3) := by decide +kernel
theorem dX10_leaveCall_18 : decode cX10_leaveCall 18 = .ok (.iaload, 1) := by decide +kernel
theorem dX10_leaveCall_19 : decode cX10_leaveCall 19 = .ok (.istore_n 2, 1) := by decide +kernel
theorem dX10_leaveCall_20 : decode cX10_leaveCall 20 = .ok (.aload_n 0, 1) := by decide +kernel
theorem dX10_leaveCall_21 : decode cX10_leaveCall 21 = .ok (.iload_n 2, 1) := by decide +kernel
theorem dX10_leaveCall_22 : decode cX10_leaveCall 22 = .ok (.iconst (-1), 1) := by decide +kernel
theorem dX10_leaveCall_23 : decode cX10_leaveCall 23 = .ok (.aload_n 0, 1) := by decide +kernel
theorem dX10_leaveCall_24 : decode cX10_leaveCall 24 = .ok (.getfield 234, 3) := by decide +kernel
theorem dX10_leaveCall_27 : decode cX10_leaveCall 27 = .ok (.aload_n 0, 1) := by decide +kernel
theorem dX10_leaveCall_28 : decode cX10_leaveCall 28 = .ok (.getfield 509, 3) := by decide +kernel
theorem dX10_leaveCall_31 : decode cX10_leaveCall 31 = .ok (.aload_n 0, 1) := by decide +kernel
theorem dX10_leaveCall_32 : decode cX10_leaveCall 32 = .ok (.getfield 512, 3) := by decide +kernel
theorem dX10_leaveCall_35 : decode cX10_leaveCall 35 = .ok (.invokevirtual 538, 3) := by decide +kernel
theorem dX10_leaveCall_38 : decode cX10_leaveCall 38 = .ok (.istore_n 3, 1) := by decide +kernel
theorem dX10_leaveCall_39 : decode cX10_leaveCall 39 = .ok (.aload_n 0, 1) := by decide +kernel
theorem dX10_leaveCall_40 : decode cX10_leaveCall 40 = .ok (.aload_n 0, 1) := by decide +kernel
theorem dX10_leaveCall_41 : decode cX10_leaveCall 41 = .ok (.getfield 167, 3) := by decide +kernel
theorem dX10_leaveCall_44 : decode cX10_leaveCall 44 = .ok (.iload_n 2, 1) := by decide +kernel
theorem dX10_leaveCall_45 : decode cX10_leaveCall 45 = .ok (.iaload, 1) := by decide +kernel
theorem dX10_leaveCall_46 : decode cX10_leaveCall 46 = .ok (.aload_n 0, 1) := by decide +kernel
theorem dX10_leaveCall_47 : decode cX10_leaveCall 47 = .ok (.getfield 542, 3) := by decide +kernel
theorem dX10_leaveCall_50 : decode cX10_leaveCall 50 = .ok (.aload_n 0, 1) := by decide +kernel
theorem dX10_leaveCall_51 : decode cX10_leaveCall 51 = .ok (.getfield 545, 3) := by decide +kernel
theorem dX10_leaveCall_54 : decode cX10_leaveCall 54 = .ok (.aload_n 0, 1) := by decide +kernel
theorem dX10_leaveCall_55 : decode cX10_leaveCall 55 = .ok (.getfield 548, 3) := by decide +kernel
theorem dX10_leaveCall_58 : decode cX10_leaveCall 58 = .ok (.invokevirtual 747, 3) := by decide +kernel
theorem dX10_leaveCall_61 : decode cX10_leaveCall 61 = .ok (.aload_n 0, 1) := by decide +kernel
theorem dX10_leaveCall_62 : decode cX10_leaveCall 62 = .ok (.aload_n 0, 1) := by decide +kernel
theorem dX10_leaveCall_63 : decode cX10_leaveCall 63 = .ok (.getfield 274, 3) := by decide +kernel
theorem dX10_leaveCall_66 : decode cX10_leaveCall 66 = .ok (.aload_n 0, 1) := by decide +kernel
theorem dX10_leaveCall_67 : decode cX10_leaveCall 67 = .ok (.getfield 814, 3) := by decide +kernel
theorem dX10_leaveCall_70 : decode cX10_leaveCall 70 = .ok (.iaload, 1) := by decide +kernel
theorem dX10_leaveCall_71 : decode cX10_leaveCall 71 = .ok (.putfield 811, 3) := by decide +kernel
theorem dX10_leaveCall_74 : decode cX10_leaveCall 74 = .ok (.aload_n 0, 1) := by decide +kernel
theorem dX10_leaveCall_75 : decode cX10_leaveCall 75 = .ok (.aload_n 0, 1) := by decide +kernel
theorem dX10_leaveCall_76 : decode cX10_leaveCall 76 = .ok (.getfield 277, 3) := by decide +kernel
theorem dX10_leaveCall_79 : decode cX10_leaveCall 79 = .ok (.aload_n 0, 1) := by decide +kernel
theorem dX10_leaveCall_80 : decode cX10_leaveCall 80 = .ok (.getfield 814, 3) := by decide +kernel
theorem dX10_leaveCall_83 : decode cX10_leaveCall 83 = .ok (.iaload, 1) := by decide +kernel
theorem dX10_leaveCall_84 : decode cX10_leaveCall 84 = .ok (.putfield 231, 3) := by decide +kernel
theorem dX10_leaveCall_87 : decode cX10_leaveCall 87 = .ok (.aload_n 0, 1) := by decide +kernel
theorem dX10_leaveCall_88 : decode cX10_leaveCall 88 = .ok (.aload_n 0, 1) := by decide +kernel
theorem dX10_leaveCall_89 : decode cX10_leaveCall 89 = .ok (.getfield 280, 3) := by decide +kernel
theorem dX10_leaveCall_92 : decode cX10_leaveCall 92 = .ok (.aload_n 0, 1) := by decide +kernel
theorem dX10_leaveCall_93 : decode cX10_leaveCall 93 = .ok (.getfield 814, 3) := by decide +kernel
theorem dX10_leaveCall_96 : decode cX10_leaveCall 96 = .ok (.iaload, 1) := by decide +kernel
theorem dX10_leaveCall_97 : decode cX10_leaveCall 97 = .ok (.putfield 234, 3) := by decide +kernel
theorem dX10_leaveCall_100 : decode cX10_leaveCall 100 = .ok (.aload_n 0, 1) := by decide +kernel
theorem dX10_leaveCall_101 : decode cX10_leaveCall 101 = .ok (.aload_n 0, 1) := by decide +kernel
theorem dX10_leaveCall_102 : decode cX10_leaveCall 102 = .ok (.getfield 283, 3) := by decide +kernel
theorem dX10_leaveCall_105 : decode cX10_leaveCall 105 = .ok (.aload_n 0, 1) := by decide +kernel
theorem dX10_leaveCall_106 : decode cX10_leaveCall 106 = .ok (.getfield 814, 3) := by decide +kernel
theorem dX10_leaveCall_109 : decode cX10_leaveCall 109 = .ok (.iaload, 1) := by decide +kernel
theorem dX10_leaveCall_110 : decode cX10_leaveCall 110 = .ok (.putfield 509, 3) := by decide +kernel
theorem dX10_leaveCall_113 : decode cX10_leaveCall 113 = .ok (.aload_n 0, 1) := by decide +kernel
theorem dX10_leaveCall_114 : decode cX10_leaveCall 114 = .ok (.aload_n 0, 1) := by decide +kernel
theorem dX10_leaveCall_115 : decode cX10_leaveCall 115 = .ok (.getfield 286, 3) := by decide +kernel
theorem dX10_leaveCall_118 : decode cX10_leaveCall 118 = .ok (.aload_n 0, 1) := by decide +kernel
theorem dX10_leaveCall_119 : decode cX10_leaveCall 119 = .ok (.getfield 814, 3) := by decide +kernel
theorem dX10_leaveCall_122 : decode cX10_leaveCall 122 = .ok (.iaload, 1) := by decide +kernel
theorem dX10_leaveCall_123 : decode cX10_leaveCall 123 = .ok (.putfield 512, 3) := by decide +kernel
theorem dX10_leaveCall_126 : decode cX10_leaveCall 126 = .ok (.aload_n 0, 1) := by decide +kernel
theorem dX10_leaveCall_127 : decode cX10_leaveCall 127 = .ok (.aload_n 0, 1) := by decide +kernel
theorem dX10_leaveCall_128 : decode cX10_leaveCall 128 = .ok (.getfield 289, 3) := by decide +kernel
theorem dX10_leaveCall_131 : decode cX10_leaveCall 131 = .ok (.aload_n 0, 1) := by decide +kernel
theorem dX10_leaveCall_132 : decode cX10_leaveCall 132 = .ok (.getfield 814, 3) := by decide +kernel
theorem dX10_leaveCall_135 : decode cX10_leaveCall 135 = .ok (.iaload, 1) := by decide +kernel
theorem dX10_leaveCall_136 : decode cX10_leaveCall 136 = .ok (.putfield 253, 3) := by decide +kernel
theorem dX10_leaveCall_139 : decode cX10_leaveCall 139 = .ok (.aload_n 0, 1) := by decide +kernel
theorem dX10_leaveCall_140 : decode cX10_leaveCall 140 = .ok (.invokevirtual 820, 3) := by decide +kernel
theorem dX10_leaveCall_143 : decode cX10_leaveCall 143 = .ok (.aload_n 0, 1) := by decide +kernel
theorem dX10_leaveCall_144 : decode cX10_leaveCall 144 = .ok (.iload_n 1, 1) := by decide +kernel
theorem dX10_leaveCall_145 : decode cX10_leaveCall 145 = .ok (.invokestatic 721, 3) := by decide +kernel
theorem dX10_leaveCall_148 : decode cX10_leaveCall 148 = .ok (.aload_n 0, 1) := by decide +kernel
theorem dX10_leaveCall_149 : decode cX10_leaveCall 149 = .ok (.getfield 718, 3) := by decide +kernel
theorem dX10_leaveCall_152 : decode cX10_leaveCall 152 = .ok (.iconst 1, 1) := by decide +kernel
theorem dX10_leaveCall_153 : decode cX10_leaveCall 153 = .ok (.isub, 1) := by decide +kernel
theorem dX10_leaveCall_154 : decode cX10_leaveCall 154 = .ok (.invokestatic 721, 3) := by decide +kernel
theorem dX10_leaveCall_157 : decode cX10_leaveCall 157 = .ok (.sipush 882, 3) := by decide +kernel
theorem dX10_leaveCall_160 : decode cX10_leaveCall 160 = .ok (.invokevirtual 658, 3) := by decide +kernel
theorem dX10_leaveCall_163 : decode cX10_leaveCall 163 = .ok (.aload_n 0, 1) := by decide +kernel
theorem dX10_leaveCall_164 : decode cX10_leaveCall 164 = .ok (.iload_n 1, 1) := by decide +kernel
theorem dX10_leaveCall_165 : decode cX10_leaveCall 165 = .ok (.iconst 1, 1) := by decide +kernel
theorem dX10_leaveCall_166 : decode cX10_leaveCall 166 = .ok (.iadd, 1) := by decide +kernel
theorem dX10_leaveCall_167 : decode cX10_leaveCall 167 = .ok (.putfield 718, 3) := by decide +kernel
theorem dX10_leaveCall_170 : decode cX10_leaveCall 170 = .ok (.return_, 1) := by decide +kernel
/-! AlgebraHouseModel.leaveCall(I)V -/
def P_X10_leaveCall (x1 : Int) (m : MM) (Q : Int → MM → Prop) : Prop := ∀ m1 : MM, m1 = up m 582 91 ((m 582 91) - 1) → (0 ≤ (m1 582 91) ∧ (m1 582 91) < 21) ∧ P_X10_instance (m1 641 (m1 582 91)) (-1) (m1 582 62) (m1 582 63) (m1 582 64) m1 (fun r1 m2 => (0 ≤ (m1 641 (m1 582 91)) ∧ (m1 641 (m1 582 91)) < 21) ∧ P_X10_goLatest (m2 610 (m1 641 (m1 582 91))) (m2 582 70) (m2 582 71) (m2 582 72) m2 (fun r2 m3 => (0 ≤ (m3 582 91) ∧ (m3 582 91) < 21) ∧ ∀ m4 : MM, m4 = up m3 582 93 (m3 642 (m3 582 91)) → (0 ≤ (m4 582 91) ∧ (m4 582 91) < 21) ∧ ∀ m5 : MM, m5 = up m4 582 61 (m4 643 (m4 582 91)) → (0 ≤ (m5 582 91) ∧ (m5 582 91) < 21) ∧ ∀ m6 : MM, m6 = up m5 582 62 (m5 644 (m5 582 91)) → (0 ≤ (m6 582 91) ∧ (m6 582 91) < 21) ∧ ∀ m7 : MM, m7 = up m6 582 63 (m6 645 (m6 582 91)) → (0 ≤ (m7 582 91) ∧ (m7 582 91) < 21) ∧ ∀ m8 : MM, m8 = up m7 582 64 (m7 646 (m7 582 91)) → (0 ≤ (m8 582 91) ∧ (m8 582 91) < 21) ∧ ∀ m9 : MM, m9 = up m8 582 89 (m8 647 (m8 582 91)) → P_X10_makeReady m9 (fun r3 m10 => P_X10_valueAt x1 m10 (fun r4 m11 => P_X10_valueAt ((m11 582 86) - 1) m11 (fun r5 m12 => P_X10_copy r4 r5 882 m12 (fun r6 m13 => ∀ m14 : MM, m14 = up m13 582 86 (x1 + 1) → Q 0 m14))))))
theorem p_X10_leaveCall {f : Nat} {Q : Int → MM → Prop} {T : MM → Prop} (hf : 326 ≤ f) (x1 : Int) (m : MM) (h : P_X10_leaveCall x1 m Q) : CC f M_X10_leaveCall [vR 582, vI x1] m Q T := by
  refine CC.of (plainFor_of_name (by decide)) (Nat.le_of_ble_eq_true rfl) (ls := [vR 582, vI x1, vU, vU]) rfl ?_
  have h : ∀ m1 : MM, m1 = up m 582 91 ((m 582 91) - 1) → (0 ≤ (m1 582 91) ∧ (m1 582 91) < 21) ∧ P_X10_instance (m1 641 (m1 582 91)) (-1) (m1 582 62) (m1 582 63) (m1 582 64) m1 (fun r1 m2 => (0 ≤ (m1 641 (m1 582 91)) ∧ (m1 641 (m1 582 91)) < 21) ∧ P_X10_goLatest (m2 610 (m1 641 (m1 582 91))) (m2 582 70) (m2 582 71) (m2 582 72) m2 (fun r2 m3 => (0 ≤ (m3 582 91) ∧ (m3 582 91) < 21) ∧ ∀ m4 : MM, m4 = up m3 582 93 (m3 642 (m3 582 91)) → (0 ≤ (m4 582 91) ∧ (m4 582 91) < 21) ∧ ∀ m5 : MM, m5 = up m4 582 61 (m4 643 (m4 582 91)) → (0 ≤ (m5 582 91) ∧ (m5 582 91) < 21) ∧ ∀ m6 : MM, m6 = up m5 582 62 (m5 644 (m5 582 91)) → (0 ≤ (m6 582 91) ∧ (m6 582 91) < 21) ∧ ∀ m7 : MM, m7 = up m6 582 63 (m6 645 (m6 582 91)) → (0 ≤ (m7 582 91) ∧ (m7 582 91) < 21) ∧ ∀ m8 : MM, m8 = up m7 582 64 (m7 646 (m7 582 91)) → (0 ≤ (m8 582 91) ∧ (m8 582 91) < 21) ∧ ∀ m9 : MM, m9 = up m8 582 89 (m8 647 (m8 582 91)) → P_X10_makeReady m9 (fun r3 m10 => P_X10_valueAt x1 m10 (fun r4 m11 => P_X10_valueAt ((m11 582 86) - 1) m11 (fun r5 m12 => P_X10_copy r4 r5 882 m12 (fun r6 m13 => ∀ m14 : MM, m14 = up m13 582 86 (x1 + 1) → Q 0 m14)))))) := h
  refine b_aload_n dX10_leaveCall_0 rfl ?_
  refine b_dup dX10_leaveCall_1 rfl ?_
  refine b_getI dX10_leaveCall_2 fk_X10_814 ly_582 ?_
  refine b_iconst dX10_leaveCall_5 ?_
  refine b_isub dX10_leaveCall_6 ?_
  refine b_putI dX10_leaveCall_7 fk_X10_814 ly_582 (fun m1 em1 => ?_)
  have h := h m1 em1
  refine b_aload_n dX10_leaveCall_10 rfl ?_
  refine b_getR dX10_leaveCall_11 fk_X10_271 ly_582 gg_582_100 ?_
  refine b_aload_n dX10_leaveCall_14 rfl ?_
  refine b_getI dX10_leaveCall_15 fk_X10_814 ly_582 ?_
  obtain ⟨g1, h⟩ := h
  refine b_iald dX10_leaveCall_18 ly_641 g1 ?_
  refine b_istore_n (ls' := [vR 582, vI x1, vI (m1 641 (m1 582 91)), vU]) dX10_leaveCall_19 (Nat.le_of_ble_eq_true rfl) rfl ?_
  refine b_aload_n dX10_leaveCall_20 rfl ?_
  refine b_iload_n dX10_leaveCall_21 rfl ?_
  refine b_iconst dX10_leaveCall_22 ?_
  refine b_aload_n dX10_leaveCall_23 rfl ?_
  refine b_getI dX10_leaveCall_24 fk_X10_234 ly_582 ?_
  refine b_aload_n dX10_leaveCall_27 rfl ?_
  refine b_getI dX10_leaveCall_28 fk_X10_509 ly_582 ?_
  refine b_aload_n dX10_leaveCall_31 rfl ?_
  refine b_getI dX10_leaveCall_32 fk_X10_512 ly_582 ?_
  refine b_cVi (as := [vI (m1 641 (m1 582 91)), vI (-1), vI (m1 582 62), vI (m1 582 63), vI (m1 582 64)]) (st := []) dX10_leaveCall_35 mf_X10_instance qs137 lk_X10_538 ly_582 rfl (p_X10_instance (f := 1) (Nat.le_refl _) _ _ _ _ _ _ h) (by omega) rfl rfl (Nat.le_of_ble_eq_true rfl) (by decide) rfl (fun _ => rfl) (fun r1 m2 h => ?_) (fun _ h => h)
  refine b_istore_n (ls' := [vR 582, vI x1, vI (m1 641 (m1 582 91)), vI r1]) dX10_leaveCall_38 (Nat.le_of_ble_eq_true rfl) rfl ?_
  refine b_aload_n dX10_leaveCall_39 rfl ?_
  refine b_aload_n dX10_leaveCall_40 rfl ?_
  refine b_getR dX10_leaveCall_41 fk_X10_167 ly_582 gg_582_39 ?_
  refine b_iload_n dX10_leaveCall_44 rfl ?_
  obtain ⟨g2, h⟩ := h
  refine b_iald dX10_leaveCall_45 ly_610 g2 ?_
  refine b_aload_n dX10_leaveCall_46 rfl ?_
  refine b_getI dX10_leaveCall_47 fk_X10_542 ly_582 ?_
  refine b_aload_n dX10_leaveCall_50 rfl ?_
  refine b_getI dX10_leaveCall_51 fk_X10_545 ly_582 ?_
  refine b_aload_n dX10_leaveCall_54 rfl ?_
  refine b_getI dX10_leaveCall_55 fk_X10_548 ly_582 ?_
  refine b_cVv (as := [vI (m2 610 (m1 641 (m1 582 91))), vI (m2 582 70), vI (m2 582 71), vI (m2 582 72)]) (st := []) dX10_leaveCall_58 mf_X10_goLatest qs180 lk_X10_747 ly_582 rfl (p_X10_goLatest (f := 3) (Nat.le_refl _) _ _ _ _ _ h) (by omega) rfl rfl (Nat.le_of_ble_eq_true rfl) (by decide) rfl (fun _ => rfl) (fun r2 m3 h => ?_) (fun _ h => h)
  refine b_aload_n dX10_leaveCall_61 rfl ?_
  refine b_aload_n dX10_leaveCall_62 rfl ?_
  refine b_getR dX10_leaveCall_63 fk_X10_274 ly_582 gg_582_101 ?_
  refine b_aload_n dX10_leaveCall_66 rfl ?_
  refine b_getI dX10_leaveCall_67 fk_X10_814 ly_582 ?_
  obtain ⟨g3, h⟩ := h
  refine b_iald dX10_leaveCall_70 ly_642 g3 ?_
  refine b_putI dX10_leaveCall_71 fk_X10_811 ly_582 (fun m4 em4 => ?_)
  have h := h m4 em4
  refine b_aload_n dX10_leaveCall_74 rfl ?_
  refine b_aload_n dX10_leaveCall_75 rfl ?_
  refine b_getR dX10_leaveCall_76 fk_X10_277 ly_582 gg_582_102 ?_
  refine b_aload_n dX10_leaveCall_79 rfl ?_
  refine b_getI dX10_leaveCall_80 fk_X10_814 ly_582 ?_
  obtain ⟨g4, h⟩ := h
  refine b_iald dX10_leaveCall_83 ly_643 g4 ?_
  refine b_putI dX10_leaveCall_84 fk_X10_231 ly_582 (fun m5 em5 => ?_)
  have h := h m5 em5
  refine b_aload_n dX10_leaveCall_87 rfl ?_
  refine b_aload_n dX10_leaveCall_88 rfl ?_
  refine b_getR dX10_leaveCall_89 fk_X10_280 ly_582 gg_582_103 ?_
  refine b_aload_n dX10_leaveCall_92 rfl ?_
  refine b_getI dX10_leaveCall_93 fk_X10_814 ly_582 ?_
  obtain ⟨g5, h⟩ := h
  refine b_iald dX10_leaveCall_96 ly_644 g5 ?_
  refine b_putI dX10_leaveCall_97 fk_X10_234 ly_582 (fun m6 em6 => ?_)
  have h := h m6 em6
  refine b_aload_n dX10_leaveCall_100 rfl ?_
  refine b_aload_n dX10_leaveCall_101 rfl ?_
  refine b_getR dX10_leaveCall_102 fk_X10_283 ly_582 gg_582_104 ?_
  refine b_aload_n dX10_leaveCall_105 rfl ?_
  refine b_getI dX10_leaveCall_106 fk_X10_814 ly_582 ?_
  obtain ⟨g6, h⟩ := h
  refine b_iald dX10_leaveCall_109 ly_645 g6 ?_
  refine b_putI dX10_leaveCall_110 fk_X10_509 ly_582 (fun m7 em7 => ?_)
  have h := h m7 em7
  refine b_aload_n dX10_leaveCall_113 rfl ?_
  refine b_aload_n dX10_leaveCall_114 rfl ?_
  refine b_getR dX10_leaveCall_115 fk_X10_286 ly_582 gg_582_105 ?_
  refine b_aload_n dX10_leaveCall_118 rfl ?_
  refine b_getI dX10_leaveCall_119 fk_X10_814 ly_582 ?_
  obtain ⟨g7, h⟩ := h
  refine b_iald dX10_leaveCall_122 ly_646 g7 ?_
  refine b_putI dX10_leaveCall_123 fk_X10_512 ly_582 (fun m8 em8 => ?_)
  have h := h m8 em8
  refine b_aload_n dX10_leaveCall_126 rfl ?_
  refine b_aload_n dX10_leaveCall_127 rfl ?_
  refine b_getR dX10_leaveCall_128 fk_X10_289 ly_582 gg_582_106 ?_
  refine b_aload_n dX10_leaveCall_131 rfl ?_
  refine b_getI dX10_leaveCall_132 fk_X10_814 ly_582 ?_
  obtain ⟨g8, h⟩ := h
  refine b_iald dX10_leaveCall_135 ly_647 g8 ?_
  refine b_putI dX10_leaveCall_136 fk_X10_253 ly_582 (fun m9 em9 => ?_)
  have h := h m9 em9
  refine b_aload_n dX10_leaveCall_139 rfl ?_
  refine b_cVv (as := []) (st := []) dX10_leaveCall_140 mf_X10_makeReady qs166 lk_X10_820 ly_582 rfl (p_X10_makeReady (f := 325) (Nat.le_refl _) _ h) (by omega) rfl rfl (Nat.le_of_ble_eq_true rfl) (by decide) rfl (fun _ => rfl) (fun r3 m10 h => ?_) (fun _ h => h)
  refine b_aload_n dX10_leaveCall_143 rfl ?_
  refine b_iload_n dX10_leaveCall_144 rfl ?_
  refine b_cSi (as := [vI x1]) (st := [vR 582]) dX10_leaveCall_145 mf_X10_valueAt lk_X10_721 (p_X10_valueAt (f := 1) (Nat.le_refl _) _ _ h) (by omega) rfl rfl (Nat.le_of_ble_eq_true rfl) (by decide) rfl (fun _ => rfl) (fun r4 m11 h => ?_) (fun _ h => h)
  refine b_aload_n dX10_leaveCall_148 rfl ?_
  refine b_getI dX10_leaveCall_149 fk_X10_718 ly_582 ?_
  refine b_iconst dX10_leaveCall_152 ?_
  refine b_isub dX10_leaveCall_153 ?_
  refine b_cSi (as := [vI ((m11 582 86) - 1)]) (st := [vI r4, vR 582]) dX10_leaveCall_154 mf_X10_valueAt lk_X10_721 (p_X10_valueAt (f := 1) (Nat.le_refl _) _ _ h) (by omega) rfl rfl (Nat.le_of_ble_eq_true rfl) (by decide) rfl (fun _ => rfl) (fun r5 m12 h => ?_) (fun _ h => h)
  refine b_sipush dX10_leaveCall_157 (by decide) ?_
  refine b_cVv (as := [vI r4, vI r5, vI 882]) (st := []) dX10_leaveCall_160 mf_X10_copy qs164 lk_X10_658 ly_582 rfl (p_X10_copy (f := 1) (Nat.le_refl _) _ _ _ _ h) (by omega) rfl rfl (Nat.le_of_ble_eq_true rfl) (by decide) rfl (fun _ => rfl) (fun r6 m13 h => ?_) (fun _ h => h)
  refine b_aload_n dX10_leaveCall_163 rfl ?_
  refine b_iload_n dX10_leaveCall_164 rfl ?_
  refine b_iconst dX10_leaveCall_165 ?_
  refine b_iadd dX10_leaveCall_166 ?_
  refine b_putI dX10_leaveCall_167 fk_X10_718 ly_582 (fun m14 em14 => ?_)
  have h := h m14 em14
  exact b_vret dX10_leaveCall_170 rfl h
theorem dX10_task_0 : decode cX10_task 0 = .ok (.aload_n 0, 1) := by decide +kernel
theorem dX10_task_1 : decode cX10_task 1 = .ok (.getfield 718, 3) := by decide +kernel
theorem dX10_task_4 : decode cX10_task 4 = .ok (.ifCond .le 15, 3) := by decide +kernel
theorem dX10_task_7 : decode cX10_task 7 = .ok (.aload_n 0, 1) := by decide +kernel
theorem dX10_task_8 : decode cX10_task 8 = .ok (.getfield 718, 3) := by decide +kernel
theorem dX10_task_11 : decode cX10_task 11 = .ok (.iconst 1, 1) := by decide +kernel
theorem dX10_task_12 : decode cX10_task 12 = .ok (.isub, 1) := by decide +kernel
theorem dX10_task_13 : decode cX10_task 13 = .ok (.invokestatic 721, 3) := by decide +kernel
theorem dX10_task_16 : decode cX10_task 16 = .ok (.goto 4, 3) := by decide +kernel
theorem dX10_task_19 : decode cX10_task 19 = .ok (.iconst 0, 1) := by decide +kernel
theorem dX10_task_20 : decode cX10_task 20 = .ok (.istore 6, 2) := by decide +kernel
theorem dX10_task_22 : decode cX10_task 22 = .ok (.iload_n 1, 1) := by decide +kernel
theorem dX10_task_23 : decode cX10_task 23 = .ok (.tableswitch 368 0 10 #[57, 65, 75, 104, 162, 188, 206, 260, 273, 352, 360], 57) := by decide +kernel
theorem dX10_task_80 : decode cX10_task 80 = .ok (.aload_n 0, 1) := by decide +kernel
theorem dX10_task_81 : decode cX10_task 81 = .ok (.iload_n 2, 1) := by decide +kernel
theorem dX10_task_82 : decode cX10_task 82 = .ok (.invokevirtual 738, 3) := by decide +kernel
theorem dX10_task_85 : decode cX10_task 85 = .ok (.goto 311, 3) := by decide +kernel
theorem dX10_task_88 : decode cX10_task 88 = .ok (.aload_n 0, 1) := by decide +kernel
theorem dX10_task_89 : decode cX10_task 89 = .ok (.iload_n 2, 1) := by decide +kernel
theorem dX10_task_90 : decode cX10_task 90 = .ok (.iload 6, 2) := by decide +kernel
theorem dX10_task_92 : decode cX10_task 92 = .ok (.invokevirtual 741, 3) := by decide +kernel
theorem dX10_task_95 : decode cX10_task 95 = .ok (.goto 301, 3) := by decide +kernel
theorem dX10_task_98 : decode cX10_task 98 = .ok (.aload_n 0, 1) := by decide +kernel
theorem dX10_task_99 : decode cX10_task 99 = .ok (.iload_n 2, 1) := by decide +kernel
theorem dX10_task_100 : decode cX10_task 100 = .ok (.aload_n 0, 1) := by decide +kernel
theorem dX10_task_101 : decode cX10_task 101 = .ok (.getfield 718, 3) := by decide +kernel
theorem dX10_task_104 : decode cX10_task 104 = .ok (.iconst 2, 1) := by decide +kernel
theorem dX10_task_105 : decode cX10_task 105 = .ok (.isub, 1) := by decide +kernel
theorem dX10_task_106 : decode cX10_task 106 = .ok (.invokestatic 721, 3) := by decide +kernel
theorem dX10_task_109 : decode cX10_task 109 = .ok (.iload 6, 2) := by decide +kernel
theorem dX10_task_111 : decode cX10_task 111 = .ok (.invokevirtual 744, 3) := by decide +kernel
theorem dX10_task_114 : decode cX10_task 114 = .ok (.aload_n 0, 1) := by decide +kernel
theorem dX10_task_115 : decode cX10_task 115 = .ok (.dup, 1) := by decide +kernel
theorem dX10_task_116 : decode cX10_task 116 = .ok (.getfield 718, 3) := by decide +kernel
theorem dX10_task_119 : decode cX10_task 119 = .ok (.iconst 1, 1) := by decide +kernel
theorem dX10_task_120 : decode cX10_task 120 = .ok (.isub, 1) := by decide +kernel
theorem dX10_task_121 : decode cX10_task 121 = .ok (.putfield 718, 3) := by decide +kernel
theorem dX10_task_124 : decode cX10_task 124 = .ok (.goto 272, 3) := by decide +kernel
theorem dX10_task_127 : decode cX10_task 127 = .ok (.aload_n 0, 1) := by decide +kernel
theorem dX10_task_128 : decode cX10_task 128 = .ok (.dup, 1) := by decide +kernel
theorem dX10_task_129 : decode cX10_task 129 = .ok (.getfield 718, 3) := by decide +kernel
theorem dX10_task_132 : decode cX10_task 132 = .ok (.iconst 1, 1) := by decide +kernel
theorem dX10_task_133 : decode cX10_task 133 = .ok (.isub, 1) := by decide +kernel
theorem dX10_task_134 : decode cX10_task 134 = .ok (.putfield 718, 3) := by decide +kernel
theorem dX10_task_137 : decode cX10_task 137 = .ok (.aload_n 0, 1) := by decide +kernel
theorem dX10_task_138 : decode cX10_task 138 = .ok (.getfield 250, 3) := by decide +kernel
theorem dX10_task_141 : decode cX10_task 141 = .ok (.iload 6, 2) := by decide +kernel
theorem dX10_task_143 : decode cX10_task 143 = .ok (.laload, 1) := by decide +kernel
theorem dX10_task_144 : decode cX10_task 144 = .ok (.lconst 1, 1) := by decide +kernel
theorem dX10_task_145 : decode cX10_task 145 = .ok (.lcmp, 1) := by decide +kernel
theorem dX10_task_146 : decode cX10_task 146 = .ok (.ifCond .ne 12, 3) := by decide +kernel
theorem dX10_task_149 : decode cX10_task 149 = .ok (.aload_n 0, 1) := by decide +kernel
theorem dX10_task_150 : decode cX10_task 150 = .ok (.getfield 112, 3) := by decide +kernel
theorem dX10_task_153 : decode cX10_task 153 = .ok (.iload_n 2, 1) := by decide +kernel
theorem dX10_task_154 : decode cX10_task 154 = .ok (.iaload, 1) := by decide +kernel
theorem dX10_task_155 : decode cX10_task 155 = .ok (.goto 9, 3) := by decide +kernel
theorem dX10_task_158 : decode cX10_task 158 = .ok (.aload_n 0, 1) := by decide +kernel
theorem dX10_task_159 : decode cX10_task 159 = .ok (.getfield 115, 3) := by decide +kernel
theorem dX10_task_162 : decode cX10_task 162 = .ok (.iload_n 2, 1) := by decide +kernel
theorem dX10_task_163 : decode cX10_task 163 = .ok (.iaload, 1) := by decide +kernel
theorem dX10_task_164 : decode cX10_task 164 = .ok (.istore 7, 2) := by decide +kernel
theorem dX10_task_166 : decode cX10_task 166 = .ok (.aload_n 0, 1) := by decide +kernel
theorem dX10_task_167 : decode cX10_task 167 = .ok (.iconst 4, 1) := by decide +kernel
theorem dX10_task_168 : decode cX10_task 168 = .ok (.iload_n 2, 1) := by decide +kernel
theorem dX10_task_169 : decode cX10_task 169 = .ok (.iload 7, 2) := by decide +kernel
theorem dX10_task_171 : decode cX10_task 171 = .ok (.iconst 0, 1) := by decide +kernel
theorem dX10_task_172 : decode cX10_task 172 = .ok (.iconst 0, 1) := by decide +kernel
theorem dX10_task_173 : decode cX10_task 173 = .ok (.invokevirtual 730, 3) := by decide +kernel
theorem dX10_task_176 : decode cX10_task 176 = .ok (.aload_n 0, 1) := by decide +kernel
theorem dX10_task_177 : decode cX10_task 177 = .ok (.iload 7, 2) := by decide +kernel
theorem dX10_task_179 : decode cX10_task 179 = .ok (.invokevirtual 733, 3) := by decide +kernel
theorem dX10_task_182 : decode cX10_task 182 = .ok (.goto 214, 3) := by decide +kernel
theorem dX10_task_185 : decode cX10_task 185 = .ok (.aload_n 0, 1) := by decide +kernel
theorem dX10_task_186 : decode cX10_task 186 = .ok (.iload_n 3, 1) := by decide +kernel
theorem dX10_task_187 : decode cX10_task 187 = .ok (.aload_n 0, 1) := by decide +kernel
theorem dX10_task_188 : decode cX10_task 188 = .ok (.getfield 130, 3) := by decide +kernel
theorem dX10_task_191 : decode cX10_task 191 = .ok (.iload_n 2, 1) := by decide +kernel
theorem dX10_task_192 : decode cX10_task 192 = .ok (.iaload, 1) := by decide +kernel
theorem dX10_task_193 : decode cX10_task 193 = .ok (.aload_n 0, 1) := by decide +kernel
theorem dX10_task_194 : decode cX10_task 194 = .ok (.getfield 133, 3) := by decide +kernel
theorem dX10_task_197 : decode cX10_task 197 = .ok (.iload_n 2, 1) := by decide +kernel
theorem dX10_task_198 : decode cX10_task 198 = .ok (.iaload, 1) := by decide +kernel
theorem dX10_task_199 : decode cX10_task 199 = .ok (.aload_n 0, 1) := by decide +kernel
theorem dX10_task_200 : decode cX10_task 200 = .ok (.getfield 136, 3) := by decide +kernel
theorem dX10_task_203 : decode cX10_task 203 = .ok (.iload_n 2, 1) := by decide +kernel
theorem dX10_task_204 : decode cX10_task 204 = .ok (.iaload, 1) := by decide +kernel
theorem dX10_task_205 : decode cX10_task 205 = .ok (.invokevirtual 747, 3) := by decide +kernel
theorem dX10_task_208 : decode cX10_task 208 = .ok (.goto 188, 3) := by decide +kernel
theorem dX10_task_211 : decode cX10_task 211 = .ok (.aload_n 0, 1) := by decide +kernel
theorem dX10_task_212 : decode cX10_task 212 = .ok (.iload 6, 2) := by decide +kernel
theorem dX10_task_214 : decode cX10_task 214 = .ok (.lconst 1, 1) := by decide +kernel
theorem dX10_task_215 : decode cX10_task 215 = .ok (.aload_n 0, 1) := by decide +kernel
theorem dX10_task_216 : decode cX10_task 216 = .ok (.getfield 250, 3) := by decide +kernel
theorem dX10_task_219 : decode cX10_task 219 = .ok (.iload 6, 2) := by decide +kernel
theorem dX10_task_221 : decode cX10_task 221 = .ok (.laload, 1) := by decide +kernel
theorem dX10_task_222 : decode cX10_task 222 = .ok (.lsub, 1) := by decide +kernel
theorem dX10_task_223 : decode cX10_task 223 = .ok (.invokevirtual 633, 3) := by decide +kernel
theorem dX10_task_226 : decode cX10_task 226 = .ok (.goto 170, 3) := by decide +kernel
theorem dX10_task_229 : decode cX10_task 229 = .ok (.aload_n 0, 1) := by decide +kernel
theorem dX10_task_230 : decode cX10_task 230 = .ok (.ldc_w 750, 3) := by decide +kernel
theorem dX10_task_233 : decode cX10_task 233 = .ok (.iload 6, 2) := by decide +kernel
theorem dX10_task_235 : decode cX10_task 235 = .ok (.sipush 882, 3) := by decide +kernel
theorem dX10_task_238 : decode cX10_task 238 = .ok (.invokevirtual 658, 3) := by decide +kernel
theorem dX10_task_241 : decode cX10_task 241 = .ok (.aload_n 0, 1) := by decide +kernel
theorem dX10_task_242 : decode cX10_task 242 = .ok (.iload 6, 2) := by decide +kernel
theorem dX10_task_244 : decode cX10_task 244 = .ok (.sipush 882, 3) := by decide +kernel
theorem dX10_task_247 : decode cX10_task 247 = .ok (.invokevirtual 685, 3) := by decide +kernel
theorem dX10_task_250 : decode cX10_task 250 = .ok (.aload_n 0, 1) := by decide +kernel
theorem dX10_task_251 : decode cX10_task 251 = .ok (.iload 6, 2) := by decide +kernel
theorem dX10_task_253 : decode cX10_task 253 = .ok (.iload 6, 2) := by decide +kernel
theorem dX10_task_255 : decode cX10_task 255 = .ok (.ldc_w 750, 3) := by decide +kernel
theorem dX10_task_258 : decode cX10_task 258 = .ok (.aload_n 0, 1) := by decide +kernel
theorem dX10_task_259 : decode cX10_task 259 = .ok (.getfield 130, 3) := by decide +kernel
theorem dX10_task_262 : decode cX10_task 262 = .ok (.iload_n 2, 1) := by decide +kernel
theorem dX10_task_263 : decode cX10_task 263 = .ok (.iaload, 1) := by decide +kernel
theorem dX10_task_264 : decode cX10_task 264 = .ok (.aload_n 0, 1) := by decide +kernel
theorem dX10_task_265 : decode cX10_task 265 = .ok (.getfield 133, 3) := by decide +kernel
theorem dX10_task_268 : decode cX10_task 268 = .ok (.iload_n 2, 1) := by decide +kernel
theorem dX10_task_269 : decode cX10_task 269 = .ok (.iaload, 1) := by decide +kernel
theorem dX10_task_270 : decode cX10_task 270 = .ok (.aload_n 0, 1) := by decide +kernel
theorem dX10_task_271 : decode cX10_task 271 = .ok (.getfield 136, 3) := by decide +kernel
theorem dX10_task_274 : decode cX10_task 274 = .ok (.iload_n 2, 1) := by decide +kernel
theorem dX10_task_275 : decode cX10_task 275 = .ok (.iaload, 1) := by decide +kernel
theorem dX10_task_276 : decode cX10_task 276 = .ok (.iconst 1, 1) := by decide +kernel
theorem dX10_task_277 : decode cX10_task 277 = .ok (.invokevirtual 751, 3) := by decide +kernel
theorem dX10_task_280 : decode cX10_task 280 = .ok (.goto 116, 3) := by decide +kernel
theorem dX10_task_283 : decode cX10_task 283 = .ok (.aload_n 0, 1) := by decide +kernel
theorem dX10_task_284 : decode cX10_task 284 = .ok (.iload_n 2, 1) := by decide +kernel
theorem dX10_task_285 : decode cX10_task 285 = .ok (.iload_n 3, 1) := by decide +kernel
theorem dX10_task_286 : decode cX10_task 286 = .ok (.iload 4, 2) := by decide +kernel
theorem dX10_task_288 : decode cX10_task 288 = .ok (.iload 5, 2) := by decide +kernel
theorem dX10_task_290 : decode cX10_task 290 = .ok (.invokevirtual 755, 3) := by decide +kernel
theorem dX10_task_293 : decode cX10_task 293 = .ok (.goto 103, 3) := by decide +kernel
theorem dX10_task_296 : decode cX10_task 296 = .ok (.aload_n 0, 1) := by decide +kernel
theorem dX10_task_297 : decode cX10_task 297 = .ok (.aload_n 0, 1) := by decide +kernel
theorem dX10_task_298 : decode cX10_task 298 = .ok (.getfield 127, 3) := by decide +kernel
theorem dX10_task_301 : decode cX10_task 301 = .ok (.iload_n 2, 1) := by decide +kernel
theorem dX10_task_302 : decode cX10_task 302 = .ok (.iaload, 1) := by decide +kernel
theorem dX10_task_303 : decode cX10_task 303 = .ok (.iload 4, 2) := by decide +kernel
theorem dX10_task_305 : decode cX10_task 305 = .ok (.aload_n 0, 1) := by decide +kernel
theorem dX10_task_306 : decode cX10_task 306 = .ok (.getfield 139, 3) := by decide +kernel
theorem dX10_task_309 : decode cX10_task 309 = .ok (.iload_n 2, 1) := by decide +kernel
theorem dX10_task_310 : decode cX10_task 310 = .ok (.iaload, 1) := by decide +kernel
theorem dX10_task_311 : decode cX10_task 311 = .ok (.aload_n 0, 1) := by decide +kernel
theorem dX10_task_312 : decode cX10_task 312 = .ok (.getfield 142, 3) := by decide +kernel
theorem dX10_task_315 : decode cX10_task 315 = .ok (.iload_n 2, 1) := by decide +kernel
theorem dX10_task_316 : decode cX10_task 316 = .ok (.iaload, 1) := by decide +kernel
theorem dX10_task_317 : decode cX10_task 317 = .ok (.aload_n 0, 1) := by decide +kernel
theorem dX10_task_318 : decode cX10_task 318 = .ok (.getfield 145, 3) := by decide +kernel
theorem dX10_task_321 : decode cX10_task 321 = .ok (.iload_n 2, 1) := by decide +kernel
theorem dX10_task_322 : decode cX10_task 322 = .ok (.iaload, 1) := by decide +kernel
theorem dX10_task_323 : decode cX10_task 323 = .ok (.invokevirtual 538, 3) := by decide +kernel
theorem dX10_task_326 : decode cX10_task 326 = .ok (.istore 7, 2) := by decide +kernel
theorem dX10_task_328 : decode cX10_task 328 = .ok (.aload_n 0, 1) := by decide +kernel
theorem dX10_task_329 : decode cX10_task 329 = .ok (.aload_n 0, 1) := by decide +kernel
theorem dX10_task_330 : decode cX10_task 330 = .ok (.getfield 109, 3) := by decide +kernel
theorem dX10_task_333 : decode cX10_task 333 = .ok (.iload_n 3, 1) := by decide +kernel
theorem dX10_task_334 : decode cX10_task 334 = .ok (.iaload, 1) := by decide +kernel
theorem dX10_task_335 : decode cX10_task 335 = .ok (.aload_n 0, 1) := by decide +kernel
theorem dX10_task_336 : decode cX10_task 336 = .ok (.getfield 542, 3) := by decide +kernel
theorem dX10_task_339 : decode cX10_task 339 = .ok (.aload_n 0, 1) := by decide +kernel
theorem dX10_task_340 : decode cX10_task 340 = .ok (.getfield 545, 3) := by decide +kernel
theorem dX10_task_343 : decode cX10_task 343 = .ok (.aload_n 0, 1) := by decide +kernel
theorem dX10_task_344 : decode cX10_task 344 = .ok (.getfield 548, 3) := by decide +kernel
theorem dX10_task_347 : decode cX10_task 347 = .ok (.invokevirtual 747, 3) := by decide +kernel
theorem dX10_task_350 : decode cX10_task 350 = .ok (.aload_n 0, 1) := by decide +kernel
theorem dX10_task_351 : decode cX10_task 351 = .ok (.getfield 601, 3) := by decide +kernel
theorem dX10_task_354 : decode cX10_task 354 = .ok (.ifCond .ne 42, 3) := by decide +kernel
theorem dX10_task_357 : decode cX10_task 357 = .ok (.aload_n 0, 1) := by decide +kernel
theorem dX10_task_358 : decode cX10_task 358 = .ok (.iload_n 2, 1) := by decide +kernel
theorem dX10_task_359 : decode cX10_task 359 = .ok (.aload_n 0, 1) := by decide +kernel
theorem dX10_task_360 : decode cX10_task 360 = .ok (.getfield 118, 3) := by decide +kernel
theorem dX10_task_363 : decode cX10_task 363 = .ok (.iload_n 3, 1) := by decide +kernel
theorem dX10_task_364 : decode cX10_task 364 = .ok (.iaload, 1) := by decide +kernel
theorem dX10_task_365 : decode cX10_task 365 = .ok (.iload 4, 2) := by decide +kernel
theorem dX10_task_367 : decode cX10_task 367 = .ok (.iconst 1, 1) := by decide +kernel
theorem dX10_task_368 : decode cX10_task 368 = .ok (.iadd, 1) := by decide +kernel
theorem dX10_task_369 : decode cX10_task 369 = .ok (.invokevirtual 758, 3) := by decide +kernel
theorem dX10_task_372 : decode cX10_task 372 = .ok (.goto 24, 3) := by decide +kernel
theorem dX10_task_375 : decode cX10_task 375 = .ok (.aload_n 0, 1) := by decide +kernel
theorem dX10_task_376 : decode cX10_task 376 = .ok (.iload_n 3, 1) := by decide +kernel
theorem dX10_task_377 : decode cX10_task 377 = .ok (.invokevirtual 761, 3) := by decide +kernel
theorem dX10_task_380 : decode cX10_task 380 = .ok (.goto 16, 3) := by decide +kernel
theorem dX10_task_383 : decode cX10_task 383 = .ok (.aload_n 0, 1) := by decide +kernel
theorem dX10_task_384 : decode cX10_task 384 = .ok (.iload_n 2, 1) := by decide +kernel
theorem dX10_task_385 : decode cX10_task 385 = .ok (.invokevirtual 764, 3) := by decide +kernel
theorem dX10_task_388 : decode cX10_task 388 = .ok (.goto 8, 3) := by decide +kernel
theorem dX10_task_391 : decode cX10_task 391 = .ok (.aload_n 0, 1) := by decide +kernel
theorem dX10_task_392 : decode cX10_task 392 = .ok (.iload_n 2, 1) := by decide +kernel
theorem dX10_task_393 : decode cX10_task 393 = .ok (.invokevirtual 767, 3) := by decide +kernel
theorem dX10_task_396 : decode cX10_task 396 = .ok (.return_, 1) := by decide +kernel
/-! AlgebraHouseModel.task(IIIII)V -/
def P_X10_task_20 (Q : Int → MM → Prop) (x1 : Int) (x2 : Int) (x3 : Int) (x4 : Int) (x5 : Int) (s0 : Int) (m : MM) : Prop := (RI x1) ∧ (if x1 = 0 then P_X10_evalPart x2 m (fun r1 m1 => Q 0 m1) else (if x1 = 1 then P_X10_evalLeft x2 s0 m (fun r2 m2 => Q 0 m2) else (if x1 = 2 then P_X10_valueAt ((m 582 86) - 2) m (fun r3 m3 => P_X10_evalTwo x2 r3 s0 m3 (fun r4 m4 => ∀ m5 : MM, m5 = up m4 582 86 ((m4 582 86) - 1) → Q 0 m5)) else (if x1 = 3 then ∀ m6 : MM, m6 = up m 582 86 ((m 582 86) - 1) → (0 ≤ s0 ∧ s0 < 1600000) ∧ ((RL (m6 635 s0)) ∧ (if (m6 635 s0) = 1 then ((0 ≤ x2 ∧ x2 < 12000)) else ((0 ≤ x2 ∧ x2 < 12000)))) ∧ P_X10_later_2 4 x2 (if (m6 635 s0) = 1 then (m6 592 x2) else (m6 593 x2) : Int) 0 0 m6 (fun r5 m7 => P_X10_later (if (m6 635 s0) = 1 then (m6 592 x2) else (m6 593 x2) : Int) m7 (fun r6 m8 => Q 0 m8)) else (if x1 = 4 then (0 ≤ x2 ∧ x2 < 12000) ∧ P_X10_goLatest x3 (m 598 x2) (m 599 x2) (m 600 x2) m (fun r7 m9 => Q 0 m9) else (if x1 = 5 then (0 ≤ s0 ∧ s0 < 1600000) ∧ P_X10_set s0 (1 - (m 635 s0)) m (fun r8 m10 => Q 0 m10) else (if x1 = 6 then P_X10_copy 1593000 s0 882 m (fun r9 m11 => P_X10_clear s0 882 m11 (fun r10 m12 => (0 ≤ x2 ∧ x2 < 12000) ∧ P_X10_addValues s0 s0 1593000 (m12 598 x2) (m12 599 x2) (m12 600 x2) 1 m12 (fun r11 m13 => Q 0 m13))) else (if x1 = 7 then P_X10_evalEntry x2 x3 x4 x5 m (fun r12 m14 => Q 0 m14) else (if x1 = 8 then (0 ≤ x2 ∧ x2 < 12000) ∧ P_X10_instance (m 597 x2) x4 (m 601 x2) (m 602 x2) (m 603 x2) m (fun r13 m15 => (0 ≤ x3 ∧ x3 < 12000) ∧ P_X10_goLatest (m15 591 x3) (m15 582 70) (m15 582 71) (m15 582 72) m15 (fun r14 m16 => (RI (m16 582 84)) ∧ (if (m16 582 84) = 0 then P_X10_arguments x2 (m16 594 x3) (x4 + 1) m16 (fun r15 m17 => Q 0 m17) else Q 0 m16))) else (if x1 = 9 then P_X10_leaveCall x3 m (fun r16 m18 => Q 0 m18) else (if x1 = 10 then P_X10_evalFirst x2 m (fun r17 m19 => Q 0 m19) else P_X10_evalSecond x2 m (fun r18 m20 => Q 0 m20))))))))))))
def P_X10_task (x1 : Int) (x2 : Int) (x3 : Int) (x4 : Int) (x5 : Int) (m : MM) (Q : Int → MM → Prop) : Prop := (RI (m 582 86)) ∧ (if (m 582 86) ≤ 0 then P_X10_task_20 Q x1 x2 x3 x4 x5 0 m else P_X10_valueAt ((m 582 86) - 1) m (fun r1 m1 => P_X10_task_20 Q x1 x2 x3 x4 x5 r1 m1))
theorem pl_X10_task_20 {f : Nat} {Q : Int → MM → Prop} {T : MM → Prop} (hf : 328 ≤ f) : ∀ (x1 : Int) (x2 : Int) (x3 : Int) (x4 : Int) (x5 : Int) (s0 : Int) (m : MM), P_X10_task_20 Q x1 x2 x3 x4 x5 s0 m → B f M_X10_task 20 [vR 582, vI x1, vI x2, vI x3, vI x4, vI x5, vU, vU] [vI s0] m Q T := by
  intro x1 x2 x3 x4 x5 s0 m h
  have h : (RI x1) ∧ (if x1 = 0 then P_X10_evalPart x2 m (fun r1 m1 => Q 0 m1) else (if x1 = 1 then P_X10_evalLeft x2 s0 m (fun r2 m2 => Q 0 m2) else (if x1 = 2 then P_X10_valueAt ((m 582 86) - 2) m (fun r3 m3 => P_X10_evalTwo x2 r3 s0 m3 (fun r4 m4 => ∀ m5 : MM, m5 = up m4 582 86 ((m4 582 86) - 1) → Q 0 m5)) else (if x1 = 3 then ∀ m6 : MM, m6 = up m 582 86 ((m 582 86) - 1) → (0 ≤ s0 ∧ s0 < 1600000) ∧ ((RL (m6 635 s0)) ∧ (if (m6 635 s0) = 1 then ((0 ≤ x2 ∧ x2 < 12000)) else ((0 ≤ x2 ∧ x2 < 12000)))) ∧ P_X10_later_2 4 x2 (if (m6 635 s0) = 1 then (m6 592 x2) else (m6 593 x2) : Int) 0 0 m6 (fun r5 m7 => P_X10_later (if (m6 635 s0) = 1 then (m6 592 x2) else (m6 593 x2) : Int) m7 (fun r6 m8 => Q 0 m8)) else (if x1 = 4 then (0 ≤ x2 ∧ x2 < 12000) ∧ P_X10_goLatest x3 (m 598 x2) (m 599 x2) (m 600 x2) m (fun r7 m9 => Q 0 m9) else (if x1 = 5 then (0 ≤ s0 ∧ s0 < 1600000) ∧ P_X10_set s0 (1 - (m 635 s0)) m (fun r8 m10 => Q 0 m10) else (if x1 = 6 then P_X10_copy 1593000 s0 882 m (fun r9 m11 => P_X10_clear s0 882 m11 (fun r10 m12 => (0 ≤ x2 ∧ x2 < 12000) ∧ P_X10_addValues s0 s0 1593000 (m12 598 x2) (m12 599 x2) (m12 600 x2) 1 m12 (fun r11 m13 => Q 0 m13))) else (if x1 = 7 then P_X10_evalEntry x2 x3 x4 x5 m (fun r12 m14 => Q 0 m14) else (if x1 = 8 then (0 ≤ x2 ∧ x2 < 12000) ∧ P_X10_instance (m 597 x2) x4 (m 601 x2) (m 602 x2) (m 603 x2) m (fun r13 m15 => (0 ≤ x3 ∧ x3 < 12000) ∧ P_X10_goLatest (m15 591 x3) (m15 582 70) (m15 582 71) (m15 582 72) m15 (fun r14 m16 => (RI (m16 582 84)) ∧ (if (m16 582 84) = 0 then P_X10_arguments x2 (m16 594 x3) (x4 + 1) m16 (fun r15 m17 => Q 0 m17) else Q 0 m16))) else (if x1 = 9 then P_X10_leaveCall x3 m (fun r16 m18 => Q 0 m18) else (if x1 = 10 then P_X10_evalFirst x2 m (fun r17 m19 => Q 0 m19) else P_X10_evalSecond x2 m (fun r18 m20 => Q 0 m20)))))))))))) := h
  refine b_istore (ls' := [vR 582, vI x1, vI x2, vI x3, vI x4, vI x5, vI s0, vU]) dX10_task_20 (Nat.le_of_ble_eq_true rfl) rfl ?_
  refine b_iload_n dX10_task_22 rfl ?_
  obtain ⟨g1, h⟩ := h
  by_cases c1 : x1 = 0
  · have h := ifT c1 h
    refine b_tswIn 80 dX10_task_23 g1 (by omega) (by omega) (by rw [c1]; rfl) (by decide) ?_
    refine b_aload_n dX10_task_80 rfl ?_
    refine b_iload_n dX10_task_81 rfl ?_
    refine b_cVv (as := [vI x2]) (st := []) dX10_task_82 mf_X10_evalPart qs157 lk_X10_738 ly_582 rfl (p_X10_evalPart (f := 327) (Nat.le_refl _) _ _ h) (by omega) rfl rfl (Nat.le_of_ble_eq_true rfl) (by decide) rfl (fun _ => rfl) (fun r1 m1 h => ?_) (fun _ h => h)
    refine b_goto 396 dX10_task_85 (by decide) ?_
    exact b_vret dX10_task_396 rfl h
  have h := ifF c1 h
  by_cases c2 : x1 = 1
  · have h := ifT c2 h
    refine b_tswIn 88 dX10_task_23 g1 (by omega) (by omega) (by rw [c2]; rfl) (by decide) ?_
    refine b_aload_n dX10_task_88 rfl ?_
    refine b_iload_n dX10_task_89 rfl ?_
    refine b_iload dX10_task_90 rfl ?_
    refine b_cVv (as := [vI x2, vI s0]) (st := []) dX10_task_92 mf_X10_evalLeft qs167 lk_X10_741 ly_582 rfl (p_X10_evalLeft (f := 8) (Nat.le_refl _) _ _ _ h) (by omega) rfl rfl (Nat.le_of_ble_eq_true rfl) (by decide) rfl (fun _ => rfl) (fun r2 m2 h => ?_) (fun _ h => h)
    refine b_goto 396 dX10_task_95 (by decide) ?_
    exact b_vret dX10_task_396 rfl h
  have h := ifF c2 h
  by_cases c3 : x1 = 2
  · have h := ifT c3 h
    refine b_tswIn 98 dX10_task_23 g1 (by omega) (by omega) (by rw [c3]; rfl) (by decide) ?_
    refine b_aload_n dX10_task_98 rfl ?_
    refine b_iload_n dX10_task_99 rfl ?_
    refine b_aload_n dX10_task_100 rfl ?_
    refine b_getI dX10_task_101 fk_X10_718 ly_582 ?_
    refine b_iconst dX10_task_104 ?_
    refine b_isub dX10_task_105 ?_
    refine b_cSi (as := [vI ((m 582 86) - 2)]) (st := [vI x2, vR 582]) dX10_task_106 mf_X10_valueAt lk_X10_721 (p_X10_valueAt (f := 1) (Nat.le_refl _) _ _ h) (by omega) rfl rfl (Nat.le_of_ble_eq_true rfl) (by decide) rfl (fun _ => rfl) (fun r3 m3 h => ?_) (fun _ h => h)
    refine b_iload dX10_task_109 rfl ?_
    refine b_cVv (as := [vI x2, vI r3, vI s0]) (st := []) dX10_task_111 mf_X10_evalTwo qs183 lk_X10_744 ly_582 rfl (p_X10_evalTwo (f := 7) (Nat.le_refl _) _ _ _ _ h) (by omega) rfl rfl (Nat.le_of_ble_eq_true rfl) (by decide) rfl (fun _ => rfl) (fun r4 m4 h => ?_) (fun _ h => h)
    refine b_aload_n dX10_task_114 rfl ?_
    refine b_dup dX10_task_115 rfl ?_
    refine b_getI dX10_task_116 fk_X10_718 ly_582 ?_
    refine b_iconst dX10_task_119 ?_
    refine b_isub dX10_task_120 ?_
    refine b_putI dX10_task_121 fk_X10_718 ly_582 (fun m5 em5 => ?_)
    have h := h m5 em5
    refine b_goto 396 dX10_task_124 (by decide) ?_
    exact b_vret dX10_task_396 rfl h
  have h := ifF c3 h
  by_cases c4 : x1 = 3
  · have h := ifT c4 h
    refine b_tswIn 127 dX10_task_23 g1 (by omega) (by omega) (by rw [c4]; rfl) (by decide) ?_
    refine b_aload_n dX10_task_127 rfl ?_
    refine b_dup dX10_task_128 rfl ?_
    refine b_getI dX10_task_129 fk_X10_718 ly_582 ?_
    refine b_iconst dX10_task_132 ?_
    refine b_isub dX10_task_133 ?_
    refine b_putI dX10_task_134 fk_X10_718 ly_582 (fun m6 em6 => ?_)
    have h := h m6 em6
    refine b_aload_n dX10_task_137 rfl ?_
    refine b_getR dX10_task_138 fk_X10_250 ly_582 gg_582_85 ?_
    refine b_iload dX10_task_141 rfl ?_
    obtain ⟨g2, h⟩ := h
    refine b_lald dX10_task_143 ly_635 g2 ?_
    refine b_lconst 1 dX10_task_144 (by decide) ?_
    obtain ⟨hs, h⟩ := h
    have K : B f M_X10_task 164 [vR 582, vI x1, vI x2, vI x3, vI x4, vI x5, vI s0, vU] [vI (if (m6 635 s0) = 1 then (m6 592 x2) else (m6 593 x2) : Int)] m6 Q T := by
      clear hs
      refine b_istore (ls' := [vR 582, vI x1, vI x2, vI x3, vI x4, vI x5, vI s0, vI (if (m6 635 s0) = 1 then (m6 592 x2) else (m6 593 x2) : Int)]) dX10_task_164 (Nat.le_of_ble_eq_true rfl) rfl ?_
      refine b_aload_n dX10_task_166 rfl ?_
      refine b_iconst dX10_task_167 ?_
      refine b_iload_n dX10_task_168 rfl ?_
      refine b_iload dX10_task_169 rfl ?_
      refine b_iconst dX10_task_171 ?_
      refine b_iconst dX10_task_172 ?_
      refine b_cVv (as := [vI 4, vI x2, vI (if (m6 635 s0) = 1 then (m6 592 x2) else (m6 593 x2) : Int), vI 0, vI 0]) (st := []) dX10_task_173 mf_X10_later_2 qs155 lk_X10_730 ly_582 rfl (p_X10_later_2 (f := 1) (Nat.le_refl _) _ _ _ _ _ _ h) (by omega) rfl rfl (Nat.le_of_ble_eq_true rfl) (by decide) rfl (fun _ => rfl) (fun r5 m7 h => ?_) (fun _ h => h)
      refine b_aload_n dX10_task_176 rfl ?_
      refine b_iload dX10_task_177 rfl ?_
      refine b_cVv (as := [vI (if (m6 635 s0) = 1 then (m6 592 x2) else (m6 593 x2) : Int)]) (st := []) dX10_task_179 mf_X10_later qs154 lk_X10_733 ly_582 rfl (p_X10_later (f := 2) (Nat.le_refl _) _ _ h) (by omega) rfl rfl (Nat.le_of_ble_eq_true rfl) (by decide) rfl (fun _ => rfl) (fun r6 m8 h => ?_) (fun _ h => h)
      refine b_goto 396 dX10_task_182 (by decide) ?_
      exact b_vret dX10_task_396 rfl h
    obtain ⟨g3, hs⟩ := hs
    refine b_lc_ne 158 dX10_task_145 dX10_task_146 g3 (by decide) (by decide) (fun c5 => ?_) (fun c5 => ?_)
    ·
      have hs := ifF c5 hs
      have g4 := hs
      refine b_aload_n dX10_task_158 rfl ?_
      refine b_getR dX10_task_159 fk_X10_115 ly_582 gg_582_19 ?_
      refine b_iload_n dX10_task_162 rfl ?_
      refine b_iald dX10_task_163 ly_593 g4 ?_
      exact Eq.mp (congrArg (fun z => B f M_X10_task 164 [vR 582, vI x1, vI x2, vI x3, vI x4, vI x5, vI s0, vU] (vI z :: []) m6 Q T) (show (if (m6 635 s0) = 1 then (m6 592 x2) else (m6 593 x2) : Int) = (m6 593 x2) by rw [if_neg c5])) K
    ·
      have c5 := Decidable.of_not_not c5
      have hs := ifT c5 hs
      have g5 := hs
      refine b_aload_n dX10_task_149 rfl ?_
      refine b_getR dX10_task_150 fk_X10_112 ly_582 gg_582_18 ?_
      refine b_iload_n dX10_task_153 rfl ?_
      refine b_iald dX10_task_154 ly_592 g5 ?_
      refine b_goto 164 dX10_task_155 (by decide) ?_
      exact Eq.mp (congrArg (fun z => B f M_X10_task 164 [vR 582, vI x1, vI x2, vI x3, vI x4, vI x5, vI s0, vU] (vI z :: []) m6 Q T) (show (if (m6 635 s0) = 1 then (m6 592 x2) else (m6 593 x2) : Int) = (m6 592 x2) by rw [if_pos c5])) K
  have h := ifF c4 h
  by_cases c6 : x1 = 4
  · have h := ifT c6 h
    refine b_tswIn 185 dX10_task_23 g1 (by omega) (by omega) (by rw [c6]; rfl) (by decide) ?_
    refine b_aload_n dX10_task_185 rfl ?_
    refine b_iload_n dX10_task_186 rfl ?_
    refine b_aload_n dX10_task_187 rfl ?_
    refine b_getR dX10_task_188 fk_X10_130 ly_582 gg_582_24 ?_
    refine b_iload_n dX10_task_191 rfl ?_
    obtain ⟨g6, h⟩ := h
    refine b_iald dX10_task_192 ly_598 g6 ?_
    refine b_aload_n dX10_task_193 rfl ?_
    refine b_getR dX10_task_194 fk_X10_133 ly_582 gg_582_25 ?_
    refine b_iload_n dX10_task_197 rfl ?_
    refine b_iald dX10_task_198 ly_599 g6 ?_
    refine b_aload_n dX10_task_199 rfl ?_
    refine b_getR dX10_task_200 fk_X10_136 ly_582 gg_582_26 ?_
    refine b_iload_n dX10_task_203 rfl ?_
    refine b_iald dX10_task_204 ly_600 g6 ?_
    refine b_cVv (as := [vI x3, vI (m 598 x2), vI (m 599 x2), vI (m 600 x2)]) (st := []) dX10_task_205 mf_X10_goLatest qs180 lk_X10_747 ly_582 rfl (p_X10_goLatest (f := 3) (Nat.le_refl _) _ _ _ _ _ h) (by omega) rfl rfl (Nat.le_of_ble_eq_true rfl) (by decide) rfl (fun _ => rfl) (fun r7 m9 h => ?_) (fun _ h => h)
    refine b_goto 396 dX10_task_208 (by decide) ?_
    exact b_vret dX10_task_396 rfl h
  have h := ifF c6 h
  by_cases c7 : x1 = 5
  · have h := ifT c7 h
    refine b_tswIn 211 dX10_task_23 g1 (by omega) (by omega) (by rw [c7]; rfl) (by decide) ?_
    refine b_aload_n dX10_task_211 rfl ?_
    refine b_iload dX10_task_212 rfl ?_
    refine b_lconst 1 dX10_task_214 (by decide) ?_
    refine b_aload_n dX10_task_215 rfl ?_
    refine b_getR dX10_task_216 fk_X10_250 ly_582 gg_582_85 ?_
    refine b_iload dX10_task_219 rfl ?_
    obtain ⟨g7, h⟩ := h
    refine b_lald dX10_task_221 ly_635 g7 ?_
    refine b_lsub dX10_task_222 ?_
    refine b_cVv (as := [vI s0, vL (1 - (m 635 s0))]) (st := []) dX10_task_223 mf_X10_set qs163 lk_X10_633 ly_582 rfl (p_X10_set (f := 1) (Nat.le_refl _) _ _ _ h) (by omega) rfl rfl (Nat.le_of_ble_eq_true rfl) (by decide) rfl (fun _ => rfl) (fun r8 m10 h => ?_) (fun _ h => h)
    refine b_goto 396 dX10_task_226 (by decide) ?_
    exact b_vret dX10_task_396 rfl h
  have h := ifF c7 h
  by_cases c8 : x1 = 6
  · have h := ifT c8 h
    refine b_tswIn 229 dX10_task_23 g1 (by omega) (by omega) (by rw [c8]; rfl) (by decide) ?_
    refine b_aload_n dX10_task_229 rfl ?_
    refine b_ldcw (1593000) dX10_task_230 q2347 (by decide) ?_
    refine b_iload dX10_task_233 rfl ?_
    refine b_sipush dX10_task_235 (by decide) ?_
    refine b_cVv (as := [vI 1593000, vI s0, vI 882]) (st := []) dX10_task_238 mf_X10_copy qs164 lk_X10_658 ly_582 rfl (p_X10_copy (f := 1) (Nat.le_refl _) _ _ _ _ h) (by omega) rfl rfl (Nat.le_of_ble_eq_true rfl) (by decide) rfl (fun _ => rfl) (fun r9 m11 h => ?_) (fun _ h => h)
    refine b_aload_n dX10_task_241 rfl ?_
    refine b_iload dX10_task_242 rfl ?_
    refine b_sipush dX10_task_244 (by decide) ?_
    refine b_cVv (as := [vI s0, vI 882]) (st := []) dX10_task_247 mf_X10_clear qs162 lk_X10_685 ly_582 rfl (p_X10_clear (f := 2) (Nat.le_refl _) _ _ _ h) (by omega) rfl rfl (Nat.le_of_ble_eq_true rfl) (by decide) rfl (fun _ => rfl) (fun r10 m12 h => ?_) (fun _ h => h)
    refine b_aload_n dX10_task_250 rfl ?_
    refine b_iload dX10_task_251 rfl ?_
    refine b_iload dX10_task_253 rfl ?_
    refine b_ldcw (1593000) dX10_task_255 q2347 (by decide) ?_
    refine b_aload_n dX10_task_258 rfl ?_
    refine b_getR dX10_task_259 fk_X10_130 ly_582 gg_582_24 ?_
    refine b_iload_n dX10_task_262 rfl ?_
    obtain ⟨g8, h⟩ := h
    refine b_iald dX10_task_263 ly_598 g8 ?_
    refine b_aload_n dX10_task_264 rfl ?_
    refine b_getR dX10_task_265 fk_X10_133 ly_582 gg_582_25 ?_
    refine b_iload_n dX10_task_268 rfl ?_
    refine b_iald dX10_task_269 ly_599 g8 ?_
    refine b_aload_n dX10_task_270 rfl ?_
    refine b_getR dX10_task_271 fk_X10_136 ly_582 gg_582_26 ?_
    refine b_iload_n dX10_task_274 rfl ?_
    refine b_iald dX10_task_275 ly_600 g8 ?_
    refine b_iconst dX10_task_276 ?_
    refine b_cVv (as := [vI s0, vI s0, vI 1593000, vI (m12 598 x2), vI (m12 599 x2), vI (m12 600 x2), vI 1]) (st := []) dX10_task_277 mf_X10_addValues qs186 lk_X10_751 ly_582 rfl (p_X10_addValues (f := 5) (Nat.le_refl _) _ _ _ _ _ _ _ _ h) (by omega) rfl rfl (Nat.le_of_ble_eq_true rfl) (by decide) rfl (fun _ => rfl) (fun r11 m13 h => ?_) (fun _ h => h)
    refine b_goto 396 dX10_task_280 (by decide) ?_
    exact b_vret dX10_task_396 rfl h
  have h := ifF c8 h
  by_cases c9 : x1 = 7
  · have h := ifT c9 h
    refine b_tswIn 283 dX10_task_23 g1 (by omega) (by omega) (by rw [c9]; rfl) (by decide) ?_
    refine b_aload_n dX10_task_283 rfl ?_
    refine b_iload_n dX10_task_284 rfl ?_
    refine b_iload_n dX10_task_285 rfl ?_
    refine b_iload dX10_task_286 rfl ?_
    refine b_iload dX10_task_288 rfl ?_
    refine b_cVv (as := [vI x2, vI x3, vI x4, vI x5]) (st := []) dX10_task_290 mf_X10_evalEntry qs193 lk_X10_755 ly_582 rfl (p_X10_evalEntry (f := 4) (Nat.le_refl _) _ _ _ _ _ h) (by omega) rfl rfl (Nat.le_of_ble_eq_true rfl) (by decide) rfl (fun _ => rfl) (fun r12 m14 h => ?_) (fun _ h => h)
    refine b_goto 396 dX10_task_293 (by decide) ?_
    exact b_vret dX10_task_396 rfl h
  have h := ifF c9 h
  by_cases c10 : x1 = 8
  · have h := ifT c10 h
    refine b_tswIn 296 dX10_task_23 g1 (by omega) (by omega) (by rw [c10]; rfl) (by decide) ?_
    refine b_aload_n dX10_task_296 rfl ?_
    refine b_aload_n dX10_task_297 rfl ?_
    refine b_getR dX10_task_298 fk_X10_127 ly_582 gg_582_23 ?_
    refine b_iload_n dX10_task_301 rfl ?_
    obtain ⟨g9, h⟩ := h
    refine b_iald dX10_task_302 ly_597 g9 ?_
    refine b_iload dX10_task_303 rfl ?_
    refine b_aload_n dX10_task_305 rfl ?_
    refine b_getR dX10_task_306 fk_X10_139 ly_582 gg_582_27 ?_
    refine b_iload_n dX10_task_309 rfl ?_
    refine b_iald dX10_task_310 ly_601 g9 ?_
    refine b_aload_n dX10_task_311 rfl ?_
    refine b_getR dX10_task_312 fk_X10_142 ly_582 gg_582_28 ?_
    refine b_iload_n dX10_task_315 rfl ?_
    refine b_iald dX10_task_316 ly_602 g9 ?_
    refine b_aload_n dX10_task_317 rfl ?_
    refine b_getR dX10_task_318 fk_X10_145 ly_582 gg_582_29 ?_
    refine b_iload_n dX10_task_321 rfl ?_
    refine b_iald dX10_task_322 ly_603 g9 ?_
    refine b_cVi (as := [vI (m 597 x2), vI x4, vI (m 601 x2), vI (m 602 x2), vI (m 603 x2)]) (st := []) dX10_task_323 mf_X10_instance qs137 lk_X10_538 ly_582 rfl (p_X10_instance (f := 1) (Nat.le_refl _) _ _ _ _ _ _ h) (by omega) rfl rfl (Nat.le_of_ble_eq_true rfl) (by decide) rfl (fun _ => rfl) (fun r13 m15 h => ?_) (fun _ h => h)
    refine b_istore (ls' := [vR 582, vI x1, vI x2, vI x3, vI x4, vI x5, vI s0, vI r13]) dX10_task_326 (Nat.le_of_ble_eq_true rfl) rfl ?_
    refine b_aload_n dX10_task_328 rfl ?_
    refine b_aload_n dX10_task_329 rfl ?_
    refine b_getR dX10_task_330 fk_X10_109 ly_582 gg_582_17 ?_
    refine b_iload_n dX10_task_333 rfl ?_
    obtain ⟨g10, h⟩ := h
    refine b_iald dX10_task_334 ly_591 g10 ?_
    refine b_aload_n dX10_task_335 rfl ?_
    refine b_getI dX10_task_336 fk_X10_542 ly_582 ?_
    refine b_aload_n dX10_task_339 rfl ?_
    refine b_getI dX10_task_340 fk_X10_545 ly_582 ?_
    refine b_aload_n dX10_task_343 rfl ?_
    refine b_getI dX10_task_344 fk_X10_548 ly_582 ?_
    refine b_cVv (as := [vI (m15 591 x3), vI (m15 582 70), vI (m15 582 71), vI (m15 582 72)]) (st := []) dX10_task_347 mf_X10_goLatest qs180 lk_X10_747 ly_582 rfl (p_X10_goLatest (f := 3) (Nat.le_refl _) _ _ _ _ _ h) (by omega) rfl rfl (Nat.le_of_ble_eq_true rfl) (by decide) rfl (fun _ => rfl) (fun r14 m16 h => ?_) (fun _ h => h)
    refine b_aload_n dX10_task_350 rfl ?_
    refine b_getI dX10_task_351 fk_X10_601 ly_582 ?_
    obtain ⟨g11, h⟩ := h
    refine b_if_ne 396 dX10_task_354 g11 (by decide) (fun c11 => ?_) (fun c11 => ?_)
    · have h := ifF c11 h
      exact b_vret dX10_task_396 rfl h
    · have h := ifT (Decidable.of_not_not c11) h
      refine b_aload_n dX10_task_357 rfl ?_
      refine b_iload_n dX10_task_358 rfl ?_
      refine b_aload_n dX10_task_359 rfl ?_
      refine b_getR dX10_task_360 fk_X10_118 ly_582 gg_582_20 ?_
      refine b_iload_n dX10_task_363 rfl ?_
      refine b_iald dX10_task_364 ly_594 g10 ?_
      refine b_iload dX10_task_365 rfl ?_
      refine b_iconst dX10_task_367 ?_
      refine b_iadd dX10_task_368 ?_
      refine b_cVv (as := [vI x2, vI (m16 594 x3), vI (x4 + 1)]) (st := []) dX10_task_369 mf_X10_arguments qs165 lk_X10_758 ly_582 rfl (p_X10_arguments (f := 326) (Nat.le_refl _) _ _ _ _ h) (by omega) rfl rfl (Nat.le_of_ble_eq_true rfl) (by decide) rfl (fun _ => rfl) (fun r15 m17 h => ?_) (fun _ h => h)
      refine b_goto 396 dX10_task_372 (by decide) ?_
      exact b_vret dX10_task_396 rfl h
  have h := ifF c10 h
  by_cases c12 : x1 = 9
  · have h := ifT c12 h
    refine b_tswIn 375 dX10_task_23 g1 (by omega) (by omega) (by rw [c12]; rfl) (by decide) ?_
    refine b_aload_n dX10_task_375 rfl ?_
    refine b_iload_n dX10_task_376 rfl ?_
    refine b_cVv (as := [vI x3]) (st := []) dX10_task_377 mf_X10_leaveCall qs194 lk_X10_761 ly_582 rfl (p_X10_leaveCall (f := 326) (Nat.le_refl _) _ _ h) (by omega) rfl rfl (Nat.le_of_ble_eq_true rfl) (by decide) rfl (fun _ => rfl) (fun r16 m18 h => ?_) (fun _ h => h)
    refine b_goto 396 dX10_task_380 (by decide) ?_
    exact b_vret dX10_task_396 rfl h
  have h := ifF c12 h
  by_cases c13 : x1 = 10
  · have h := ifT c13 h
    refine b_tswIn 383 dX10_task_23 g1 (by omega) (by omega) (by rw [c13]; rfl) (by decide) ?_
    refine b_aload_n dX10_task_383 rfl ?_
    refine b_iload_n dX10_task_384 rfl ?_
    refine b_cVv (as := [vI x2]) (st := []) dX10_task_385 mf_X10_evalFirst qs195 lk_X10_764 ly_582 rfl (p_X10_evalFirst (f := 10) (Nat.le_refl _) _ _ h) (by omega) rfl rfl (Nat.le_of_ble_eq_true rfl) (by decide) rfl (fun _ => rfl) (fun r17 m19 h => ?_) (fun _ h => h)
    refine b_goto 396 dX10_task_388 (by decide) ?_
    exact b_vret dX10_task_396 rfl h
  have h := ifF c13 h
  refine b_tswOut 391 dX10_task_23 g1 (by omega) (by decide) ?_
  refine b_aload_n dX10_task_391 rfl ?_
  refine b_iload_n dX10_task_392 rfl ?_
  refine b_cVv (as := [vI x2]) (st := []) dX10_task_393 mf_X10_evalSecond qs214 lk_X10_767 ly_582 rfl (p_X10_evalSecond (f := 10) (Nat.le_refl _) _ _ h) (by omega) rfl rfl (Nat.le_of_ble_eq_true rfl) (by decide) rfl (fun _ => rfl) (fun r18 m20 h => ?_) (fun _ h => h)
  exact b_vret dX10_task_396 rfl h
theorem p_X10_task {f : Nat} {Q : Int → MM → Prop} {T : MM → Prop} (hf : 328 ≤ f) (x1 : Int) (x2 : Int) (x3 : Int) (x4 : Int) (x5 : Int) (m : MM) (h : P_X10_task x1 x2 x3 x4 x5 m Q) : CC f M_X10_task [vR 582, vI x1, vI x2, vI x3, vI x4, vI x5] m Q T := by
  refine CC.of (plainFor_of_name (by decide)) (Nat.le_of_ble_eq_true rfl) (ls := [vR 582, vI x1, vI x2, vI x3, vI x4, vI x5, vU, vU]) rfl ?_
  have h : (RI (m 582 86)) ∧ (if (m 582 86) ≤ 0 then P_X10_task_20 Q x1 x2 x3 x4 x5 0 m else P_X10_valueAt ((m 582 86) - 1) m (fun r1 m1 => P_X10_task_20 Q x1 x2 x3 x4 x5 r1 m1)) := h
  refine b_aload_n dX10_task_0 rfl ?_
  refine b_getI dX10_task_1 fk_X10_718 ly_582 ?_
  obtain ⟨g1, h⟩ := h
  refine b_if_le 19 dX10_task_4 g1 (by decide) (fun c1 => ?_) (fun c1 => ?_)
  · have h := ifT c1 h
    refine b_iconst dX10_task_19 ?_
    exact pl_X10_task_20 hf _ _ _ _ _ _ _ h
  · have h := ifF c1 h
    refine b_aload_n dX10_task_7 rfl ?_
    refine b_getI dX10_task_8 fk_X10_718 ly_582 ?_
    refine b_iconst dX10_task_11 ?_
    refine b_isub dX10_task_12 ?_
    refine b_cSi (as := [vI ((m 582 86) - 1)]) (st := []) dX10_task_13 mf_X10_valueAt lk_X10_721 (p_X10_valueAt (f := 1) (Nat.le_refl _) _ _ h) (by omega) rfl rfl (Nat.le_of_ble_eq_true rfl) (by decide) rfl (fun _ => rfl) (fun r1 m1 h => ?_) (fun _ h => h)
    refine b_goto 20 dX10_task_16 (by decide) ?_
    exact pl_X10_task_20 hf _ _ _ _ _ _ _ h
theorem dX10_eval_0 : decode cX10_eval 0 = .ok (.aload_n 0, 1) := by decide +kernel
theorem dX10_eval_1 : decode cX10_eval 1 = .ok (.iconst 0, 1) := by decide +kernel
theorem dX10_eval_2 : decode cX10_eval 2 = .ok (.putfield 727, 3) := by decide +kernel
theorem dX10_eval_5 : decode cX10_eval 5 = .ok (.aload_n 0, 1) := by decide +kernel
theorem dX10_eval_6 : decode cX10_eval 6 = .ok (.iload_n 1, 1) := by decide +kernel
theorem dX10_eval_7 : decode cX10_eval 7 = .ok (.invokevirtual 733, 3) := by decide +kernel
theorem dX10_eval_10 : decode cX10_eval 10 = .ok (.aload_n 0, 1) := by decide +kernel
theorem dX10_eval_11 : decode cX10_eval 11 = .ok (.getfield 727, 3) := by decide +kernel
theorem dX10_eval_14 : decode cX10_eval 14 = .ok (.ifCond .le 72, 3) := by decide +kernel
theorem dX10_eval_17 : decode cX10_eval 17 = .ok (.aload_n 0, 1) := by decide +kernel
theorem dX10_eval_18 : decode cX10_eval 18 = .ok (.getfield 601, 3) := by decide +kernel
theorem dX10_eval_21 : decode cX10_eval 21 = .ok (.ifCond .ne 65, 3) := by decide +kernel
theorem dX10_eval_24 : decode cX10_eval 24 = .ok (.aload_n 0, 1) := by decide +kernel
theorem dX10_eval_25 : decode cX10_eval 25 = .ok (.dup, 1) := by decide +kernel
theorem dX10_eval_26 : decode cX10_eval 26 = .ok (.getfield 727, 3) := by decide +kernel
theorem dX10_eval_29 : decode cX10_eval 29 = .ok (.iconst 1, 1) := by decide +kernel
theorem dX10_eval_30 : decode cX10_eval 30 = .ok (.isub, 1) := by decide +kernel
theorem dX10_eval_31 : decode cX10_eval 31 = .ok (.putfield 727, 3) := by decide +kernel
theorem dX10_eval_34 : decode cX10_eval 34 = .ok (.aload_n 0, 1) := by decide +kernel
theorem dX10_eval_35 : decode cX10_eval 35 = .ok (.aload_n 0, 1) := by decide +kernel
theorem dX10_eval_36 : decode cX10_eval 36 = .ok (.getfield 256, 3) := by decide +kernel
theorem dX10_eval_39 : decode cX10_eval 39 = .ok (.aload_n 0, 1) := by decide +kernel
theorem dX10_eval_40 : decode cX10_eval 40 = .ok (.getfield 727, 3) := by decide +kernel
theorem dX10_eval_43 : decode cX10_eval 43 = .ok (.iaload, 1) := by decide +kernel
theorem dX10_eval_44 : decode cX10_eval 44 = .ok (.aload_n 0, 1) := by decide +kernel
theorem dX10_eval_45 : decode cX10_eval 45 = .ok (.getfield 259, 3) := by decide +kernel
theorem dX10_eval_48 : decode cX10_eval 48 = .ok (.aload_n 0, 1) := by decide +kernel
theorem dX10_eval_49 : decode cX10_eval 49 = .ok (.getfield 727, 3) := by decide +kernel
theorem dX10_eval_52 : decode cX10_eval 52 = .ok (.iaload, 1) := by decide +kernel
theorem dX10_eval_53 : decode cX10_eval 53 = .ok (.aload_n 0, 1) := by decide +kernel
theorem dX10_eval_54 : decode cX10_eval 54 = .ok (.getfield 262, 3) := by decide +kernel
theorem dX10_eval_57 : decode cX10_eval 57 = .ok (.aload_n 0, 1) := by decide +kernel
theorem dX10_eval_58 : decode cX10_eval 58 = .ok (.getfield 727, 3) := by decide +kernel
theorem dX10_eval_61 : decode cX10_eval 61 = .ok (.iaload, 1) := by decide +kernel
theorem dX10_eval_62 : decode cX10_eval 62 = .ok (.aload_n 0, 1) := by decide +kernel
theorem dX10_eval_63 : decode cX10_eval 63 = .ok (.getfield 265, 3) := by decide +kernel
theorem dX10_eval_66 : decode cX10_eval 66 = .ok (.aload_n 0, 1) := by decide +kernel
theorem dX10_eval_67 : decode cX10_eval 67 = .ok (.getfield 727, 3) := by decide +kernel
theorem dX10_eval_70 : decode cX10_eval 70 = .ok (.iaload, 1) := by decide +kernel
theorem dX10_eval_71 : decode cX10_eval 71 = .ok (.aload_n 0, 1) := by decide +kernel
theorem dX10_eval_72 : decode cX10_eval 72 = .ok (.getfield 268, 3) := by decide +kernel
theorem dX10_eval_75 : decode cX10_eval 75 = .ok (.aload_n 0, 1) := by decide +kernel
theorem dX10_eval_76 : decode cX10_eval 76 = .ok (.getfield 727, 3) := by decide +kernel
theorem dX10_eval_79 : decode cX10_eval 79 = .ok (.iaload, 1) := by decide +kernel
theorem dX10_eval_80 : decode cX10_eval 80 = .ok (.invokevirtual 735, 3) := by decide +kernel
theorem dX10_eval_83 : decode cX10_eval 83 = .ok (.goto (-73), 3) := by decide +kernel
theorem dX10_eval_86 : decode cX10_eval 86 = .ok (.return_, 1) := by decide +kernel
/-! AlgebraHouseModel.eval(I)V -/
def P_X10_eval_10 (Q : Int → MM → Prop) : Nat → MM → Prop
  | 0, _ => False
  | n + 1, m => (RI (m 582 99)) ∧ (if (m 582 99) ≤ 0 then Q 0 m else (RI (m 582 84)) ∧ (if (m 582 84) = 0 then ∀ m1 : MM, m1 = up m 582 99 ((m 582 99) - 1) → (0 ≤ (m1 582 99) ∧ (m1 582 99) < 12000) ∧ P_X10_task (m1 636 (m1 582 99)) (m1 637 (m1 582 99)) (m1 638 (m1 582 99)) (m1 639 (m1 582 99)) (m1 640 (m1 582 99)) m1 (fun r1 m2 => P_X10_eval_10 Q n m2) else Q 0 m))
def P_X10_eval (x1 : Int) (m : MM) (Q : Int → MM → Prop) : Prop := ∀ m1 : MM, m1 = up m 582 99 0 → P_X10_later x1 m1 (fun r1 m2 => ∃ nn, P_X10_eval_10 Q nn m2)
theorem pl_X10_eval_10 {f : Nat} {Q : Int → MM → Prop} {T : MM → Prop} (hf : 329 ≤ f) : ∀ (n : Nat) (m : MM), P_X10_eval_10 Q n m → B f M_X10_eval 10 [vR 582, vU] [] m Q T := by
  intro n
  induction n with
  | zero => intro m h; exact h.elim
  | succ n ih =>
    intro m h
    have h : (RI (m 582 99)) ∧ (if (m 582 99) ≤ 0 then Q 0 m else (RI (m 582 84)) ∧ (if (m 582 84) = 0 then ∀ m1 : MM, m1 = up m 582 99 ((m 582 99) - 1) → (0 ≤ (m1 582 99) ∧ (m1 582 99) < 12000) ∧ P_X10_task (m1 636 (m1 582 99)) (m1 637 (m1 582 99)) (m1 638 (m1 582 99)) (m1 639 (m1 582 99)) (m1 640 (m1 582 99)) m1 (fun r1 m2 => P_X10_eval_10 Q n m2) else Q 0 m)) := h
    refine b_aload_n dX10_eval_10 rfl ?_
    refine b_getI dX10_eval_11 fk_X10_727 ly_582 ?_
    obtain ⟨g1, h⟩ := h
    refine b_if_le 86 dX10_eval_14 g1 (by decide) (fun c1 => ?_) (fun c1 => ?_)
    · have h := ifT c1 h
      exact b_vret dX10_eval_86 rfl h
    · have h := ifF c1 h
      refine b_aload_n dX10_eval_17 rfl ?_
      refine b_getI dX10_eval_18 fk_X10_601 ly_582 ?_
      obtain ⟨g2, h⟩ := h
      refine b_if_ne 86 dX10_eval_21 g2 (by decide) (fun c2 => ?_) (fun c2 => ?_)
      · have h := ifF c2 h
        exact b_vret dX10_eval_86 rfl h
      · have h := ifT (Decidable.of_not_not c2) h
        refine b_aload_n dX10_eval_24 rfl ?_
        refine b_dup dX10_eval_25 rfl ?_
        refine b_getI dX10_eval_26 fk_X10_727 ly_582 ?_
        refine b_iconst dX10_eval_29 ?_
        refine b_isub dX10_eval_30 ?_
        refine b_putI dX10_eval_31 fk_X10_727 ly_582 (fun m1 em1 => ?_)
        have h := h m1 em1
        refine b_aload_n dX10_eval_34 rfl ?_
        refine b_aload_n dX10_eval_35 rfl ?_
        refine b_getR dX10_eval_36 fk_X10_256 ly_582 gg_582_94 ?_
        refine b_aload_n dX10_eval_39 rfl ?_
        refine b_getI dX10_eval_40 fk_X10_727 ly_582 ?_
        obtain ⟨g3, h⟩ := h
        refine b_iald dX10_eval_43 ly_636 g3 ?_
        refine b_aload_n dX10_eval_44 rfl ?_
        refine b_getR dX10_eval_45 fk_X10_259 ly_582 gg_582_95 ?_
        refine b_aload_n dX10_eval_48 rfl ?_
        refine b_getI dX10_eval_49 fk_X10_727 ly_582 ?_
        refine b_iald dX10_eval_52 ly_637 g3 ?_
        refine b_aload_n dX10_eval_53 rfl ?_
        refine b_getR dX10_eval_54 fk_X10_262 ly_582 gg_582_96 ?_
        refine b_aload_n dX10_eval_57 rfl ?_
        refine b_getI dX10_eval_58 fk_X10_727 ly_582 ?_
        refine b_iald dX10_eval_61 ly_638 g3 ?_
        refine b_aload_n dX10_eval_62 rfl ?_
        refine b_getR dX10_eval_63 fk_X10_265 ly_582 gg_582_97 ?_
        refine b_aload_n dX10_eval_66 rfl ?_
        refine b_getI dX10_eval_67 fk_X10_727 ly_582 ?_
        refine b_iald dX10_eval_70 ly_639 g3 ?_
        refine b_aload_n dX10_eval_71 rfl ?_
        refine b_getR dX10_eval_72 fk_X10_268 ly_582 gg_582_98 ?_
        refine b_aload_n dX10_eval_75 rfl ?_
        refine b_getI dX10_eval_76 fk_X10_727 ly_582 ?_
        refine b_iald dX10_eval_79 ly_640 g3 ?_
        refine b_cVv (as := [vI (m1 636 (m1 582 99)), vI (m1 637 (m1 582 99)), vI (m1 638 (m1 582 99)), vI (m1 639 (m1 582 99)), vI (m1 640 (m1 582 99))]) (st := []) dX10_eval_80 mf_X10_task qs156 lk_X10_735 ly_582 rfl (p_X10_task (f := 328) (Nat.le_refl _) _ _ _ _ _ _ h) (by omega) rfl rfl (Nat.le_of_ble_eq_true rfl) (by decide) rfl (fun _ => rfl) (fun r1 m2 h => ?_) (fun _ h => h)
        refine b_goto 10 dX10_eval_83 (by decide) ?_
        exact ih _ h
theorem p_X10_eval {f : Nat} {Q : Int → MM → Prop} {T : MM → Prop} (hf : 329 ≤ f) (x1 : Int) (m : MM) (h : P_X10_eval x1 m Q) : CC f M_X10_eval [vR 582, vI x1] m Q T := by
  refine CC.of (plainFor_of_name (by decide)) (Nat.le_of_ble_eq_true rfl) (ls := [vR 582, vI x1]) rfl ?_
  have h : ∀ m1 : MM, m1 = up m 582 99 0 → P_X10_later x1 m1 (fun r1 m2 => ∃ nn, P_X10_eval_10 Q nn m2) := h
  refine b_aload_n dX10_eval_0 rfl ?_
  refine b_iconst dX10_eval_1 ?_
  refine b_putI dX10_eval_2 fk_X10_727 ly_582 (fun m1 em1 => ?_)
  have h := h m1 em1
  refine b_aload_n dX10_eval_5 rfl ?_
  refine b_iload_n dX10_eval_6 rfl ?_
  refine b_cVv (as := [vI x1]) (st := []) dX10_eval_7 mf_X10_later qs154 lk_X10_733 ly_582 rfl (p_X10_later (f := 2) (Nat.le_refl _) _ _ h) (by omega) rfl rfl (Nat.le_of_ble_eq_true rfl) (by decide) rfl (fun _ => rfl) (fun r1 m2 h => ?_) (fun _ h => h)
  refine b_fgt [true, false] (ls' := [vR 582, vU]) rfl rfl ?_
  obtain ⟨nn, h⟩ := h
  exact pl_X10_eval_10 hf nn _ h
theorem dX10_lay_0 : decode cX10_lay 0 = .ok (.bipush 24, 2) := by decide +kernel
theorem dX10_lay_2 : decode cX10_lay 2 = .ok (.istore_n 2, 1) := by decide +kernel
theorem dX10_lay_3 : decode cX10_lay 3 = .ok (.iload_n 2, 1) := by decide +kernel
theorem dX10_lay_4 : decode cX10_lay 4 = .ok (.ifCond .lt 35, 3) := by decide +kernel
theorem dX10_lay_7 : decode cX10_lay 7 = .ok (.aload_n 0, 1) := by decide +kernel
theorem dX10_lay_8 : decode cX10_lay 8 = .ok (.getfield 86, 3) := by decide +kernel
theorem dX10_lay_11 : decode cX10_lay 11 = .ok (.aload_n 0, 1) := by decide +kernel
theorem dX10_lay_12 : decode cX10_lay 12 = .ok (.getfield 310, 3) := by decide +kernel
theorem dX10_lay_15 : decode cX10_lay 15 = .ok (.iload_n 1, 1) := by decide +kernel
theorem dX10_lay_16 : decode cX10_lay 16 = .ok (.iload_n 2, 1) := by decide +kernel
theorem dX10_lay_17 : decode cX10_lay 17 = .ok (.ishr, 1) := by decide +kernel
theorem dX10_lay_18 : decode cX10_lay 18 = .ok (.sipush 255, 3) := by decide +kernel
theorem dX10_lay_21 : decode cX10_lay 21 = .ok (.iand, 1) := by decide +kernel
theorem dX10_lay_22 : decode cX10_lay 22 = .ok (.iastore, 1) := by decide +kernel
theorem dX10_lay_23 : decode cX10_lay 23 = .ok (.aload_n 0, 1) := by decide +kernel
theorem dX10_lay_24 : decode cX10_lay 24 = .ok (.dup, 1) := by decide +kernel
theorem dX10_lay_25 : decode cX10_lay 25 = .ok (.getfield 310, 3) := by decide +kernel
theorem dX10_lay_28 : decode cX10_lay 28 = .ok (.iconst 1, 1) := by decide +kernel
theorem dX10_lay_29 : decode cX10_lay 29 = .ok (.iadd, 1) := by decide +kernel
theorem dX10_lay_30 : decode cX10_lay 30 = .ok (.putfield 310, 3) := by decide +kernel
theorem dX10_lay_33 : decode cX10_lay 33 = .ok (.iinc 2 (-8), 3) := by decide +kernel
theorem dX10_lay_36 : decode cX10_lay 36 = .ok (.goto (-33), 3) := by decide +kernel
theorem dX10_lay_39 : decode cX10_lay 39 = .ok (.return_, 1) := by decide +kernel
/-! AlgebraHouseModel.lay(I)V -/
def P_X10_lay_3 (Q : Int → MM → Prop) : Nat → Int → Int → MM → Prop
  | 0, _, _, _ => False
  | n + 1, x1, x2, m => (RI x2) ∧ (if x2 < 0 then Q 0 m else (0 ≤ (m 582 4) ∧ (m 582 4) < 400) ∧ ∀ m1 : MM, m1 = up m 585 (m 582 4) (iAnd (iShr x1 x2) 255) → ∀ m2 : MM, m2 = up m1 582 4 ((m1 582 4) + 1) → P_X10_lay_3 Q n x1 (x2 + (-8)) m2)
def P_X10_lay (x1 : Int) (m : MM) (Q : Int → MM → Prop) : Prop := ∃ nn, P_X10_lay_3 Q nn x1 24 m
theorem pl_X10_lay_3 {f : Nat} {Q : Int → MM → Prop} {T : MM → Prop} (hf : 1 ≤ f) : ∀ (n : Nat) (x1 : Int) (x2 : Int) (m : MM), P_X10_lay_3 Q n x1 x2 m → B f M_X10_lay 3 [vR 582, vI x1, vI x2] [] m Q T := by
  intro n
  induction n with
  | zero => intro x1 x2 m h; exact h.elim
  | succ n ih =>
    intro x1 x2 m h
    have h : (RI x2) ∧ (if x2 < 0 then Q 0 m else (0 ≤ (m 582 4) ∧ (m 582 4) < 400) ∧ ∀ m1 : MM, m1 = up m 585 (m 582 4) (iAnd (iShr x1 x2) 255) → ∀ m2 : MM, m2 = up m1 582 4 ((m1 582 4) + 1) → P_X10_lay_3 Q n x1 (x2 + (-8)) m2) := h
    refine b_iload_n dX10_lay_3 rfl ?_
    obtain ⟨g1, h⟩ := h
    refine b_if_lt 39 dX10_lay_4 g1 (by decide) (fun c1 => ?_) (fun c1 => ?_)
    · have h := ifT c1 h
      exact b_vret dX10_lay_39 rfl h
    · have h := ifF c1 h
      refine b_aload_n dX10_lay_7 rfl ?_
      refine b_getR dX10_lay_8 fk_X10_86 ly_582 gg_582_2 ?_
      refine b_aload_n dX10_lay_11 rfl ?_
      refine b_getI dX10_lay_12 fk_X10_310 ly_582 ?_
      refine b_iload_n dX10_lay_15 rfl ?_
      refine b_iload_n dX10_lay_16 rfl ?_
      refine b_ishr dX10_lay_17 ?_
      refine b_sipush dX10_lay_18 (by decide) ?_
      refine b_iand dX10_lay_21 ?_
      obtain ⟨g2, h⟩ := h
      refine b_iast dX10_lay_22 ly_585 g2 (fun m1 em1 => ?_)
      have h := h m1 em1
      refine b_aload_n dX10_lay_23 rfl ?_
      refine b_dup dX10_lay_24 rfl ?_
      refine b_getI dX10_lay_25 fk_X10_310 ly_582 ?_
      refine b_iconst dX10_lay_28 ?_
      refine b_iadd dX10_lay_29 ?_
      refine b_putI dX10_lay_30 fk_X10_310 ly_582 (fun m2 em2 => ?_)
      have h := h m2 em2
      refine b_iinc (ls' := [vR 582, vI x1, vI (x2 + (-8))]) dX10_lay_33 rfl rfl ?_
      refine b_goto 3 dX10_lay_36 (by decide) ?_
      exact ih _ _ _ h
theorem p_X10_lay {f : Nat} {Q : Int → MM → Prop} {T : MM → Prop} (hf : 1 ≤ f) (x1 : Int) (m : MM) (h : P_X10_lay x1 m Q) : CC f M_X10_lay [vR 582, vI x1] m Q T := by
  refine CC.of (plainFor_of_name (by decide)) (Nat.le_of_ble_eq_true rfl) (ls := [vR 582, vI x1, vU]) rfl ?_
  have h : ∃ nn, P_X10_lay_3 Q nn x1 24 m := h
  refine b_bipush dX10_lay_0 (by decide) ?_
  refine b_istore_n (ls' := [vR 582, vI x1, vI 24]) dX10_lay_2 (Nat.le_of_ble_eq_true rfl) rfl ?_
  obtain ⟨nn, h⟩ := h
  exact pl_X10_lay_3 hf nn _ _ _ h
theorem dX10_feed_0 : decode cX10_feed 0 = .ok (.aload_n 0, 1) := by decide +kernel
theorem dX10_feed_1 : decode cX10_feed 1 = .ok (.getfield 310, 3) := by decide +kernel
theorem dX10_feed_4 : decode cX10_feed 4 = .ok (.bipush 20, 2) := by decide +kernel
theorem dX10_feed_6 : decode cX10_feed 6 = .ok (.iadd, 1) := by decide +kernel
theorem dX10_feed_7 : decode cX10_feed 7 = .ok (.sipush 400, 3) := by decide +kernel
theorem dX10_feed_10 : decode cX10_feed 10 = .ok (.if_icmp .le 5, 3) := by decide +kernel
theorem dX10_feed_13 : decode cX10_feed 13 = .ok (.iconst (-1), 1) := by decide +kernel
theorem dX10_feed_14 : decode cX10_feed 14 = .ok (.ireturn, 1) := by decide +kernel
theorem dX10_feed_15 : decode cX10_feed 15 = .ok (.aload_n 0, 1) := by decide +kernel
theorem dX10_feed_16 : decode cX10_feed 16 = .ok (.iload_n 1, 1) := by decide +kernel
theorem dX10_feed_17 : decode cX10_feed 17 = .ok (.invokevirtual 313, 3) := by decide +kernel
theorem dX10_feed_20 : decode cX10_feed 20 = .ok (.aload_n 0, 1) := by decide +kernel
theorem dX10_feed_21 : decode cX10_feed 21 = .ok (.iload_n 2, 1) := by decide +kernel
theorem dX10_feed_22 : decode cX10_feed 22 = .ok (.invokevirtual 313, 3) := by decide +kernel
theorem dX10_feed_25 : decode cX10_feed 25 = .ok (.aload_n 0, 1) := by decide +kernel
theorem dX10_feed_26 : decode cX10_feed 26 = .ok (.iload_n 3, 1) := by decide +kernel
theorem dX10_feed_27 : decode cX10_feed 27 = .ok (.invokevirtual 313, 3) := by decide +kernel
theorem dX10_feed_30 : decode cX10_feed 30 = .ok (.aload_n 0, 1) := by decide +kernel
theorem dX10_feed_31 : decode cX10_feed 31 = .ok (.iload 4, 2) := by decide +kernel
theorem dX10_feed_33 : decode cX10_feed 33 = .ok (.invokevirtual 313, 3) := by decide +kernel
theorem dX10_feed_36 : decode cX10_feed 36 = .ok (.aload_n 0, 1) := by decide +kernel
theorem dX10_feed_37 : decode cX10_feed 37 = .ok (.iload 5, 2) := by decide +kernel
theorem dX10_feed_39 : decode cX10_feed 39 = .ok (.invokevirtual 313, 3) := by decide +kernel
theorem dX10_feed_42 : decode cX10_feed 42 = .ok (.aload_n 0, 1) := by decide +kernel
theorem dX10_feed_43 : decode cX10_feed 43 = .ok (.getfield 310, 3) := by decide +kernel
theorem dX10_feed_46 : decode cX10_feed 46 = .ok (.ireturn, 1) := by decide +kernel
/-! AlgebraHouseModel.feed(IIIII)I -/
def P_X10_feed (x1 : Int) (x2 : Int) (x3 : Int) (x4 : Int) (x5 : Int) (m : MM) (Q : Int → MM → Prop) : Prop := (RI ((m 582 4) + 20)) ∧ (if ((m 582 4) + 20) ≤ 400 then P_X10_lay x1 m (fun r1 m1 => P_X10_lay x2 m1 (fun r2 m2 => P_X10_lay x3 m2 (fun r3 m3 => P_X10_lay x4 m3 (fun r4 m4 => P_X10_lay x5 m4 (fun r5 m5 => Q (m5 582 4) m5))))) else Q (-1) m)
theorem p_X10_feed {f : Nat} {Q : Int → MM → Prop} {T : MM → Prop} (hf : 2 ≤ f) (x1 : Int) (x2 : Int) (x3 : Int) (x4 : Int) (x5 : Int) (m : MM) (h : P_X10_feed x1 x2 x3 x4 x5 m Q) : CC f M_X10_feed [vR 582, vI x1, vI x2, vI x3, vI x4, vI x5] m Q T := by
  refine CC.of (plainFor_of_name (by decide)) (Nat.le_of_ble_eq_true rfl) (ls := [vR 582, vI x1, vI x2, vI x3, vI x4, vI x5]) rfl ?_
  have h : (RI ((m 582 4) + 20)) ∧ (if ((m 582 4) + 20) ≤ 400 then P_X10_lay x1 m (fun r1 m1 => P_X10_lay x2 m1 (fun r2 m2 => P_X10_lay x3 m2 (fun r3 m3 => P_X10_lay x4 m3 (fun r4 m4 => P_X10_lay x5 m4 (fun r5 m5 => Q (m5 582 4) m5))))) else Q (-1) m) := h
  refine b_aload_n dX10_feed_0 rfl ?_
  refine b_getI dX10_feed_1 fk_X10_310 ly_582 ?_
  refine b_bipush dX10_feed_4 (by decide) ?_
  refine b_iadd dX10_feed_6 ?_
  refine b_sipush dX10_feed_7 (by decide) ?_
  obtain ⟨g1, h⟩ := h
  refine b_icmp_le 15 dX10_feed_10 g1 (by decide) (by decide) (fun c1 => ?_) (fun c1 => ?_)
  · have h := ifT c1 h
    refine b_aload_n dX10_feed_15 rfl ?_
    refine b_iload_n dX10_feed_16 rfl ?_
    refine b_cVv (as := [vI x1]) (st := []) dX10_feed_17 mf_X10_lay qs93 lk_X10_313 ly_582 rfl (p_X10_lay (f := 1) (Nat.le_refl _) _ _ h) (by omega) rfl rfl (Nat.le_of_ble_eq_true rfl) (by decide) rfl (fun _ => rfl) (fun r1 m1 h => ?_) (fun _ h => h)
    refine b_aload_n dX10_feed_20 rfl ?_
    refine b_iload_n dX10_feed_21 rfl ?_
    refine b_cVv (as := [vI x2]) (st := []) dX10_feed_22 mf_X10_lay qs93 lk_X10_313 ly_582 rfl (p_X10_lay (f := 1) (Nat.le_refl _) _ _ h) (by omega) rfl rfl (Nat.le_of_ble_eq_true rfl) (by decide) rfl (fun _ => rfl) (fun r2 m2 h => ?_) (fun _ h => h)
    refine b_aload_n dX10_feed_25 rfl ?_
    refine b_iload_n dX10_feed_26 rfl ?_
    refine b_cVv (as := [vI x3]) (st := []) dX10_feed_27 mf_X10_lay qs93 lk_X10_313 ly_582 rfl (p_X10_lay (f := 1) (Nat.le_refl _) _ _ h) (by omega) rfl rfl (Nat.le_of_ble_eq_true rfl) (by decide) rfl (fun _ => rfl) (fun r3 m3 h => ?_) (fun _ h => h)
    refine b_aload_n dX10_feed_30 rfl ?_
    refine b_iload dX10_feed_31 rfl ?_
    refine b_cVv (as := [vI x4]) (st := []) dX10_feed_33 mf_X10_lay qs93 lk_X10_313 ly_582 rfl (p_X10_lay (f := 1) (Nat.le_refl _) _ _ h) (by omega) rfl rfl (Nat.le_of_ble_eq_true rfl) (by decide) rfl (fun _ => rfl) (fun r4 m4 h => ?_) (fun _ h => h)
    refine b_aload_n dX10_feed_36 rfl ?_
    refine b_iload dX10_feed_37 rfl ?_
    refine b_cVv (as := [vI x5]) (st := []) dX10_feed_39 mf_X10_lay qs93 lk_X10_313 ly_582 rfl (p_X10_lay (f := 1) (Nat.le_refl _) _ _ h) (by omega) rfl rfl (Nat.le_of_ble_eq_true rfl) (by decide) rfl (fun _ => rfl) (fun r5 m5 h => ?_) (fun _ h => h)
    refine b_aload_n dX10_feed_42 rfl ?_
    refine b_getI dX10_feed_43 fk_X10_310 ly_582 ?_
    exact b_iret dX10_feed_46 rfl h
  · have h := ifF c1 h
    refine b_iconst dX10_feed_13 ?_
    exact b_iret dX10_feed_14 rfl h
theorem dX10_function_0 : decode cX10_function 0 = .ok (.iload_n 1, 1) := by decide +kernel
theorem dX10_function_1 : decode cX10_function 1 = .ok (.ifCond .lt 31, 3) := by decide +kernel
theorem dX10_function_4 : decode cX10_function 4 = .ok (.iload_n 1, 1) := by decide +kernel
theorem dX10_function_5 : decode cX10_function 5 = .ok (.aload_n 0, 1) := by decide +kernel
theorem dX10_function_6 : decode cX10_function 6 = .ok (.getfield 591, 3) := by decide +kernel
theorem dX10_function_9 : decode cX10_function 9 = .ok (.if_icmp .ge 23, 3) := by decide +kernel
theorem dX10_function_12 : decode cX10_function 12 = .ok (.iload_n 2, 1) := by decide +kernel
theorem dX10_function_13 : decode cX10_function 13 = .ok (.ifCond .lt 19, 3) := by decide +kernel
theorem dX10_function_16 : decode cX10_function 16 = .ok (.iload_n 2, 1) := by decide +kernel
theorem dX10_function_17 : decode cX10_function 17 = .ok (.iconst 2, 1) := by decide +kernel
theorem dX10_function_18 : decode cX10_function 18 = .ok (.iconst 5, 1) := by decide +kernel
theorem dX10_function_19 : decode cX10_function 19 = .ok (.aload_n 0, 1) := by decide +kernel
theorem dX10_function_20 : decode cX10_function 20 = .ok (.getfield 164, 3) := by decide +kernel
theorem dX10_function_23 : decode cX10_function 23 = .ok (.iload_n 1, 1) := by decide +kernel
theorem dX10_function_24 : decode cX10_function 24 = .ok (.iaload, 1) := by decide +kernel
theorem dX10_function_25 : decode cX10_function 25 = .ok (.iconst 1, 1) := by decide +kernel
theorem dX10_function_26 : decode cX10_function 26 = .ok (.iadd, 1) := by decide +kernel
theorem dX10_function_27 : decode cX10_function 27 = .ok (.imul, 1) := by decide +kernel
theorem dX10_function_28 : decode cX10_function 28 = .ok (.iadd, 1) := by decide +kernel
theorem dX10_function_29 : decode cX10_function 29 = .ok (.if_icmp .lt 5, 3) := by decide +kernel
theorem dX10_function_32 : decode cX10_function 32 = .ok (.iconst (-1), 1) := by decide +kernel
theorem dX10_function_33 : decode cX10_function 33 = .ok (.ireturn, 1) := by decide +kernel
theorem dX10_function_34 : decode cX10_function 34 = .ok (.iload_n 2, 1) := by decide +kernel
theorem dX10_function_35 : decode cX10_function 35 = .ok (.ifCond .ne 10, 3) := by decide +kernel
theorem dX10_function_38 : decode cX10_function 38 = .ok (.aload_n 0, 1) := by decide +kernel
theorem dX10_function_39 : decode cX10_function 39 = .ok (.getfield 164, 3) := by decide +kernel
theorem dX10_function_42 : decode cX10_function 42 = .ok (.iload_n 1, 1) := by decide +kernel
theorem dX10_function_43 : decode cX10_function 43 = .ok (.iaload, 1) := by decide +kernel
theorem dX10_function_44 : decode cX10_function 44 = .ok (.ireturn, 1) := by decide +kernel
theorem dX10_function_45 : decode cX10_function 45 = .ok (.iload_n 2, 1) := by decide +kernel
theorem dX10_function_46 : decode cX10_function 46 = .ok (.iconst 1, 1) := by decide +kernel
theorem dX10_function_47 : decode cX10_function 47 = .ok (.if_icmp .ne 10, 3) := by decide +kernel
theorem dX10_function_50 : decode cX10_function 50 = .ok (.aload_n 0, 1) := by decide +kernel
theorem dX10_function_51 : decode cX10_function 51 = .ok (.getfield 170, 3) := by decide +kernel
theorem dX10_function_54 : decode cX10_function 54 = .ok (.iload_n 1, 1) := by decide +kernel
theorem dX10_function_55 : decode cX10_function 55 = .ok (.iaload, 1) := by decide +kernel
theorem dX10_function_56 : decode cX10_function 56 = .ok (.ireturn, 1) := by decide +kernel
theorem dX10_function_57 : decode cX10_function 57 = .ok (.iload_n 2, 1) := by decide +kernel
theorem dX10_function_58 : decode cX10_function 58 = .ok (.iconst 2, 1) := by decide +kernel
theorem dX10_function_59 : decode cX10_function 59 = .ok (.isub, 1) := by decide +kernel
theorem dX10_function_60 : decode cX10_function 60 = .ok (.iconst 5, 1) := by decide +kernel
theorem dX10_function_61 : decode cX10_function 61 = .ok (.idiv, 1) := by decide +kernel
theorem dX10_function_62 : decode cX10_function 62 = .ok (.istore_n 3, 1) := by decide +kernel
theorem dX10_function_63 : decode cX10_function 63 = .ok (.iconst 3, 1) := by decide +kernel
theorem dX10_function_64 : decode cX10_function 64 = .ok (.iload_n 1, 1) := by decide +kernel
theorem dX10_function_65 : decode cX10_function 65 = .ok (.imul, 1) := by decide +kernel
theorem dX10_function_66 : decode cX10_function 66 = .ok (.iload_n 3, 1) := by decide +kernel
theorem dX10_function_67 : decode cX10_function 67 = .ok (.iadd, 1) := by decide +kernel
theorem dX10_function_68 : decode cX10_function 68 = .ok (.iconst 1, 1) := by decide +kernel
theorem dX10_function_69 : decode cX10_function 69 = .ok (.isub, 1) := by decide +kernel
theorem dX10_function_70 : decode cX10_function 70 = .ok (.istore 4, 2) := by decide +kernel
theorem dX10_function_72 : decode cX10_function 72 = .ok (.iload_n 3, 1) := by decide +kernel
theorem dX10_function_73 : decode cX10_function 73 = .ok (.ifCond .ne 12, 3) := by decide +kernel
theorem dX10_function_76 : decode cX10_function 76 = .ok (.aload_n 0, 1) := by decide +kernel
theorem dX10_function_77 : decode cX10_function 77 = .ok (.getfield 200, 3) := by decide +kernel
theorem dX10_function_80 : decode cX10_function 80 = .ok (.iload_n 1, 1) := by decide +kernel
theorem dX10_function_81 : decode cX10_function 81 = .ok (.baload, 1) := by decide +kernel
theorem dX10_function_82 : decode cX10_function 82 = .ok (.goto 10, 3) := by decide +kernel
theorem dX10_function_85 : decode cX10_function 85 = .ok (.aload_n 0, 1) := by decide +kernel
theorem dX10_function_86 : decode cX10_function 86 = .ok (.getfield 203, 3) := by decide +kernel
theorem dX10_function_89 : decode cX10_function 89 = .ok (.iload 4, 2) := by decide +kernel
theorem dX10_function_91 : decode cX10_function 91 = .ok (.baload, 1) := by decide +kernel
theorem dX10_function_92 : decode cX10_function 92 = .ok (.istore 5, 2) := by decide +kernel
theorem dX10_function_94 : decode cX10_function 94 = .ok (.iload_n 3, 1) := by decide +kernel
theorem dX10_function_95 : decode cX10_function 95 = .ok (.ifCond .ne 12, 3) := by decide +kernel
theorem dX10_function_98 : decode cX10_function 98 = .ok (.aload_n 0, 1) := by decide +kernel
theorem dX10_function_99 : decode cX10_function 99 = .ok (.getfield 173, 3) := by decide +kernel
theorem dX10_function_102 : decode cX10_function 102 = .ok (.iload_n 1, 1) := by decide +kernel
theorem dX10_function_103 : decode cX10_function 103 = .ok (.iaload, 1) := by decide +kernel
theorem dX10_function_104 : decode cX10_function 104 = .ok (.goto 10, 3) := by decide +kernel
theorem dX10_function_107 : decode cX10_function 107 = .ok (.aload_n 0, 1) := by decide +kernel
theorem dX10_function_108 : decode cX10_function 108 = .ok (.getfield 182, 3) := by decide +kernel
theorem dX10_function_111 : decode cX10_function 111 = .ok (.iload 4, 2) := by decide +kernel
theorem dX10_function_113 : decode cX10_function 113 = .ok (.iaload, 1) := by decide +kernel
theorem dX10_function_114 : decode cX10_function 114 = .ok (.istore 6, 2) := by decide +kernel
theorem dX10_function_116 : decode cX10_function 116 = .ok (.iload_n 2, 1) := by decide +kernel
theorem dX10_function_117 : decode cX10_function 117 = .ok (.iconst 2, 1) := by decide +kernel
theorem dX10_function_118 : decode cX10_function 118 = .ok (.isub, 1) := by decide +kernel
theorem dX10_function_119 : decode cX10_function 119 = .ok (.iconst 5, 1) := by decide +kernel
theorem dX10_function_120 : decode cX10_function 120 = .ok (.irem, 1) := by decide +kernel
theorem dX10_function_121 : decode cX10_function 121 = .ok (.tableswitch 96 0 3 #[31, 42, 54, 75], 31) := by decide +kernel
theorem dX10_function_152 : decode cX10_function 152 = .ok (.iload 5, 2) := by decide +kernel
theorem dX10_function_154 : decode cX10_function 154 = .ok (.ifCond .eq 7, 3) := by decide +kernel
theorem dX10_function_157 : decode cX10_function 157 = .ok (.iconst 1, 1) := by decide +kernel
theorem dX10_function_158 : decode cX10_function 158 = .ok (.goto 4, 3) := by decide +kernel
theorem dX10_function_161 : decode cX10_function 161 = .ok (.iconst 0, 1) := by decide +kernel
theorem dX10_function_162 : decode cX10_function 162 = .ok (.ireturn, 1) := by decide +kernel
theorem dX10_function_163 : decode cX10_function 163 = .ok (.iload 5, 2) := by decide +kernel
theorem dX10_function_165 : decode cX10_function 165 = .ok (.ifCond .eq 7, 3) := by decide +kernel
theorem dX10_function_168 : decode cX10_function 168 = .ok (.iconst 0, 1) := by decide +kernel
theorem dX10_function_169 : decode cX10_function 169 = .ok (.goto 5, 3) := by decide +kernel
theorem dX10_function_172 : decode cX10_function 172 = .ok (.iload 6, 2) := by decide +kernel
theorem dX10_function_174 : decode cX10_function 174 = .ok (.ireturn, 1) := by decide +kernel
theorem dX10_function_175 : decode cX10_function 175 = .ok (.iload_n 3, 1) := by decide +kernel
theorem dX10_function_176 : decode cX10_function 176 = .ok (.ifCond .ne 12, 3) := by decide +kernel
theorem dX10_function_179 : decode cX10_function 179 = .ok (.aload_n 0, 1) := by decide +kernel
theorem dX10_function_180 : decode cX10_function 180 = .ok (.getfield 176, 3) := by decide +kernel
theorem dX10_function_183 : decode cX10_function 183 = .ok (.iload_n 1, 1) := by decide +kernel
theorem dX10_function_184 : decode cX10_function 184 = .ok (.iaload, 1) := by decide +kernel
theorem dX10_function_185 : decode cX10_function 185 = .ok (.goto 10, 3) := by decide +kernel
theorem dX10_function_188 : decode cX10_function 188 = .ok (.aload_n 0, 1) := by decide +kernel
theorem dX10_function_189 : decode cX10_function 189 = .ok (.getfield 185, 3) := by decide +kernel
theorem dX10_function_192 : decode cX10_function 192 = .ok (.iload 4, 2) := by decide +kernel
theorem dX10_function_194 : decode cX10_function 194 = .ok (.iaload, 1) := by decide +kernel
theorem dX10_function_195 : decode cX10_function 195 = .ok (.ireturn, 1) := by decide +kernel
theorem dX10_function_196 : decode cX10_function 196 = .ok (.iload_n 3, 1) := by decide +kernel
theorem dX10_function_197 : decode cX10_function 197 = .ok (.ifCond .ne 12, 3) := by decide +kernel
theorem dX10_function_200 : decode cX10_function 200 = .ok (.aload_n 0, 1) := by decide +kernel
theorem dX10_function_201 : decode cX10_function 201 = .ok (.getfield 179, 3) := by decide +kernel
theorem dX10_function_204 : decode cX10_function 204 = .ok (.iload_n 1, 1) := by decide +kernel
theorem dX10_function_205 : decode cX10_function 205 = .ok (.iaload, 1) := by decide +kernel
theorem dX10_function_206 : decode cX10_function 206 = .ok (.goto 10, 3) := by decide +kernel
theorem dX10_function_209 : decode cX10_function 209 = .ok (.aload_n 0, 1) := by decide +kernel
theorem dX10_function_210 : decode cX10_function 210 = .ok (.getfield 188, 3) := by decide +kernel
theorem dX10_function_213 : decode cX10_function 213 = .ok (.iload 4, 2) := by decide +kernel
theorem dX10_function_215 : decode cX10_function 215 = .ok (.iaload, 1) := by decide +kernel
theorem dX10_function_216 : decode cX10_function 216 = .ok (.ireturn, 1) := by decide +kernel
theorem dX10_function_217 : decode cX10_function 217 = .ok (.iload 6, 2) := by decide +kernel
theorem dX10_function_219 : decode cX10_function 219 = .ok (.bipush (-2), 2) := by decide +kernel
theorem dX10_function_221 : decode cX10_function 221 = .ok (.if_icmp .ne 7, 3) := by decide +kernel
theorem dX10_function_224 : decode cX10_function 224 = .ok (.iconst 1, 1) := by decide +kernel
theorem dX10_function_225 : decode cX10_function 225 = .ok (.goto 4, 3) := by decide +kernel
theorem dX10_function_228 : decode cX10_function 228 = .ok (.iconst 0, 1) := by decide +kernel
theorem dX10_function_229 : decode cX10_function 229 = .ok (.ireturn, 1) := by decide +kernel
/-! AlgebraHouseModel.function(II)I -/
def P_X10_function (x1 : Int) (x2 : Int) (m : MM) (Q : Int → MM → Prop) : Prop := (RI x1) ∧ (if x1 < 0 then Q (-1) m else (RI (m 582 32)) ∧ (if (m 582 32) ≤ x1 then Q (-1) m else (RI x2) ∧ (if x2 < 0 then Q (-1) m else (0 ≤ x1 ∧ x1 < 21) ∧ (RI (2 + (5 * ((m 609 x1) + 1)))) ∧ (if x2 < (2 + (5 * ((m 609 x1) + 1))) then (if x2 = 0 then Q (m 609 x1) m else (if x2 = 1 then Q (m 611 x1) m else (RI (x2 - 2)) ∧ ((RI (Int.tdiv (x2 - 2) 5)) ∧ (if (Int.tdiv (x2 - 2) 5) = 0 then True else ((0 ≤ (((3 * x1) + (Int.tdiv (x2 - 2) 5)) - 1) ∧ (((3 * x1) + (Int.tdiv (x2 - 2) 5)) - 1) < 63)))) ∧ ((RI (Int.tdiv (x2 - 2) 5)) ∧ (if (Int.tdiv (x2 - 2) 5) = 0 then True else ((0 ≤ (((3 * x1) + (Int.tdiv (x2 - 2) 5)) - 1) ∧ (((3 * x1) + (Int.tdiv (x2 - 2) 5)) - 1) < 63)))) ∧ (RI (Int.tmod (x2 - 2) 5)) ∧ (if (Int.tmod (x2 - 2) 5) = 0 then (RI (if (Int.tdiv (x2 - 2) 5) = 0 then (m 621 x1) else (m 622 (((3 * x1) + (Int.tdiv (x2 - 2) 5)) - 1)) : Int)) ∧ (if (if (Int.tdiv (x2 - 2) 5) = 0 then (m 621 x1) else (m 622 (((3 * x1) + (Int.tdiv (x2 - 2) 5)) - 1)) : Int) = 0 then Q 0 m else Q 1 m) else (if (Int.tmod (x2 - 2) 5) = 1 then (RI (if (Int.tdiv (x2 - 2) 5) = 0 then (m 621 x1) else (m 622 (((3 * x1) + (Int.tdiv (x2 - 2) 5)) - 1)) : Int)) ∧ (if (if (Int.tdiv (x2 - 2) 5) = 0 then (m 621 x1) else (m 622 (((3 * x1) + (Int.tdiv (x2 - 2) 5)) - 1)) : Int) = 0 then Q (if (Int.tdiv (x2 - 2) 5) = 0 then (m 612 x1) else (m 615 (((3 * x1) + (Int.tdiv (x2 - 2) 5)) - 1)) : Int) m else Q 0 m) else (if (Int.tmod (x2 - 2) 5) = 2 then (RI (Int.tdiv (x2 - 2) 5)) ∧ (if (Int.tdiv (x2 - 2) 5) = 0 then Q (m 613 x1) m else (0 ≤ (((3 * x1) + (Int.tdiv (x2 - 2) 5)) - 1) ∧ (((3 * x1) + (Int.tdiv (x2 - 2) 5)) - 1) < 63) ∧ Q (m 616 (((3 * x1) + (Int.tdiv (x2 - 2) 5)) - 1)) m) else (if (Int.tmod (x2 - 2) 5) = 3 then (RI (Int.tdiv (x2 - 2) 5)) ∧ (if (Int.tdiv (x2 - 2) 5) = 0 then Q (m 614 x1) m else (0 ≤ (((3 * x1) + (Int.tdiv (x2 - 2) 5)) - 1) ∧ (((3 * x1) + (Int.tdiv (x2 - 2) 5)) - 1) < 63) ∧ Q (m 617 (((3 * x1) + (Int.tdiv (x2 - 2) 5)) - 1)) m) else (RI (if (Int.tdiv (x2 - 2) 5) = 0 then (m 612 x1) else (m 615 (((3 * x1) + (Int.tdiv (x2 - 2) 5)) - 1)) : Int)) ∧ (if (if (Int.tdiv (x2 - 2) 5) = 0 then (m 612 x1) else (m 615 (((3 * x1) + (Int.tdiv (x2 - 2) 5)) - 1)) : Int) = (-2) then Q 1 m else Q 0 m))))))) else Q (-1) m))))
theorem p_X10_function {f : Nat} {Q : Int → MM → Prop} {T : MM → Prop} (hf : 1 ≤ f) (x1 : Int) (x2 : Int) (m : MM) (h : P_X10_function x1 x2 m Q) : CC f M_X10_function [vR 582, vI x1, vI x2] m Q T := by
  refine CC.of (plainFor_of_name (by decide)) (Nat.le_of_ble_eq_true rfl) (ls := [vR 582, vI x1, vI x2, vU, vU, vU, vU]) rfl ?_
  have h : (RI x1) ∧ (if x1 < 0 then Q (-1) m else (RI (m 582 32)) ∧ (if (m 582 32) ≤ x1 then Q (-1) m else (RI x2) ∧ (if x2 < 0 then Q (-1) m else (0 ≤ x1 ∧ x1 < 21) ∧ (RI (2 + (5 * ((m 609 x1) + 1)))) ∧ (if x2 < (2 + (5 * ((m 609 x1) + 1))) then (if x2 = 0 then Q (m 609 x1) m else (if x2 = 1 then Q (m 611 x1) m else (RI (x2 - 2)) ∧ ((RI (Int.tdiv (x2 - 2) 5)) ∧ (if (Int.tdiv (x2 - 2) 5) = 0 then True else ((0 ≤ (((3 * x1) + (Int.tdiv (x2 - 2) 5)) - 1) ∧ (((3 * x1) + (Int.tdiv (x2 - 2) 5)) - 1) < 63)))) ∧ ((RI (Int.tdiv (x2 - 2) 5)) ∧ (if (Int.tdiv (x2 - 2) 5) = 0 then True else ((0 ≤ (((3 * x1) + (Int.tdiv (x2 - 2) 5)) - 1) ∧ (((3 * x1) + (Int.tdiv (x2 - 2) 5)) - 1) < 63)))) ∧ (RI (Int.tmod (x2 - 2) 5)) ∧ (if (Int.tmod (x2 - 2) 5) = 0 then (RI (if (Int.tdiv (x2 - 2) 5) = 0 then (m 621 x1) else (m 622 (((3 * x1) + (Int.tdiv (x2 - 2) 5)) - 1)) : Int)) ∧ (if (if (Int.tdiv (x2 - 2) 5) = 0 then (m 621 x1) else (m 622 (((3 * x1) + (Int.tdiv (x2 - 2) 5)) - 1)) : Int) = 0 then Q 0 m else Q 1 m) else (if (Int.tmod (x2 - 2) 5) = 1 then (RI (if (Int.tdiv (x2 - 2) 5) = 0 then (m 621 x1) else (m 622 (((3 * x1) + (Int.tdiv (x2 - 2) 5)) - 1)) : Int)) ∧ (if (if (Int.tdiv (x2 - 2) 5) = 0 then (m 621 x1) else (m 622 (((3 * x1) + (Int.tdiv (x2 - 2) 5)) - 1)) : Int) = 0 then Q (if (Int.tdiv (x2 - 2) 5) = 0 then (m 612 x1) else (m 615 (((3 * x1) + (Int.tdiv (x2 - 2) 5)) - 1)) : Int) m else Q 0 m) else (if (Int.tmod (x2 - 2) 5) = 2 then (RI (Int.tdiv (x2 - 2) 5)) ∧ (if (Int.tdiv (x2 - 2) 5) = 0 then Q (m 613 x1) m else (0 ≤ (((3 * x1) + (Int.tdiv (x2 - 2) 5)) - 1) ∧ (((3 * x1) + (Int.tdiv (x2 - 2) 5)) - 1) < 63) ∧ Q (m 616 (((3 * x1) + (Int.tdiv (x2 - 2) 5)) - 1)) m) else (if (Int.tmod (x2 - 2) 5) = 3 then (RI (Int.tdiv (x2 - 2) 5)) ∧ (if (Int.tdiv (x2 - 2) 5) = 0 then Q (m 614 x1) m else (0 ≤ (((3 * x1) + (Int.tdiv (x2 - 2) 5)) - 1) ∧ (((3 * x1) + (Int.tdiv (x2 - 2) 5)) - 1) < 63) ∧ Q (m 617 (((3 * x1) + (Int.tdiv (x2 - 2) 5)) - 1)) m) else (RI (if (Int.tdiv (x2 - 2) 5) = 0 then (m 612 x1) else (m 615 (((3 * x1) + (Int.tdiv (x2 - 2) 5)) - 1)) : Int)) ∧ (if (if (Int.tdiv (x2 - 2) 5) = 0 then (m 612 x1) else (m 615 (((3 * x1) + (Int.tdiv (x2 - 2) 5)) - 1)) : Int) = (-2) then Q 1 m else Q 0 m))))))) else Q (-1) m)))) := h
  refine b_iload_n dX10_function_0 rfl ?_
  obtain ⟨g1, h⟩ := h
  refine b_if_lt 32 dX10_function_1 g1 (by decide) (fun c1 => ?_) (fun c1 => ?_)
  · have h := ifT c1 h
    refine b_iconst dX10_function_32 ?_
    exact b_iret dX10_function_33 rfl h
  · have h := ifF c1 h
    refine b_iload_n dX10_function_4 rfl ?_
    refine b_aload_n dX10_function_5 rfl ?_
    refine b_getI dX10_function_6 fk_X10_591 ly_582 ?_
    obtain ⟨g2, h⟩ := h
    refine b_icmp_ge 32 dX10_function_9 g1 g2 (by decide) (fun c2 => ?_) (fun c2 => ?_)
    · have h := ifT c2 h
      refine b_iconst dX10_function_32 ?_
      exact b_iret dX10_function_33 rfl h
    · have h := ifF c2 h
      refine b_iload_n dX10_function_12 rfl ?_
      obtain ⟨g3, h⟩ := h
      refine b_if_lt 32 dX10_function_13 g3 (by decide) (fun c3 => ?_) (fun c3 => ?_)
      · have h := ifT c3 h
        refine b_iconst dX10_function_32 ?_
        exact b_iret dX10_function_33 rfl h
      · have h := ifF c3 h
        refine b_iload_n dX10_function_16 rfl ?_
        refine b_iconst dX10_function_17 ?_
        refine b_iconst dX10_function_18 ?_
        refine b_aload_n dX10_function_19 rfl ?_
        refine b_getR dX10_function_20 fk_X10_164 ly_582 gg_582_38 ?_
        refine b_iload_n dX10_function_23 rfl ?_
        obtain ⟨g4, h⟩ := h
        refine b_iald dX10_function_24 ly_609 g4 ?_
        refine b_iconst dX10_function_25 ?_
        refine b_iadd dX10_function_26 ?_
        refine b_imul dX10_function_27 ?_
        refine b_iadd dX10_function_28 ?_
        obtain ⟨g5, h⟩ := h
        refine b_icmp_lt 34 dX10_function_29 g3 g5 (by decide) (fun c4 => ?_) (fun c4 => ?_)
        · have h := ifT c4 h
          refine b_iload_n dX10_function_34 rfl ?_
          refine b_if_ne 45 dX10_function_35 g3 (by decide) (fun c5 => ?_) (fun c5 => ?_)
          · have h := ifF c5 h
            refine b_iload_n dX10_function_45 rfl ?_
            refine b_iconst dX10_function_46 ?_
            refine b_icmp_ne 57 dX10_function_47 g3 (by decide) (by decide) (fun c6 => ?_) (fun c6 => ?_)
            · have h := ifF c6 h
              refine b_iload_n dX10_function_57 rfl ?_
              refine b_iconst dX10_function_58 ?_
              refine b_isub dX10_function_59 ?_
              refine b_iconst dX10_function_60 ?_
              obtain ⟨g6, h⟩ := h
              refine b_idiv dX10_function_61 g6 (by decide) (by decide) ?_
              refine b_istore_n (ls' := [vR 582, vI x1, vI x2, vI (Int.tdiv (x2 - 2) 5), vU, vU, vU]) dX10_function_62 (Nat.le_of_ble_eq_true rfl) rfl ?_
              refine b_iconst dX10_function_63 ?_
              refine b_iload_n dX10_function_64 rfl ?_
              refine b_imul dX10_function_65 ?_
              refine b_iload_n dX10_function_66 rfl ?_
              refine b_iadd dX10_function_67 ?_
              refine b_iconst dX10_function_68 ?_
              refine b_isub dX10_function_69 ?_
              refine b_istore (ls' := [vR 582, vI x1, vI x2, vI (Int.tdiv (x2 - 2) 5), vI (((3 * x1) + (Int.tdiv (x2 - 2) 5)) - 1), vU, vU]) dX10_function_70 (Nat.le_of_ble_eq_true rfl) rfl ?_
              refine b_iload_n dX10_function_72 rfl ?_
              obtain ⟨hs, h⟩ := h
              have K : B f M_X10_function 92 [vR 582, vI x1, vI x2, vI (Int.tdiv (x2 - 2) 5), vI (((3 * x1) + (Int.tdiv (x2 - 2) 5)) - 1), vU, vU] [vI (if (Int.tdiv (x2 - 2) 5) = 0 then (m 621 x1) else (m 622 (((3 * x1) + (Int.tdiv (x2 - 2) 5)) - 1)) : Int)] m Q T := by
                clear hs
                refine b_istore (ls' := [vR 582, vI x1, vI x2, vI (Int.tdiv (x2 - 2) 5), vI (((3 * x1) + (Int.tdiv (x2 - 2) 5)) - 1), vI (if (Int.tdiv (x2 - 2) 5) = 0 then (m 621 x1) else (m 622 (((3 * x1) + (Int.tdiv (x2 - 2) 5)) - 1)) : Int), vU]) dX10_function_92 (Nat.le_of_ble_eq_true rfl) rfl ?_
                refine b_iload_n dX10_function_94 rfl ?_
                obtain ⟨hs, h⟩ := h
                have K : B f M_X10_function 114 [vR 582, vI x1, vI x2, vI (Int.tdiv (x2 - 2) 5), vI (((3 * x1) + (Int.tdiv (x2 - 2) 5)) - 1), vI (if (Int.tdiv (x2 - 2) 5) = 0 then (m 621 x1) else (m 622 (((3 * x1) + (Int.tdiv (x2 - 2) 5)) - 1)) : Int), vU] [vI (if (Int.tdiv (x2 - 2) 5) = 0 then (m 612 x1) else (m 615 (((3 * x1) + (Int.tdiv (x2 - 2) 5)) - 1)) : Int)] m Q T := by
                  clear hs
                  refine b_istore (ls' := [vR 582, vI x1, vI x2, vI (Int.tdiv (x2 - 2) 5), vI (((3 * x1) + (Int.tdiv (x2 - 2) 5)) - 1), vI (if (Int.tdiv (x2 - 2) 5) = 0 then (m 621 x1) else (m 622 (((3 * x1) + (Int.tdiv (x2 - 2) 5)) - 1)) : Int), vI (if (Int.tdiv (x2 - 2) 5) = 0 then (m 612 x1) else (m 615 (((3 * x1) + (Int.tdiv (x2 - 2) 5)) - 1)) : Int)]) dX10_function_114 (Nat.le_of_ble_eq_true rfl) rfl ?_
                  refine b_iload_n dX10_function_116 rfl ?_
                  refine b_iconst dX10_function_117 ?_
                  refine b_isub dX10_function_118 ?_
                  refine b_iconst dX10_function_119 ?_
                  refine b_irem dX10_function_120 g6 (by decide) (by decide) ?_
                  obtain ⟨g11, h⟩ := h
                  by_cases c7 : (Int.tmod (x2 - 2) 5) = 0
                  · have h := ifT c7 h
                    refine b_tswIn 152 dX10_function_121 g11 (by omega) (by omega) (by rw [c7]; rfl) (by decide) ?_
                    refine b_iload dX10_function_152 rfl ?_
                    obtain ⟨g12, h⟩ := h
                    refine b_if_eq 161 dX10_function_154 g12 (by decide) (fun c8 => ?_) (fun c8 => ?_)
                    · have h := ifT c8 h
                      refine b_iconst dX10_function_161 ?_
                      exact b_iret dX10_function_162 rfl h
                    · have h := ifF c8 h
                      refine b_iconst dX10_function_157 ?_
                      refine b_goto 162 dX10_function_158 (by decide) ?_
                      exact b_iret dX10_function_162 rfl h
                  have h := ifF c7 h
                  by_cases c9 : (Int.tmod (x2 - 2) 5) = 1
                  · have h := ifT c9 h
                    refine b_tswIn 163 dX10_function_121 g11 (by omega) (by omega) (by rw [c9]; rfl) (by decide) ?_
                    refine b_iload dX10_function_163 rfl ?_
                    obtain ⟨g13, h⟩ := h
                    refine b_if_eq 172 dX10_function_165 g13 (by decide) (fun c10 => ?_) (fun c10 => ?_)
                    · have h := ifT c10 h
                      refine b_iload dX10_function_172 rfl ?_
                      exact b_iret dX10_function_174 rfl h
                    · have h := ifF c10 h
                      refine b_iconst dX10_function_168 ?_
                      refine b_goto 174 dX10_function_169 (by decide) ?_
                      exact b_iret dX10_function_174 rfl h
                  have h := ifF c9 h
                  by_cases c11 : (Int.tmod (x2 - 2) 5) = 2
                  · have h := ifT c11 h
                    refine b_tswIn 175 dX10_function_121 g11 (by omega) (by omega) (by rw [c11]; rfl) (by decide) ?_
                    refine b_iload_n dX10_function_175 rfl ?_
                    obtain ⟨g14, h⟩ := h
                    refine b_if_ne 188 dX10_function_176 g14 (by decide) (fun c12 => ?_) (fun c12 => ?_)
                    · have h := ifF c12 h
                      refine b_aload_n dX10_function_188 rfl ?_
                      refine b_getR dX10_function_189 fk_X10_185 ly_582 gg_582_45 ?_
                      refine b_iload dX10_function_192 rfl ?_
                      obtain ⟨g15, h⟩ := h
                      refine b_iald dX10_function_194 ly_616 g15 ?_
                      exact b_iret dX10_function_195 rfl h
                    · have h := ifT (Decidable.of_not_not c12) h
                      refine b_aload_n dX10_function_179 rfl ?_
                      refine b_getR dX10_function_180 fk_X10_176 ly_582 gg_582_42 ?_
                      refine b_iload_n dX10_function_183 rfl ?_
                      refine b_iald dX10_function_184 ly_613 g4 ?_
                      refine b_goto 195 dX10_function_185 (by decide) ?_
                      exact b_iret dX10_function_195 rfl h
                  have h := ifF c11 h
                  by_cases c13 : (Int.tmod (x2 - 2) 5) = 3
                  · have h := ifT c13 h
                    refine b_tswIn 196 dX10_function_121 g11 (by omega) (by omega) (by rw [c13]; rfl) (by decide) ?_
                    refine b_iload_n dX10_function_196 rfl ?_
                    obtain ⟨g16, h⟩ := h
                    refine b_if_ne 209 dX10_function_197 g16 (by decide) (fun c14 => ?_) (fun c14 => ?_)
                    · have h := ifF c14 h
                      refine b_aload_n dX10_function_209 rfl ?_
                      refine b_getR dX10_function_210 fk_X10_188 ly_582 gg_582_46 ?_
                      refine b_iload dX10_function_213 rfl ?_
                      obtain ⟨g17, h⟩ := h
                      refine b_iald dX10_function_215 ly_617 g17 ?_
                      exact b_iret dX10_function_216 rfl h
                    · have h := ifT (Decidable.of_not_not c14) h
                      refine b_aload_n dX10_function_200 rfl ?_
                      refine b_getR dX10_function_201 fk_X10_179 ly_582 gg_582_43 ?_
                      refine b_iload_n dX10_function_204 rfl ?_
                      refine b_iald dX10_function_205 ly_614 g4 ?_
                      refine b_goto 216 dX10_function_206 (by decide) ?_
                      exact b_iret dX10_function_216 rfl h
                  have h := ifF c13 h
                  refine b_tswOut 217 dX10_function_121 g11 (by omega) (by decide) ?_
                  refine b_iload dX10_function_217 rfl ?_
                  refine b_bipush dX10_function_219 (by decide) ?_
                  obtain ⟨g18, h⟩ := h
                  refine b_icmp_ne 228 dX10_function_221 g18 (by decide) (by decide) (fun c15 => ?_) (fun c15 => ?_)
                  · have h := ifF c15 h
                    refine b_iconst dX10_function_228 ?_
                    exact b_iret dX10_function_229 rfl h
                  · have h := ifT (Decidable.of_not_not c15) h
                    refine b_iconst dX10_function_224 ?_
                    refine b_goto 229 dX10_function_225 (by decide) ?_
                    exact b_iret dX10_function_229 rfl h
                obtain ⟨g9, hs⟩ := hs
                refine b_if_ne 107 dX10_function_95 g9 (by decide) (fun c16 => ?_) (fun c16 => ?_)
                ·
                  have hs := ifF c16 hs
                  have g10 := hs
                  refine b_aload_n dX10_function_107 rfl ?_
                  refine b_getR dX10_function_108 fk_X10_182 ly_582 gg_582_44 ?_
                  refine b_iload dX10_function_111 rfl ?_
                  refine b_iald dX10_function_113 ly_615 g10 ?_
                  exact Eq.mp (congrArg (fun z => B f M_X10_function 114 [vR 582, vI x1, vI x2, vI (Int.tdiv (x2 - 2) 5), vI (((3 * x1) + (Int.tdiv (x2 - 2) 5)) - 1), vI (if (Int.tdiv (x2 - 2) 5) = 0 then (m 621 x1) else (m 622 (((3 * x1) + (Int.tdiv (x2 - 2) 5)) - 1)) : Int), vU] (vI z :: []) m Q T) (show (if (Int.tdiv (x2 - 2) 5) = 0 then (m 612 x1) else (m 615 (((3 * x1) + (Int.tdiv (x2 - 2) 5)) - 1)) : Int) = (m 615 (((3 * x1) + (Int.tdiv (x2 - 2) 5)) - 1)) by rw [if_neg c16])) K
                ·
                  have c16 := Decidable.of_not_not c16
                  refine b_aload_n dX10_function_98 rfl ?_
                  refine b_getR dX10_function_99 fk_X10_173 ly_582 gg_582_41 ?_
                  refine b_iload_n dX10_function_102 rfl ?_
                  refine b_iald dX10_function_103 ly_612 g4 ?_
                  refine b_goto 114 dX10_function_104 (by decide) ?_
                  exact Eq.mp (congrArg (fun z => B f M_X10_function 114 [vR 582, vI x1, vI x2, vI (Int.tdiv (x2 - 2) 5), vI (((3 * x1) + (Int.tdiv (x2 - 2) 5)) - 1), vI (if (Int.tdiv (x2 - 2) 5) = 0 then (m 621 x1) else (m 622 (((3 * x1) + (Int.tdiv (x2 - 2) 5)) - 1)) : Int), vU] (vI z :: []) m Q T) (show (if (Int.tdiv (x2 - 2) 5) = 0 then (m 612 x1) else (m 615 (((3 * x1) + (Int.tdiv (x2 - 2) 5)) - 1)) : Int) = (m 612 x1) by rw [if_pos c16])) K
              obtain ⟨g7, hs⟩ := hs
              refine b_if_ne 85 dX10_function_73 g7 (by decide) (fun c17 => ?_) (fun c17 => ?_)
              ·
                have hs := ifF c17 hs
                have g8 := hs
                refine b_aload_n dX10_function_85 rfl ?_
                refine b_getR dX10_function_86 fk_X10_203 ly_582 gg_582_51 ?_
                refine b_iload dX10_function_89 rfl ?_
                refine b_zald dX10_function_91 ly_622 g8 ?_
                exact Eq.mp (congrArg (fun z => B f M_X10_function 92 [vR 582, vI x1, vI x2, vI (Int.tdiv (x2 - 2) 5), vI (((3 * x1) + (Int.tdiv (x2 - 2) 5)) - 1), vU, vU] (vI z :: []) m Q T) (show (if (Int.tdiv (x2 - 2) 5) = 0 then (m 621 x1) else (m 622 (((3 * x1) + (Int.tdiv (x2 - 2) 5)) - 1)) : Int) = (m 622 (((3 * x1) + (Int.tdiv (x2 - 2) 5)) - 1)) by rw [if_neg c17])) K
              ·
                have c17 := Decidable.of_not_not c17
                refine b_aload_n dX10_function_76 rfl ?_
                refine b_getR dX10_function_77 fk_X10_200 ly_582 gg_582_50 ?_
                refine b_iload_n dX10_function_80 rfl ?_
                refine b_zald dX10_function_81 ly_621 g4 ?_
                refine b_goto 92 dX10_function_82 (by decide) ?_
                exact Eq.mp (congrArg (fun z => B f M_X10_function 92 [vR 582, vI x1, vI x2, vI (Int.tdiv (x2 - 2) 5), vI (((3 * x1) + (Int.tdiv (x2 - 2) 5)) - 1), vU, vU] (vI z :: []) m Q T) (show (if (Int.tdiv (x2 - 2) 5) = 0 then (m 621 x1) else (m 622 (((3 * x1) + (Int.tdiv (x2 - 2) 5)) - 1)) : Int) = (m 621 x1) by rw [if_pos c17])) K
            · have h := ifT (Decidable.of_not_not c6) h
              refine b_aload_n dX10_function_50 rfl ?_
              refine b_getR dX10_function_51 fk_X10_170 ly_582 gg_582_40 ?_
              refine b_iload_n dX10_function_54 rfl ?_
              refine b_iald dX10_function_55 ly_611 g4 ?_
              exact b_iret dX10_function_56 rfl h
          · have h := ifT (Decidable.of_not_not c5) h
            refine b_aload_n dX10_function_38 rfl ?_
            refine b_getR dX10_function_39 fk_X10_164 ly_582 gg_582_38 ?_
            refine b_iload_n dX10_function_42 rfl ?_
            refine b_iald dX10_function_43 ly_609 g4 ?_
            exact b_iret dX10_function_44 rfl h
        · have h := ifF c4 h
          refine b_iconst dX10_function_32 ?_
          exact b_iret dX10_function_33 rfl h
theorem dX10_hasR_0 : decode cX10_hasR 0 = .ok (.aload_n 0, 1) := by decide +kernel
theorem dX10_hasR_1 : decode cX10_hasR 1 = .ok (.getfield 127, 3) := by decide +kernel
theorem dX10_hasR_4 : decode cX10_hasR 4 = .ok (.iload_n 1, 1) := by decide +kernel
theorem dX10_hasR_5 : decode cX10_hasR 5 = .ok (.iaload, 1) := by decide +kernel
theorem dX10_hasR_6 : decode cX10_hasR 6 = .ok (.iconst 4, 1) := by decide +kernel
theorem dX10_hasR_7 : decode cX10_hasR 7 = .ok (.if_icmp .eq 25, 3) := by decide +kernel
theorem dX10_hasR_10 : decode cX10_hasR 10 = .ok (.aload_n 0, 1) := by decide +kernel
theorem dX10_hasR_11 : decode cX10_hasR 11 = .ok (.getfield 109, 3) := by decide +kernel
theorem dX10_hasR_14 : decode cX10_hasR 14 = .ok (.iload_n 1, 1) := by decide +kernel
theorem dX10_hasR_15 : decode cX10_hasR 15 = .ok (.iaload, 1) := by decide +kernel
theorem dX10_hasR_16 : decode cX10_hasR 16 = .ok (.ifCond .lt 20, 3) := by decide +kernel
theorem dX10_hasR_19 : decode cX10_hasR 19 = .ok (.aload_n 0, 1) := by decide +kernel
theorem dX10_hasR_20 : decode cX10_hasR 20 = .ok (.aload_n 0, 1) := by decide +kernel
theorem dX10_hasR_21 : decode cX10_hasR 21 = .ok (.getfield 109, 3) := by decide +kernel
theorem dX10_hasR_24 : decode cX10_hasR 24 = .ok (.iload_n 1, 1) := by decide +kernel
theorem dX10_hasR_25 : decode cX10_hasR 25 = .ok (.iaload, 1) := by decide +kernel
theorem dX10_hasR_26 : decode cX10_hasR 26 = .ok (.invokevirtual 520, 3) := by decide +kernel
theorem dX10_hasR_29 : decode cX10_hasR 29 = .ok (.ifCond .eq 7, 3) := by decide +kernel
theorem dX10_hasR_32 : decode cX10_hasR 32 = .ok (.iconst 1, 1) := by decide +kernel
theorem dX10_hasR_33 : decode cX10_hasR 33 = .ok (.goto 4, 3) := by decide +kernel
theorem dX10_hasR_36 : decode cX10_hasR 36 = .ok (.iconst 0, 1) := by decide +kernel
theorem dX10_hasR_37 : decode cX10_hasR 37 = .ok (.ireturn, 1) := by decide +kernel
/-! AlgebraHouseModel.hasR(I)Z -/
def W_X10_hasR (rec : Nat → List Int → MM → (Int → MM → Prop) → (MM → Prop) → Prop) (x1 : Int) (m : MM) (Q : Int → MM → Prop) (T : MM → Prop) : Prop := (0 ≤ x1 ∧ x1 < 12000) ∧ (RI (m 597 x1)) ∧ (if (m 597 x1) = 4 then Q 1 m else (RI (m 591 x1)) ∧ (if (m 591 x1) < 0 then Q 0 m else rec 0 [(m 591 x1)] m (fun r1 m1 => (RI r1) ∧ (if r1 = 0 then Q 0 m1 else Q 1 m1)) T))
def HR_X10_hasR (rec : Nat → List Int → MM → (Int → MM → Prop) → (MM → Prop) → Prop) (fr : Nat) : Prop := (∀ (x1 : Int) (m : MM) (Q : Int → MM → Prop) (T : MM → Prop), rec 0 [x1] m Q T → CC fr M_X10_hasR [vR 582, vI x1] m Q T) ∧ True
theorem w_X10_hasR {f : Nat} {Q : Int → MM → Prop} {T : MM → Prop} {rec : Nat → List Int → MM → (Int → MM → Prop) → (MM → Prop) → Prop} {fr : Nat} (hrec : HR_X10_hasR rec fr) (hf : 1 ≤ f ∧ fr + 1 ≤ f) (x1 : Int) (m : MM) (h : W_X10_hasR rec x1 m Q T) : CC f M_X10_hasR [vR 582, vI x1] m Q T := by
  refine CC.of (plainFor_of_name (by decide)) (Nat.le_of_ble_eq_true rfl) (ls := [vR 582, vI x1]) rfl ?_
  have h : (0 ≤ x1 ∧ x1 < 12000) ∧ (RI (m 597 x1)) ∧ (if (m 597 x1) = 4 then Q 1 m else (RI (m 591 x1)) ∧ (if (m 591 x1) < 0 then Q 0 m else rec 0 [(m 591 x1)] m (fun r1 m1 => (RI r1) ∧ (if r1 = 0 then Q 0 m1 else Q 1 m1)) T)) := h
  refine b_aload_n dX10_hasR_0 rfl ?_
  refine b_getR dX10_hasR_1 fk_X10_127 ly_582 gg_582_23 ?_
  refine b_iload_n dX10_hasR_4 rfl ?_
  obtain ⟨g1, h⟩ := h
  refine b_iald dX10_hasR_5 ly_597 g1 ?_
  refine b_iconst dX10_hasR_6 ?_
  obtain ⟨g2, h⟩ := h
  refine b_icmp_eq 32 dX10_hasR_7 g2 (by decide) (by decide) (fun c1 => ?_) (fun c1 => ?_)
  · have h := ifT c1 h
    refine b_iconst dX10_hasR_32 ?_
    refine b_goto 37 dX10_hasR_33 (by decide) ?_
    exact b_zret dX10_hasR_37 rfl (Or.inr rfl) h
  · have h := ifF c1 h
    refine b_aload_n dX10_hasR_10 rfl ?_
    refine b_getR dX10_hasR_11 fk_X10_109 ly_582 gg_582_17 ?_
    refine b_iload_n dX10_hasR_14 rfl ?_
    refine b_iald dX10_hasR_15 ly_591 g1 ?_
    obtain ⟨g3, h⟩ := h
    refine b_if_lt 36 dX10_hasR_16 g3 (by decide) (fun c2 => ?_) (fun c2 => ?_)
    · have h := ifT c2 h
      refine b_iconst dX10_hasR_36 ?_
      exact b_zret dX10_hasR_37 rfl (Or.inl rfl) h
    · have h := ifF c2 h
      refine b_aload_n dX10_hasR_19 rfl ?_
      refine b_aload_n dX10_hasR_20 rfl ?_
      refine b_getR dX10_hasR_21 fk_X10_109 ly_582 gg_582_17 ?_
      refine b_iload_n dX10_hasR_24 rfl ?_
      refine b_iald dX10_hasR_25 ly_591 g1 ?_
      refine b_cVi (as := [vI (m 591 x1)]) (st := []) dX10_hasR_26 mf_X10_hasR qs131 lk_X10_520 ly_582 rfl (hrec.1 _ _ _ _ h) (by omega) rfl rfl (Nat.le_of_ble_eq_true rfl) (by decide) rfl (fun _ => rfl) (fun r1 m1 h => ?_) (fun _ h => h)
      obtain ⟨g4, h⟩ := h
      refine b_if_eq 36 dX10_hasR_29 g4 (by decide) (fun c3 => ?_) (fun c3 => ?_)
      · have h := ifT c3 h
        refine b_iconst dX10_hasR_36 ?_
        exact b_zret dX10_hasR_37 rfl (Or.inl rfl) h
      · have h := ifF c3 h
        refine b_iconst dX10_hasR_32 ?_
        refine b_goto 37 dX10_hasR_33 (by decide) ?_
        exact b_zret dX10_hasR_37 rfl (Or.inr rfl) h
def R_X10_hasR : Nat → Nat → List Int → MM → (Int → MM → Prop) → (MM → Prop) → Prop
  | 0, _, _, _, _, _ => False
  | d + 1, i, as, m, Q, T => match i, as with
    | 0, [x1] => W_X10_hasR (R_X10_hasR d) x1 m Q T
    | _, _ => False
theorem pr_X10_hasR : ∀ d f : Nat, 1 + d ≤ f → HR_X10_hasR (R_X10_hasR d) f := by
  intro d
  induction d with
  | zero => intro f hf; exact ⟨fun _ _ _ _ h => h.elim, trivial⟩
  | succ d ih =>
    intro f hf
    have hr := ih (f - 1) (by omega)
    exact ⟨fun x1 m _ _ h => w_X10_hasR hr (show 1 ≤ f ∧ f - 1 + 1 ≤ f by omega) x1 m h, trivial⟩
theorem dX10_isDigit_0 : decode cX10_isDigit 0 = .ok (.iload_n 0, 1) := by decide +kernel
theorem dX10_isDigit_1 : decode cX10_isDigit 1 = .ok (.bipush 48, 2) := by decide +kernel
theorem dX10_isDigit_3 : decode cX10_isDigit 3 = .ok (.if_icmp .lt 13, 3) := by decide +kernel
theorem dX10_isDigit_6 : decode cX10_isDigit 6 = .ok (.iload_n 0, 1) := by decide +kernel
theorem dX10_isDigit_7 : decode cX10_isDigit 7 = .ok (.bipush 57, 2) := by decide +kernel
theorem dX10_isDigit_9 : decode cX10_isDigit 9 = .ok (.if_icmp .gt 7, 3) := by decide +kernel
theorem dX10_isDigit_12 : decode cX10_isDigit 12 = .ok (.iconst 1, 1) := by decide +kernel
theorem dX10_isDigit_13 : decode cX10_isDigit 13 = .ok (.goto 4, 3) := by decide +kernel
theorem dX10_isDigit_16 : decode cX10_isDigit 16 = .ok (.iconst 0, 1) := by decide +kernel
theorem dX10_isDigit_17 : decode cX10_isDigit 17 = .ok (.ireturn, 1) := by decide +kernel
/-! AlgebraHouseModel.isDigit(I)Z -/
def P_X10_isDigit (x0 : Int) (m : MM) (Q : Int → MM → Prop) : Prop := (RI x0) ∧ (if x0 < 48 then Q 0 m else (if 57 < x0 then Q 0 m else Q 1 m))
theorem p_X10_isDigit {f : Nat} {Q : Int → MM → Prop} {T : MM → Prop} (hf : 1 ≤ f) (x0 : Int) (m : MM) (h : P_X10_isDigit x0 m Q) : CC f M_X10_isDigit [vI x0] m Q T := by
  refine CC.of (plainFor_of_name (by decide)) (Nat.le_of_ble_eq_true rfl) (ls := [vI x0]) rfl ?_
  have h : (RI x0) ∧ (if x0 < 48 then Q 0 m else (if 57 < x0 then Q 0 m else Q 1 m)) := h
  refine b_iload_n dX10_isDigit_0 rfl ?_
  refine b_bipush dX10_isDigit_1 (by decide) ?_
  obtain ⟨g1, h⟩ := h
  refine b_icmp_lt 16 dX10_isDigit_3 g1 (by decide) (by decide) (fun c1 => ?_) (fun c1 => ?_)
  · have h := ifT c1 h
    refine b_iconst dX10_isDigit_16 ?_
    exact b_zret dX10_isDigit_17 rfl (Or.inl rfl) h
  · have h := ifF c1 h
    refine b_iload_n dX10_isDigit_6 rfl ?_
    refine b_bipush dX10_isDigit_7 (by decide) ?_
    refine b_icmp_gt 16 dX10_isDigit_9 g1 (by decide) (by decide) (fun c2 => ?_) (fun c2 => ?_)
    · have h := ifT c2 h
      refine b_iconst dX10_isDigit_16 ?_
      exact b_zret dX10_isDigit_17 rfl (Or.inl rfl) h
    · have h := ifF c2 h
      refine b_iconst dX10_isDigit_12 ?_
      refine b_goto 17 dX10_isDigit_13 (by decide) ?_
      exact b_zret dX10_isDigit_17 rfl (Or.inr rfl) h
theorem dX10_isKey_0 : decode cX10_isKey 0 = .ok (.aload_n 0, 1) := by decide +kernel
theorem dX10_isKey_1 : decode cX10_isKey 1 = .ok (.getfield 347, 3) := by decide +kernel
theorem dX10_isKey_4 : decode cX10_isKey 4 = .ok (.ifCond .ne 34, 3) := by decide +kernel
theorem dX10_isKey_7 : decode cX10_isKey 7 = .ok (.aload_n 0, 1) := by decide +kernel
theorem dX10_isKey_8 : decode cX10_isKey 8 = .ok (.getfield 93, 3) := by decide +kernel
theorem dX10_isKey_11 : decode cX10_isKey 11 = .ok (.aload_n 0, 1) := by decide +kernel
theorem dX10_isKey_12 : decode cX10_isKey 12 = .ok (.getfield 324, 3) := by decide +kernel
theorem dX10_isKey_15 : decode cX10_isKey 15 = .ok (.iaload, 1) := by decide +kernel
theorem dX10_isKey_16 : decode cX10_isKey 16 = .ok (.iconst 2, 1) := by decide +kernel
theorem dX10_isKey_17 : decode cX10_isKey 17 = .ok (.if_icmp .ne 21, 3) := by decide +kernel
theorem dX10_isKey_20 : decode cX10_isKey 20 = .ok (.aload_n 0, 1) := by decide +kernel
theorem dX10_isKey_21 : decode cX10_isKey 21 = .ok (.getfield 99, 3) := by decide +kernel
theorem dX10_isKey_24 : decode cX10_isKey 24 = .ok (.aload_n 0, 1) := by decide +kernel
theorem dX10_isKey_25 : decode cX10_isKey 25 = .ok (.getfield 324, 3) := by decide +kernel
theorem dX10_isKey_28 : decode cX10_isKey 28 = .ok (.laload, 1) := by decide +kernel
theorem dX10_isKey_29 : decode cX10_isKey 29 = .ok (.lload_n 1, 1) := by decide +kernel
theorem dX10_isKey_30 : decode cX10_isKey 30 = .ok (.lcmp, 1) := by decide +kernel
theorem dX10_isKey_31 : decode cX10_isKey 31 = .ok (.ifCond .ne 7, 3) := by decide +kernel
theorem dX10_isKey_34 : decode cX10_isKey 34 = .ok (.iconst 1, 1) := by decide +kernel
theorem dX10_isKey_35 : decode cX10_isKey 35 = .ok (.goto 4, 3) := by decide +kernel
theorem dX10_isKey_38 : decode cX10_isKey 38 = .ok (.iconst 0, 1) := by decide +kernel
theorem dX10_isKey_39 : decode cX10_isKey 39 = .ok (.ireturn, 1) := by decide +kernel
/-! AlgebraHouseModel.isKey(J)Z -/
def P_X10_isKey (x1 : Int) (m : MM) (Q : Int → MM → Prop) : Prop := (RI (m 582 10)) ∧ (if (m 582 10) = 0 then (0 ≤ (m 582 9) ∧ (m 582 9) < 420) ∧ (RI (m 587 (m 582 9))) ∧ (if (m 587 (m 582 9)) = 2 then (RL (m 589 (m 582 9))) ∧ (RL x1) ∧ (if (m 589 (m 582 9)) = x1 then Q 1 m else Q 0 m) else Q 0 m) else Q 0 m)
theorem p_X10_isKey {f : Nat} {Q : Int → MM → Prop} {T : MM → Prop} (hf : 1 ≤ f) (x1 : Int) (m : MM) (h : P_X10_isKey x1 m Q) : CC f M_X10_isKey [vR 582, vL x1] m Q T := by
  refine CC.of (plainFor_of_name (by decide)) (Nat.le_of_ble_eq_true rfl) (ls := [vR 582, vL x1, vU]) rfl ?_
  have h : (RI (m 582 10)) ∧ (if (m 582 10) = 0 then (0 ≤ (m 582 9) ∧ (m 582 9) < 420) ∧ (RI (m 587 (m 582 9))) ∧ (if (m 587 (m 582 9)) = 2 then (RL (m 589 (m 582 9))) ∧ (RL x1) ∧ (if (m 589 (m 582 9)) = x1 then Q 1 m else Q 0 m) else Q 0 m) else Q 0 m) := h
  refine b_aload_n dX10_isKey_0 rfl ?_
  refine b_getI dX10_isKey_1 fk_X10_347 ly_582 ?_
  obtain ⟨g1, h⟩ := h
  refine b_if_ne 38 dX10_isKey_4 g1 (by decide) (fun c1 => ?_) (fun c1 => ?_)
  · have h := ifF c1 h
    refine b_iconst dX10_isKey_38 ?_
    exact b_zret dX10_isKey_39 rfl (Or.inl rfl) h
  · have h := ifT (Decidable.of_not_not c1) h
    refine b_aload_n dX10_isKey_7 rfl ?_
    refine b_getR dX10_isKey_8 fk_X10_93 ly_582 gg_582_5 ?_
    refine b_aload_n dX10_isKey_11 rfl ?_
    refine b_getI dX10_isKey_12 fk_X10_324 ly_582 ?_
    obtain ⟨g2, h⟩ := h
    refine b_iald dX10_isKey_15 ly_587 g2 ?_
    refine b_iconst dX10_isKey_16 ?_
    obtain ⟨g3, h⟩ := h
    refine b_icmp_ne 38 dX10_isKey_17 g3 (by decide) (by decide) (fun c2 => ?_) (fun c2 => ?_)
    · have h := ifF c2 h
      refine b_iconst dX10_isKey_38 ?_
      exact b_zret dX10_isKey_39 rfl (Or.inl rfl) h
    · have h := ifT (Decidable.of_not_not c2) h
      refine b_aload_n dX10_isKey_20 rfl ?_
      refine b_getR dX10_isKey_21 fk_X10_99 ly_582 gg_582_7 ?_
      refine b_aload_n dX10_isKey_24 rfl ?_
      refine b_getI dX10_isKey_25 fk_X10_324 ly_582 ?_
      refine b_lald dX10_isKey_28 ly_589 g2 ?_
      refine b_lload_n dX10_isKey_29 rfl ?_
      obtain ⟨g4, h⟩ := h
      obtain ⟨g5, h⟩ := h
      refine b_lc_ne 38 dX10_isKey_30 dX10_isKey_31 g4 g5 (by decide) (fun c3 => ?_) (fun c3 => ?_)
      · have h := ifF c3 h
        refine b_iconst dX10_isKey_38 ?_
        exact b_zret dX10_isKey_39 rfl (Or.inl rfl) h
      · have h := ifT (Decidable.of_not_not c3) h
        refine b_iconst dX10_isKey_34 ?_
        refine b_goto 39 dX10_isKey_35 (by decide) ?_
        exact b_zret dX10_isKey_39 rfl (Or.inr rfl) h
theorem dX10_isLetter_0 : decode cX10_isLetter 0 = .ok (.iload_n 0, 1) := by decide +kernel
theorem dX10_isLetter_1 : decode cX10_isLetter 1 = .ok (.bipush 97, 2) := by decide +kernel
theorem dX10_isLetter_3 : decode cX10_isLetter 3 = .ok (.if_icmp .lt 9, 3) := by decide +kernel
theorem dX10_isLetter_6 : decode cX10_isLetter 6 = .ok (.iload_n 0, 1) := by decide +kernel
theorem dX10_isLetter_7 : decode cX10_isLetter 7 = .ok (.bipush 122, 2) := by decide +kernel
theorem dX10_isLetter_9 : decode cX10_isLetter 9 = .ok (.if_icmp .le 15, 3) := by decide +kernel
theorem dX10_isLetter_12 : decode cX10_isLetter 12 = .ok (.iload_n 0, 1) := by decide +kernel
theorem dX10_isLetter_13 : decode cX10_isLetter 13 = .ok (.bipush 65, 2) := by decide +kernel
theorem dX10_isLetter_15 : decode cX10_isLetter 15 = .ok (.if_icmp .lt 13, 3) := by decide +kernel
theorem dX10_isLetter_18 : decode cX10_isLetter 18 = .ok (.iload_n 0, 1) := by decide +kernel
theorem dX10_isLetter_19 : decode cX10_isLetter 19 = .ok (.bipush 90, 2) := by decide +kernel
theorem dX10_isLetter_21 : decode cX10_isLetter 21 = .ok (.if_icmp .gt 7, 3) := by decide +kernel
theorem dX10_isLetter_24 : decode cX10_isLetter 24 = .ok (.iconst 1, 1) := by decide +kernel
theorem dX10_isLetter_25 : decode cX10_isLetter 25 = .ok (.goto 4, 3) := by decide +kernel
theorem dX10_isLetter_28 : decode cX10_isLetter 28 = .ok (.iconst 0, 1) := by decide +kernel
theorem dX10_isLetter_29 : decode cX10_isLetter 29 = .ok (.ireturn, 1) := by decide +kernel
/-! AlgebraHouseModel.isLetter(I)Z -/
def P_X10_isLetter_12 (Q : Int → MM → Prop) (x0 : Int) (m : MM) : Prop := (RI x0) ∧ (if x0 < 65 then Q 0 m else (if 90 < x0 then Q 0 m else Q 1 m))
def P_X10_isLetter (x0 : Int) (m : MM) (Q : Int → MM → Prop) : Prop := (RI x0) ∧ (if x0 < 97 then P_X10_isLetter_12 Q x0 m else (if x0 ≤ 122 then Q 1 m else P_X10_isLetter_12 Q x0 m))
theorem pl_X10_isLetter_12 {f : Nat} {Q : Int → MM → Prop} {T : MM → Prop} (hf : 1 ≤ f) : ∀ (x0 : Int) (m : MM), P_X10_isLetter_12 Q x0 m → B f M_X10_isLetter 12 [vI x0] [] m Q T := by
  intro x0 m h
  have h : (RI x0) ∧ (if x0 < 65 then Q 0 m else (if 90 < x0 then Q 0 m else Q 1 m)) := h
  refine b_iload_n dX10_isLetter_12 rfl ?_
  refine b_bipush dX10_isLetter_13 (by decide) ?_
  obtain ⟨g1, h⟩ := h
  refine b_icmp_lt 28 dX10_isLetter_15 g1 (by decide) (by decide) (fun c1 => ?_) (fun c1 => ?_)
  · have h := ifT c1 h
    refine b_iconst dX10_isLetter_28 ?_
    exact b_zret dX10_isLetter_29 rfl (Or.inl rfl) h
  · have h := ifF c1 h
    refine b_iload_n dX10_isLetter_18 rfl ?_
    refine b_bipush dX10_isLetter_19 (by decide) ?_
    refine b_icmp_gt 28 dX10_isLetter_21 g1 (by decide) (by decide) (fun c2 => ?_) (fun c2 => ?_)
    · have h := ifT c2 h
      refine b_iconst dX10_isLetter_28 ?_
      exact b_zret dX10_isLetter_29 rfl (Or.inl rfl) h
    · have h := ifF c2 h
      refine b_iconst dX10_isLetter_24 ?_
      refine b_goto 29 dX10_isLetter_25 (by decide) ?_
      exact b_zret dX10_isLetter_29 rfl (Or.inr rfl) h
theorem p_X10_isLetter {f : Nat} {Q : Int → MM → Prop} {T : MM → Prop} (hf : 1 ≤ f) (x0 : Int) (m : MM) (h : P_X10_isLetter x0 m Q) : CC f M_X10_isLetter [vI x0] m Q T := by
  refine CC.of (plainFor_of_name (by decide)) (Nat.le_of_ble_eq_true rfl) (ls := [vI x0]) rfl ?_
  have h : (RI x0) ∧ (if x0 < 97 then P_X10_isLetter_12 Q x0 m else (if x0 ≤ 122 then Q 1 m else P_X10_isLetter_12 Q x0 m)) := h
  refine b_iload_n dX10_isLetter_0 rfl ?_
  refine b_bipush dX10_isLetter_1 (by decide) ?_
  obtain ⟨g1, h⟩ := h
  refine b_icmp_lt 12 dX10_isLetter_3 g1 (by decide) (by decide) (fun c1 => ?_) (fun c1 => ?_)
  · have h := ifT c1 h
    exact pl_X10_isLetter_12 hf _ _ h
  · have h := ifF c1 h
    refine b_iload_n dX10_isLetter_6 rfl ?_
    refine b_bipush dX10_isLetter_7 (by decide) ?_
    refine b_icmp_le 24 dX10_isLetter_9 g1 (by decide) (by decide) (fun c2 => ?_) (fun c2 => ?_)
    · have h := ifT c2 h
      refine b_iconst dX10_isLetter_24 ?_
      refine b_goto 29 dX10_isLetter_25 (by decide) ?_
      exact b_zret dX10_isLetter_29 rfl (Or.inr rfl) h
    · have h := ifF c2 h
      exact pl_X10_isLetter_12 hf _ _ h
theorem dX10_isTwin_0 : decode cX10_isTwin 0 = .ok (.aload_n 0, 1) := by decide +kernel
theorem dX10_isTwin_1 : decode cX10_isTwin 1 = .ok (.getfield 155, 3) := by decide +kernel
theorem dX10_isTwin_4 : decode cX10_isTwin 4 = .ok (.iload_n 2, 1) := by decide +kernel
theorem dX10_isTwin_5 : decode cX10_isTwin 5 = .ok (.laload, 1) := by decide +kernel
theorem dX10_isTwin_6 : decode cX10_isTwin 6 = .ok (.aload_n 0, 1) := by decide +kernel
theorem dX10_isTwin_7 : decode cX10_isTwin 7 = .ok (.getfield 155, 3) := by decide +kernel
theorem dX10_isTwin_10 : decode cX10_isTwin 10 = .ok (.iload_n 1, 1) := by decide +kernel
theorem dX10_isTwin_11 : decode cX10_isTwin 11 = .ok (.laload, 1) := by decide +kernel
theorem dX10_isTwin_12 : decode cX10_isTwin 12 = .ok (.lcmp, 1) := by decide +kernel
theorem dX10_isTwin_13 : decode cX10_isTwin 13 = .ok (.ifCond .ne 22, 3) := by decide +kernel
theorem dX10_isTwin_16 : decode cX10_isTwin 16 = .ok (.aload_n 0, 1) := by decide +kernel
theorem dX10_isTwin_17 : decode cX10_isTwin 17 = .ok (.getfield 164, 3) := by decide +kernel
theorem dX10_isTwin_20 : decode cX10_isTwin 20 = .ok (.iload_n 2, 1) := by decide +kernel
theorem dX10_isTwin_21 : decode cX10_isTwin 21 = .ok (.iaload, 1) := by decide +kernel
theorem dX10_isTwin_22 : decode cX10_isTwin 22 = .ok (.aload_n 0, 1) := by decide +kernel
theorem dX10_isTwin_23 : decode cX10_isTwin 23 = .ok (.getfield 164, 3) := by decide +kernel
theorem dX10_isTwin_26 : decode cX10_isTwin 26 = .ok (.iload_n 1, 1) := by decide +kernel
theorem dX10_isTwin_27 : decode cX10_isTwin 27 = .ok (.iaload, 1) := by decide +kernel
theorem dX10_isTwin_28 : decode cX10_isTwin 28 = .ok (.if_icmp .ne 7, 3) := by decide +kernel
theorem dX10_isTwin_31 : decode cX10_isTwin 31 = .ok (.iconst 1, 1) := by decide +kernel
theorem dX10_isTwin_32 : decode cX10_isTwin 32 = .ok (.goto 4, 3) := by decide +kernel
theorem dX10_isTwin_35 : decode cX10_isTwin 35 = .ok (.iconst 0, 1) := by decide +kernel
theorem dX10_isTwin_36 : decode cX10_isTwin 36 = .ok (.istore_n 3, 1) := by decide +kernel
theorem dX10_isTwin_37 : decode cX10_isTwin 37 = .ok (.iconst 0, 1) := by decide +kernel
theorem dX10_isTwin_38 : decode cX10_isTwin 38 = .ok (.istore 4, 2) := by decide +kernel
theorem dX10_isTwin_40 : decode cX10_isTwin 40 = .ok (.iload 4, 2) := by decide +kernel
theorem dX10_isTwin_42 : decode cX10_isTwin 42 = .ok (.aload_n 0, 1) := by decide +kernel
theorem dX10_isTwin_43 : decode cX10_isTwin 43 = .ok (.getfield 164, 3) := by decide +kernel
theorem dX10_isTwin_46 : decode cX10_isTwin 46 = .ok (.iload_n 1, 1) := by decide +kernel
theorem dX10_isTwin_47 : decode cX10_isTwin 47 = .ok (.iaload, 1) := by decide +kernel
theorem dX10_isTwin_48 : decode cX10_isTwin 48 = .ok (.if_icmp .ge 115, 3) := by decide +kernel
theorem dX10_isTwin_51 : decode cX10_isTwin 51 = .ok (.iload_n 3, 1) := by decide +kernel
theorem dX10_isTwin_52 : decode cX10_isTwin 52 = .ok (.ifCond .eq 111, 3) := by decide +kernel
theorem dX10_isTwin_55 : decode cX10_isTwin 55 = .ok (.iconst 3, 1) := by decide +kernel
theorem dX10_isTwin_56 : decode cX10_isTwin 56 = .ok (.iload_n 1, 1) := by decide +kernel
theorem dX10_isTwin_57 : decode cX10_isTwin 57 = .ok (.imul, 1) := by decide +kernel
theorem dX10_isTwin_58 : decode cX10_isTwin 58 = .ok (.iload 4, 2) := by decide +kernel
theorem dX10_isTwin_60 : decode cX10_isTwin 60 = .ok (.iadd, 1) := by decide +kernel
theorem dX10_isTwin_61 : decode cX10_isTwin 61 = .ok (.istore 5, 2) := by decide +kernel
theorem dX10_isTwin_63 : decode cX10_isTwin 63 = .ok (.iconst 3, 1) := by decide +kernel
theorem dX10_isTwin_64 : decode cX10_isTwin 64 = .ok (.iload_n 2, 1) := by decide +kernel
theorem dX10_isTwin_65 : decode cX10_isTwin 65 = .ok (.imul, 1) := by decide +kernel
theorem dX10_isTwin_66 : decode cX10_isTwin 66 = .ok (.iload 4, 2) := by decide +kernel
theorem dX10_isTwin_68 : decode cX10_isTwin 68 = .ok (.iadd, 1) := by decide +kernel
theorem dX10_isTwin_69 : decode cX10_isTwin 69 = .ok (.istore 6, 2) := by decide +kernel
theorem dX10_isTwin_71 : decode cX10_isTwin 71 = .ok (.aload_n 0, 1) := by decide +kernel
theorem dX10_isTwin_72 : decode cX10_isTwin 72 = .ok (.getfield 182, 3) := by decide +kernel
theorem dX10_isTwin_75 : decode cX10_isTwin 75 = .ok (.iload 5, 2) := by decide +kernel
theorem dX10_isTwin_77 : decode cX10_isTwin 77 = .ok (.iaload, 1) := by decide +kernel
theorem dX10_isTwin_78 : decode cX10_isTwin 78 = .ok (.bipush (-9), 2) := by decide +kernel
theorem dX10_isTwin_80 : decode cX10_isTwin 80 = .ok (.if_icmp .eq 75, 3) := by decide +kernel
theorem dX10_isTwin_83 : decode cX10_isTwin 83 = .ok (.aload_n 0, 1) := by decide +kernel
theorem dX10_isTwin_84 : decode cX10_isTwin 84 = .ok (.getfield 203, 3) := by decide +kernel
theorem dX10_isTwin_87 : decode cX10_isTwin 87 = .ok (.iload 5, 2) := by decide +kernel
theorem dX10_isTwin_89 : decode cX10_isTwin 89 = .ok (.baload, 1) := by decide +kernel
theorem dX10_isTwin_90 : decode cX10_isTwin 90 = .ok (.aload_n 0, 1) := by decide +kernel
theorem dX10_isTwin_91 : decode cX10_isTwin 91 = .ok (.getfield 203, 3) := by decide +kernel
theorem dX10_isTwin_94 : decode cX10_isTwin 94 = .ok (.iload 6, 2) := by decide +kernel
theorem dX10_isTwin_96 : decode cX10_isTwin 96 = .ok (.baload, 1) := by decide +kernel
theorem dX10_isTwin_97 : decode cX10_isTwin 97 = .ok (.if_icmp .ne 58, 3) := by decide +kernel
theorem dX10_isTwin_100 : decode cX10_isTwin 100 = .ok (.aload_n 0, 1) := by decide +kernel
theorem dX10_isTwin_101 : decode cX10_isTwin 101 = .ok (.getfield 182, 3) := by decide +kernel
theorem dX10_isTwin_104 : decode cX10_isTwin 104 = .ok (.iload 5, 2) := by decide +kernel
theorem dX10_isTwin_106 : decode cX10_isTwin 106 = .ok (.iaload, 1) := by decide +kernel
theorem dX10_isTwin_107 : decode cX10_isTwin 107 = .ok (.aload_n 0, 1) := by decide +kernel
theorem dX10_isTwin_108 : decode cX10_isTwin 108 = .ok (.getfield 182, 3) := by decide +kernel
theorem dX10_isTwin_111 : decode cX10_isTwin 111 = .ok (.iload 6, 2) := by decide +kernel
theorem dX10_isTwin_113 : decode cX10_isTwin 113 = .ok (.iaload, 1) := by decide +kernel
theorem dX10_isTwin_114 : decode cX10_isTwin 114 = .ok (.if_icmp .ne 41, 3) := by decide +kernel
theorem dX10_isTwin_117 : decode cX10_isTwin 117 = .ok (.aload_n 0, 1) := by decide +kernel
theorem dX10_isTwin_118 : decode cX10_isTwin 118 = .ok (.getfield 185, 3) := by decide +kernel
theorem dX10_isTwin_121 : decode cX10_isTwin 121 = .ok (.iload 5, 2) := by decide +kernel
theorem dX10_isTwin_123 : decode cX10_isTwin 123 = .ok (.iaload, 1) := by decide +kernel
theorem dX10_isTwin_124 : decode cX10_isTwin 124 = .ok (.aload_n 0, 1) := by decide +kernel
theorem dX10_isTwin_125 : decode cX10_isTwin 125 = .ok (.getfield 185, 3) := by decide +kernel
theorem dX10_isTwin_128 : decode cX10_isTwin 128 = .ok (.iload 6, 2) := by decide +kernel
theorem dX10_isTwin_130 : decode cX10_isTwin 130 = .ok (.iaload, 1) := by decide +kernel
theorem dX10_isTwin_131 : decode cX10_isTwin 131 = .ok (.if_icmp .ne 24, 3) := by decide +kernel
theorem dX10_isTwin_134 : decode cX10_isTwin 134 = .ok (.aload_n 0, 1) := by decide +kernel
theorem dX10_isTwin_135 : decode cX10_isTwin 135 = .ok (.getfield 188, 3) := by decide +kernel
theorem dX10_isTwin_138 : decode cX10_isTwin 138 = .ok (.iload 5, 2) := by decide +kernel
theorem dX10_isTwin_140 : decode cX10_isTwin 140 = .ok (.iaload, 1) := by decide +kernel
theorem dX10_isTwin_141 : decode cX10_isTwin 141 = .ok (.aload_n 0, 1) := by decide +kernel
theorem dX10_isTwin_142 : decode cX10_isTwin 142 = .ok (.getfield 188, 3) := by decide +kernel
theorem dX10_isTwin_145 : decode cX10_isTwin 145 = .ok (.iload 6, 2) := by decide +kernel
theorem dX10_isTwin_147 : decode cX10_isTwin 147 = .ok (.iaload, 1) := by decide +kernel
theorem dX10_isTwin_148 : decode cX10_isTwin 148 = .ok (.if_icmp .ne 7, 3) := by decide +kernel
theorem dX10_isTwin_151 : decode cX10_isTwin 151 = .ok (.iconst 1, 1) := by decide +kernel
theorem dX10_isTwin_152 : decode cX10_isTwin 152 = .ok (.goto 4, 3) := by decide +kernel
theorem dX10_isTwin_155 : decode cX10_isTwin 155 = .ok (.iconst 0, 1) := by decide +kernel
theorem dX10_isTwin_156 : decode cX10_isTwin 156 = .ok (.istore_n 3, 1) := by decide +kernel
theorem dX10_isTwin_157 : decode cX10_isTwin 157 = .ok (.iinc 4 1, 3) := by decide +kernel
theorem dX10_isTwin_160 : decode cX10_isTwin 160 = .ok (.goto (-120), 3) := by decide +kernel
theorem dX10_isTwin_163 : decode cX10_isTwin 163 = .ok (.iload_n 3, 1) := by decide +kernel
theorem dX10_isTwin_164 : decode cX10_isTwin 164 = .ok (.ireturn, 1) := by decide +kernel
/-! AlgebraHouseModel.isTwin(II)Z -/
def P_X10_isTwin_40 (Q : Int → MM → Prop) : Nat → Int → Int → Int → Int → MM → Prop
  | 0, _, _, _, _, _ => False
  | n + 1, x1, x2, x3, x4, m => (0 ≤ x1 ∧ x1 < 21) ∧ (RI x4) ∧ (RI (m 609 x1)) ∧ (if (m 609 x1) ≤ x4 then (x3 = 0 ∨ x3 = 1) ∧ Q x3 m else (RI x3) ∧ (if x3 = 0 then (x3 = 0 ∨ x3 = 1) ∧ Q x3 m else (0 ≤ ((3 * x1) + x4) ∧ ((3 * x1) + x4) < 63) ∧ (RI (m 615 ((3 * x1) + x4))) ∧ (if (m 615 ((3 * x1) + x4)) = (-9) then P_X10_isTwin_40 Q n x1 x2 0 (x4 + 1) m else (0 ≤ ((3 * x2) + x4) ∧ ((3 * x2) + x4) < 63) ∧ (RI (m 622 ((3 * x1) + x4))) ∧ (RI (m 622 ((3 * x2) + x4))) ∧ (if (m 622 ((3 * x1) + x4)) = (m 622 ((3 * x2) + x4)) then (RI (m 615 ((3 * x2) + x4))) ∧ (if (m 615 ((3 * x1) + x4)) = (m 615 ((3 * x2) + x4)) then (RI (m 616 ((3 * x1) + x4))) ∧ (RI (m 616 ((3 * x2) + x4))) ∧ (if (m 616 ((3 * x1) + x4)) = (m 616 ((3 * x2) + x4)) then (RI (m 617 ((3 * x1) + x4))) ∧ (RI (m 617 ((3 * x2) + x4))) ∧ (if (m 617 ((3 * x1) + x4)) = (m 617 ((3 * x2) + x4)) then P_X10_isTwin_40 Q n x1 x2 1 (x4 + 1) m else P_X10_isTwin_40 Q n x1 x2 0 (x4 + 1) m) else P_X10_isTwin_40 Q n x1 x2 0 (x4 + 1) m) else P_X10_isTwin_40 Q n x1 x2 0 (x4 + 1) m) else P_X10_isTwin_40 Q n x1 x2 0 (x4 + 1) m))))
def P_X10_isTwin (x1 : Int) (x2 : Int) (m : MM) (Q : Int → MM → Prop) : Prop := (0 ≤ x2 ∧ x2 < 21) ∧ (0 ≤ x1 ∧ x1 < 21) ∧ (RL (m 606 x2)) ∧ (RL (m 606 x1)) ∧ (if (m 606 x2) = (m 606 x1) then (RI (m 609 x2)) ∧ (RI (m 609 x1)) ∧ (if (m 609 x2) = (m 609 x1) then ∃ nn, P_X10_isTwin_40 Q nn x1 x2 1 0 m else ∃ nn, P_X10_isTwin_40 Q nn x1 x2 0 0 m) else ∃ nn, P_X10_isTwin_40 Q nn x1 x2 0 0 m)
theorem pl_X10_isTwin_40 {f : Nat} {Q : Int → MM → Prop} {T : MM → Prop} (hf : 1 ≤ f) : ∀ (n : Nat) (x1 : Int) (x2 : Int) (x3 : Int) (x4 : Int) (m : MM), P_X10_isTwin_40 Q n x1 x2 x3 x4 m → B f M_X10_isTwin 40 [vR 582, vI x1, vI x2, vI x3, vI x4, vU, vU] [] m Q T := by
  intro n
  induction n with
  | zero => intro x1 x2 x3 x4 m h; exact h.elim
  | succ n ih =>
    intro x1 x2 x3 x4 m h
    have h : (0 ≤ x1 ∧ x1 < 21) ∧ (RI x4) ∧ (RI (m 609 x1)) ∧ (if (m 609 x1) ≤ x4 then (x3 = 0 ∨ x3 = 1) ∧ Q x3 m else (RI x3) ∧ (if x3 = 0 then (x3 = 0 ∨ x3 = 1) ∧ Q x3 m else (0 ≤ ((3 * x1) + x4) ∧ ((3 * x1) + x4) < 63) ∧ (RI (m 615 ((3 * x1) + x4))) ∧ (if (m 615 ((3 * x1) + x4)) = (-9) then P_X10_isTwin_40 Q n x1 x2 0 (x4 + 1) m else (0 ≤ ((3 * x2) + x4) ∧ ((3 * x2) + x4) < 63) ∧ (RI (m 622 ((3 * x1) + x4))) ∧ (RI (m 622 ((3 * x2) + x4))) ∧ (if (m 622 ((3 * x1) + x4)) = (m 622 ((3 * x2) + x4)) then (RI (m 615 ((3 * x2) + x4))) ∧ (if (m 615 ((3 * x1) + x4)) = (m 615 ((3 * x2) + x4)) then (RI (m 616 ((3 * x1) + x4))) ∧ (RI (m 616 ((3 * x2) + x4))) ∧ (if (m 616 ((3 * x1) + x4)) = (m 616 ((3 * x2) + x4)) then (RI (m 617 ((3 * x1) + x4))) ∧ (RI (m 617 ((3 * x2) + x4))) ∧ (if (m 617 ((3 * x1) + x4)) = (m 617 ((3 * x2) + x4)) then P_X10_isTwin_40 Q n x1 x2 1 (x4 + 1) m else P_X10_isTwin_40 Q n x1 x2 0 (x4 + 1) m) else P_X10_isTwin_40 Q n x1 x2 0 (x4 + 1) m) else P_X10_isTwin_40 Q n x1 x2 0 (x4 + 1) m) else P_X10_isTwin_40 Q n x1 x2 0 (x4 + 1) m)))) := h
    refine b_iload dX10_isTwin_40 rfl ?_
    refine b_aload_n dX10_isTwin_42 rfl ?_
    refine b_getR dX10_isTwin_43 fk_X10_164 ly_582 gg_582_38 ?_
    refine b_iload_n dX10_isTwin_46 rfl ?_
    obtain ⟨g1, h⟩ := h
    refine b_iald dX10_isTwin_47 ly_609 g1 ?_
    obtain ⟨g2, h⟩ := h
    obtain ⟨g3, h⟩ := h
    refine b_icmp_ge 163 dX10_isTwin_48 g2 g3 (by decide) (fun c1 => ?_) (fun c1 => ?_)
    · have h := ifT c1 h
      refine b_iload_n dX10_isTwin_163 rfl ?_
      obtain ⟨g4, h⟩ := h
      exact b_zret dX10_isTwin_164 rfl g4 h
    · have h := ifF c1 h
      refine b_iload_n dX10_isTwin_51 rfl ?_
      obtain ⟨g5, h⟩ := h
      refine b_if_eq 163 dX10_isTwin_52 g5 (by decide) (fun c2 => ?_) (fun c2 => ?_)
      · have h := ifT c2 h
        refine b_iload_n dX10_isTwin_163 rfl ?_
        obtain ⟨g6, h⟩ := h
        exact b_zret dX10_isTwin_164 rfl g6 h
      · have h := ifF c2 h
        refine b_iconst dX10_isTwin_55 ?_
        refine b_iload_n dX10_isTwin_56 rfl ?_
        refine b_imul dX10_isTwin_57 ?_
        refine b_iload dX10_isTwin_58 rfl ?_
        refine b_iadd dX10_isTwin_60 ?_
        refine b_istore (ls' := [vR 582, vI x1, vI x2, vI x3, vI x4, vI ((3 * x1) + x4), vU]) dX10_isTwin_61 (Nat.le_of_ble_eq_true rfl) rfl ?_
        refine b_iconst dX10_isTwin_63 ?_
        refine b_iload_n dX10_isTwin_64 rfl ?_
        refine b_imul dX10_isTwin_65 ?_
        refine b_iload dX10_isTwin_66 rfl ?_
        refine b_iadd dX10_isTwin_68 ?_
        refine b_istore (ls' := [vR 582, vI x1, vI x2, vI x3, vI x4, vI ((3 * x1) + x4), vI ((3 * x2) + x4)]) dX10_isTwin_69 (Nat.le_of_ble_eq_true rfl) rfl ?_
        refine b_aload_n dX10_isTwin_71 rfl ?_
        refine b_getR dX10_isTwin_72 fk_X10_182 ly_582 gg_582_44 ?_
        refine b_iload dX10_isTwin_75 rfl ?_
        obtain ⟨g7, h⟩ := h
        refine b_iald dX10_isTwin_77 ly_615 g7 ?_
        refine b_bipush dX10_isTwin_78 (by decide) ?_
        obtain ⟨g8, h⟩ := h
        refine b_icmp_eq 155 dX10_isTwin_80 g8 (by decide) (by decide) (fun c3 => ?_) (fun c3 => ?_)
        · have h := ifT c3 h
          refine b_iconst dX10_isTwin_155 ?_
          refine b_istore_n (ls' := [vR 582, vI x1, vI x2, vI 0, vI x4, vI ((3 * x1) + x4), vI ((3 * x2) + x4)]) dX10_isTwin_156 (Nat.le_of_ble_eq_true rfl) rfl ?_
          refine b_iinc (ls' := [vR 582, vI x1, vI x2, vI 0, vI (x4 + 1), vI ((3 * x1) + x4), vI ((3 * x2) + x4)]) dX10_isTwin_157 rfl rfl ?_
          refine b_goto 40 dX10_isTwin_160 (by decide) ?_
          refine b_fgt [true, true, true, true, true, false, false] (ls' := [vR 582, vI x1, vI x2, vI 0, vI (x4 + 1), vU, vU]) rfl rfl ?_
          exact ih _ _ _ _ _ h
        · have h := ifF c3 h
          refine b_aload_n dX10_isTwin_83 rfl ?_
          refine b_getR dX10_isTwin_84 fk_X10_203 ly_582 gg_582_51 ?_
          refine b_iload dX10_isTwin_87 rfl ?_
          refine b_zald dX10_isTwin_89 ly_622 g7 ?_
          refine b_aload_n dX10_isTwin_90 rfl ?_
          refine b_getR dX10_isTwin_91 fk_X10_203 ly_582 gg_582_51 ?_
          refine b_iload dX10_isTwin_94 rfl ?_
          obtain ⟨g9, h⟩ := h
          refine b_zald dX10_isTwin_96 ly_622 g9 ?_
          obtain ⟨g10, h⟩ := h
          obtain ⟨g11, h⟩ := h
          refine b_icmp_ne 155 dX10_isTwin_97 g10 g11 (by decide) (fun c4 => ?_) (fun c4 => ?_)
          · have h := ifF c4 h
            refine b_iconst dX10_isTwin_155 ?_
            refine b_istore_n (ls' := [vR 582, vI x1, vI x2, vI 0, vI x4, vI ((3 * x1) + x4), vI ((3 * x2) + x4)]) dX10_isTwin_156 (Nat.le_of_ble_eq_true rfl) rfl ?_
            refine b_iinc (ls' := [vR 582, vI x1, vI x2, vI 0, vI (x4 + 1), vI ((3 * x1) + x4), vI ((3 * x2) + x4)]) dX10_isTwin_157 rfl rfl ?_
            refine b_goto 40 dX10_isTwin_160 (by decide) ?_
            refine b_fgt [true, true, true, true, true, false, false] (ls' := [vR 582, vI x1, vI x2, vI 0, vI (x4 + 1), vU, vU]) rfl rfl ?_
            exact ih _ _ _ _ _ h
          · have h := ifT (Decidable.of_not_not c4) h
            refine b_aload_n dX10_isTwin_100 rfl ?_
            refine b_getR dX10_isTwin_101 fk_X10_182 ly_582 gg_582_44 ?_
            refine b_iload dX10_isTwin_104 rfl ?_
            refine b_iald dX10_isTwin_106 ly_615 g7 ?_
            refine b_aload_n dX10_isTwin_107 rfl ?_
            refine b_getR dX10_isTwin_108 fk_X10_182 ly_582 gg_582_44 ?_
            refine b_iload dX10_isTwin_111 rfl ?_
            refine b_iald dX10_isTwin_113 ly_615 g9 ?_
            obtain ⟨g12, h⟩ := h
            refine b_icmp_ne 155 dX10_isTwin_114 g8 g12 (by decide) (fun c5 => ?_) (fun c5 => ?_)
            · have h := ifF c5 h
              refine b_iconst dX10_isTwin_155 ?_
              refine b_istore_n (ls' := [vR 582, vI x1, vI x2, vI 0, vI x4, vI ((3 * x1) + x4), vI ((3 * x2) + x4)]) dX10_isTwin_156 (Nat.le_of_ble_eq_true rfl) rfl ?_
              refine b_iinc (ls' := [vR 582, vI x1, vI x2, vI 0, vI (x4 + 1), vI ((3 * x1) + x4), vI ((3 * x2) + x4)]) dX10_isTwin_157 rfl rfl ?_
              refine b_goto 40 dX10_isTwin_160 (by decide) ?_
              refine b_fgt [true, true, true, true, true, false, false] (ls' := [vR 582, vI x1, vI x2, vI 0, vI (x4 + 1), vU, vU]) rfl rfl ?_
              exact ih _ _ _ _ _ h
            · have h := ifT (Decidable.of_not_not c5) h
              refine b_aload_n dX10_isTwin_117 rfl ?_
              refine b_getR dX10_isTwin_118 fk_X10_185 ly_582 gg_582_45 ?_
              refine b_iload dX10_isTwin_121 rfl ?_
              refine b_iald dX10_isTwin_123 ly_616 g7 ?_
              refine b_aload_n dX10_isTwin_124 rfl ?_
              refine b_getR dX10_isTwin_125 fk_X10_185 ly_582 gg_582_45 ?_
              refine b_iload dX10_isTwin_128 rfl ?_
              refine b_iald dX10_isTwin_130 ly_616 g9 ?_
              obtain ⟨g13, h⟩ := h
              obtain ⟨g14, h⟩ := h
              refine b_icmp_ne 155 dX10_isTwin_131 g13 g14 (by decide) (fun c6 => ?_) (fun c6 => ?_)
              · have h := ifF c6 h
                refine b_iconst dX10_isTwin_155 ?_
                refine b_istore_n (ls' := [vR 582, vI x1, vI x2, vI 0, vI x4, vI ((3 * x1) + x4), vI ((3 * x2) + x4)]) dX10_isTwin_156 (Nat.le_of_ble_eq_true rfl) rfl ?_
                refine b_iinc (ls' := [vR 582, vI x1, vI x2, vI 0, vI (x4 + 1), vI ((3 * x1) + x4), vI ((3 * x2) + x4)]) dX10_isTwin_157 rfl rfl ?_
                refine b_goto 40 dX10_isTwin_160 (by decide) ?_
                refine b_fgt [true, true, true, true, true, false, false] (ls' := [vR 582, vI x1, vI x2, vI 0, vI (x4 + 1), vU, vU]) rfl rfl ?_
                exact ih _ _ _ _ _ h
              · have h := ifT (Decidable.of_not_not c6) h
                refine b_aload_n dX10_isTwin_134 rfl ?_
                refine b_getR dX10_isTwin_135 fk_X10_188 ly_582 gg_582_46 ?_
                refine b_iload dX10_isTwin_138 rfl ?_
                refine b_iald dX10_isTwin_140 ly_617 g7 ?_
                refine b_aload_n dX10_isTwin_141 rfl ?_
                refine b_getR dX10_isTwin_142 fk_X10_188 ly_582 gg_582_46 ?_
                refine b_iload dX10_isTwin_145 rfl ?_
                refine b_iald dX10_isTwin_147 ly_617 g9 ?_
                obtain ⟨g15, h⟩ := h
                obtain ⟨g16, h⟩ := h
                refine b_icmp_ne 155 dX10_isTwin_148 g15 g16 (by decide) (fun c7 => ?_) (fun c7 => ?_)
                · have h := ifF c7 h
                  refine b_iconst dX10_isTwin_155 ?_
                  refine b_istore_n (ls' := [vR 582, vI x1, vI x2, vI 0, vI x4, vI ((3 * x1) + x4), vI ((3 * x2) + x4)]) dX10_isTwin_156 (Nat.le_of_ble_eq_true rfl) rfl ?_
                  refine b_iinc (ls' := [vR 582, vI x1, vI x2, vI 0, vI (x4 + 1), vI ((3 * x1) + x4), vI ((3 * x2) + x4)]) dX10_isTwin_157 rfl rfl ?_
                  refine b_goto 40 dX10_isTwin_160 (by decide) ?_
                  refine b_fgt [true, true, true, true, true, false, false] (ls' := [vR 582, vI x1, vI x2, vI 0, vI (x4 + 1), vU, vU]) rfl rfl ?_
                  exact ih _ _ _ _ _ h
                · have h := ifT (Decidable.of_not_not c7) h
                  refine b_iconst dX10_isTwin_151 ?_
                  refine b_goto 156 dX10_isTwin_152 (by decide) ?_
                  refine b_istore_n (ls' := [vR 582, vI x1, vI x2, vI 1, vI x4, vI ((3 * x1) + x4), vI ((3 * x2) + x4)]) dX10_isTwin_156 (Nat.le_of_ble_eq_true rfl) rfl ?_
                  refine b_iinc (ls' := [vR 582, vI x1, vI x2, vI 1, vI (x4 + 1), vI ((3 * x1) + x4), vI ((3 * x2) + x4)]) dX10_isTwin_157 rfl rfl ?_
                  refine b_goto 40 dX10_isTwin_160 (by decide) ?_
                  refine b_fgt [true, true, true, true, true, false, false] (ls' := [vR 582, vI x1, vI x2, vI 1, vI (x4 + 1), vU, vU]) rfl rfl ?_
                  exact ih _ _ _ _ _ h
theorem p_X10_isTwin {f : Nat} {Q : Int → MM → Prop} {T : MM → Prop} (hf : 1 ≤ f) (x1 : Int) (x2 : Int) (m : MM) (h : P_X10_isTwin x1 x2 m Q) : CC f M_X10_isTwin [vR 582, vI x1, vI x2] m Q T := by
  refine CC.of (plainFor_of_name (by decide)) (Nat.le_of_ble_eq_true rfl) (ls := [vR 582, vI x1, vI x2, vU, vU, vU, vU]) rfl ?_
  have h : (0 ≤ x2 ∧ x2 < 21) ∧ (0 ≤ x1 ∧ x1 < 21) ∧ (RL (m 606 x2)) ∧ (RL (m 606 x1)) ∧ (if (m 606 x2) = (m 606 x1) then (RI (m 609 x2)) ∧ (RI (m 609 x1)) ∧ (if (m 609 x2) = (m 609 x1) then ∃ nn, P_X10_isTwin_40 Q nn x1 x2 1 0 m else ∃ nn, P_X10_isTwin_40 Q nn x1 x2 0 0 m) else ∃ nn, P_X10_isTwin_40 Q nn x1 x2 0 0 m) := h
  refine b_aload_n dX10_isTwin_0 rfl ?_
  refine b_getR dX10_isTwin_1 fk_X10_155 ly_582 gg_582_35 ?_
  refine b_iload_n dX10_isTwin_4 rfl ?_
  obtain ⟨g1, h⟩ := h
  refine b_lald dX10_isTwin_5 ly_606 g1 ?_
  refine b_aload_n dX10_isTwin_6 rfl ?_
  refine b_getR dX10_isTwin_7 fk_X10_155 ly_582 gg_582_35 ?_
  refine b_iload_n dX10_isTwin_10 rfl ?_
  obtain ⟨g2, h⟩ := h
  refine b_lald dX10_isTwin_11 ly_606 g2 ?_
  obtain ⟨g3, h⟩ := h
  obtain ⟨g4, h⟩ := h
  refine b_lc_ne 35 dX10_isTwin_12 dX10_isTwin_13 g3 g4 (by decide) (fun c1 => ?_) (fun c1 => ?_)
  · have h := ifF c1 h
    refine b_iconst dX10_isTwin_35 ?_
    refine b_istore_n (ls' := [vR 582, vI x1, vI x2, vI 0, vU, vU, vU]) dX10_isTwin_36 (Nat.le_of_ble_eq_true rfl) rfl ?_
    refine b_iconst dX10_isTwin_37 ?_
    refine b_istore (ls' := [vR 582, vI x1, vI x2, vI 0, vI 0, vU, vU]) dX10_isTwin_38 (Nat.le_of_ble_eq_true rfl) rfl ?_
    obtain ⟨nn, h⟩ := h
    exact pl_X10_isTwin_40 hf nn _ _ _ _ _ h
  · have h := ifT (Decidable.of_not_not c1) h
    refine b_aload_n dX10_isTwin_16 rfl ?_
    refine b_getR dX10_isTwin_17 fk_X10_164 ly_582 gg_582_38 ?_
    refine b_iload_n dX10_isTwin_20 rfl ?_
    refine b_iald dX10_isTwin_21 ly_609 g1 ?_
    refine b_aload_n dX10_isTwin_22 rfl ?_
    refine b_getR dX10_isTwin_23 fk_X10_164 ly_582 gg_582_38 ?_
    refine b_iload_n dX10_isTwin_26 rfl ?_
    refine b_iald dX10_isTwin_27 ly_609 g2 ?_
    obtain ⟨g5, h⟩ := h
    obtain ⟨g6, h⟩ := h
    refine b_icmp_ne 35 dX10_isTwin_28 g5 g6 (by decide) (fun c2 => ?_) (fun c2 => ?_)
    · have h := ifF c2 h
      refine b_iconst dX10_isTwin_35 ?_
      refine b_istore_n (ls' := [vR 582, vI x1, vI x2, vI 0, vU, vU, vU]) dX10_isTwin_36 (Nat.le_of_ble_eq_true rfl) rfl ?_
      refine b_iconst dX10_isTwin_37 ?_
      refine b_istore (ls' := [vR 582, vI x1, vI x2, vI 0, vI 0, vU, vU]) dX10_isTwin_38 (Nat.le_of_ble_eq_true rfl) rfl ?_
      obtain ⟨nn, h⟩ := h
      exact pl_X10_isTwin_40 hf nn _ _ _ _ _ h
    · have h := ifT (Decidable.of_not_not c2) h
      refine b_iconst dX10_isTwin_31 ?_
      refine b_goto 36 dX10_isTwin_32 (by decide) ?_
      refine b_istore_n (ls' := [vR 582, vI x1, vI x2, vI 1, vU, vU, vU]) dX10_isTwin_36 (Nat.le_of_ble_eq_true rfl) rfl ?_
      refine b_iconst dX10_isTwin_37 ?_
      refine b_istore (ls' := [vR 582, vI x1, vI x2, vI 1, vI 0, vU, vU]) dX10_isTwin_38 (Nat.le_of_ble_eq_true rfl) rfl ?_
      obtain ⟨nn, h⟩ := h
      exact pl_X10_isTwin_40 hf nn _ _ _ _ _ h
theorem dX10_judgeBody_0 : decode cX10_judgeBody 0 = .ok (.aload_n 0, 1) := by decide +kernel
theorem dX10_judgeBody_1 : decode cX10_judgeBody 1 = .ok (.getfield 591, 3) := by decide +kernel
theorem dX10_judgeBody_4 : decode cX10_judgeBody 4 = .ok (.istore_n 2, 1) := by decide +kernel
theorem dX10_judgeBody_5 : decode cX10_judgeBody 5 = .ok (.aload_n 0, 1) := by decide +kernel
theorem dX10_judgeBody_6 : decode cX10_judgeBody 6 = .ok (.getfield 191, 3) := by decide +kernel
theorem dX10_judgeBody_9 : decode cX10_judgeBody 9 = .ok (.iload_n 2, 1) := by decide +kernel
theorem dX10_judgeBody_10 : decode cX10_judgeBody 10 = .ok (.aload_n 0, 1) := by decide +kernel
theorem dX10_judgeBody_11 : decode cX10_judgeBody 11 = .ok (.getfield 234, 3) := by decide +kernel
theorem dX10_judgeBody_14 : decode cX10_judgeBody 14 = .ok (.iastore, 1) := by decide +kernel
theorem dX10_judgeBody_15 : decode cX10_judgeBody 15 = .ok (.aload_n 0, 1) := by decide +kernel
theorem dX10_judgeBody_16 : decode cX10_judgeBody 16 = .ok (.getfield 194, 3) := by decide +kernel
theorem dX10_judgeBody_19 : decode cX10_judgeBody 19 = .ok (.iload_n 2, 1) := by decide +kernel
theorem dX10_judgeBody_20 : decode cX10_judgeBody 20 = .ok (.aload_n 0, 1) := by decide +kernel
theorem dX10_judgeBody_21 : decode cX10_judgeBody 21 = .ok (.getfield 509, 3) := by decide +kernel
theorem dX10_judgeBody_24 : decode cX10_judgeBody 24 = .ok (.iastore, 1) := by decide +kernel
theorem dX10_judgeBody_25 : decode cX10_judgeBody 25 = .ok (.aload_n 0, 1) := by decide +kernel
theorem dX10_judgeBody_26 : decode cX10_judgeBody 26 = .ok (.getfield 197, 3) := by decide +kernel
theorem dX10_judgeBody_29 : decode cX10_judgeBody 29 = .ok (.iload_n 2, 1) := by decide +kernel
theorem dX10_judgeBody_30 : decode cX10_judgeBody 30 = .ok (.aload_n 0, 1) := by decide +kernel
theorem dX10_judgeBody_31 : decode cX10_judgeBody 31 = .ok (.getfield 512, 3) := by decide +kernel
theorem dX10_judgeBody_34 : decode cX10_judgeBody 34 = .ok (.iastore, 1) := by decide +kernel
theorem dX10_judgeBody_35 : decode cX10_judgeBody 35 = .ok (.aload_n 0, 1) := by decide +kernel
theorem dX10_judgeBody_36 : decode cX10_judgeBody 36 = .ok (.iload_n 1, 1) := by decide +kernel
theorem dX10_judgeBody_37 : decode cX10_judgeBody 37 = .ok (.invokevirtual 476, 3) := by decide +kernel
theorem dX10_judgeBody_40 : decode cX10_judgeBody 40 = .ok (.aload_n 0, 1) := by decide +kernel
theorem dX10_judgeBody_41 : decode cX10_judgeBody 41 = .ok (.getfield 130, 3) := by decide +kernel
theorem dX10_judgeBody_44 : decode cX10_judgeBody 44 = .ok (.iload_n 1, 1) := by decide +kernel
theorem dX10_judgeBody_45 : decode cX10_judgeBody 45 = .ok (.iaload, 1) := by decide +kernel
theorem dX10_judgeBody_46 : decode cX10_judgeBody 46 = .ok (.bipush (-9), 2) := by decide +kernel
theorem dX10_judgeBody_48 : decode cX10_judgeBody 48 = .ok (.if_icmp .eq 70, 3) := by decide +kernel
theorem dX10_judgeBody_51 : decode cX10_judgeBody 51 = .ok (.aload_n 0, 1) := by decide +kernel
theorem dX10_judgeBody_52 : decode cX10_judgeBody 52 = .ok (.iload_n 2, 1) := by decide +kernel
theorem dX10_judgeBody_53 : decode cX10_judgeBody 53 = .ok (.iconst (-1), 1) := by decide +kernel
theorem dX10_judgeBody_54 : decode cX10_judgeBody 54 = .ok (.aload_n 0, 1) := by decide +kernel
theorem dX10_judgeBody_55 : decode cX10_judgeBody 55 = .ok (.getfield 234, 3) := by decide +kernel
theorem dX10_judgeBody_58 : decode cX10_judgeBody 58 = .ok (.aload_n 0, 1) := by decide +kernel
theorem dX10_judgeBody_59 : decode cX10_judgeBody 59 = .ok (.getfield 509, 3) := by decide +kernel
theorem dX10_judgeBody_62 : decode cX10_judgeBody 62 = .ok (.aload_n 0, 1) := by decide +kernel
theorem dX10_judgeBody_63 : decode cX10_judgeBody 63 = .ok (.getfield 512, 3) := by decide +kernel
theorem dX10_judgeBody_66 : decode cX10_judgeBody 66 = .ok (.invokevirtual 538, 3) := by decide +kernel
theorem dX10_judgeBody_69 : decode cX10_judgeBody 69 = .ok (.ifCond .eq 49, 3) := by decide +kernel
theorem dX10_judgeBody_72 : decode cX10_judgeBody 72 = .ok (.aload_n 0, 1) := by decide +kernel
theorem dX10_judgeBody_73 : decode cX10_judgeBody 73 = .ok (.aload_n 0, 1) := by decide +kernel
theorem dX10_judgeBody_74 : decode cX10_judgeBody 74 = .ok (.getfield 130, 3) := by decide +kernel
theorem dX10_judgeBody_77 : decode cX10_judgeBody 77 = .ok (.iload_n 1, 1) := by decide +kernel
theorem dX10_judgeBody_78 : decode cX10_judgeBody 78 = .ok (.iaload, 1) := by decide +kernel
theorem dX10_judgeBody_79 : decode cX10_judgeBody 79 = .ok (.aload_n 0, 1) := by decide +kernel
theorem dX10_judgeBody_80 : decode cX10_judgeBody 80 = .ok (.getfield 133, 3) := by decide +kernel
theorem dX10_judgeBody_83 : decode cX10_judgeBody 83 = .ok (.iload_n 1, 1) := by decide +kernel
theorem dX10_judgeBody_84 : decode cX10_judgeBody 84 = .ok (.iaload, 1) := by decide +kernel
theorem dX10_judgeBody_85 : decode cX10_judgeBody 85 = .ok (.aload_n 0, 1) := by decide +kernel
theorem dX10_judgeBody_86 : decode cX10_judgeBody 86 = .ok (.getfield 136, 3) := by decide +kernel
theorem dX10_judgeBody_89 : decode cX10_judgeBody 89 = .ok (.iload_n 1, 1) := by decide +kernel
theorem dX10_judgeBody_90 : decode cX10_judgeBody 90 = .ok (.iaload, 1) := by decide +kernel
theorem dX10_judgeBody_91 : decode cX10_judgeBody 91 = .ok (.aload_n 0, 1) := by decide +kernel
theorem dX10_judgeBody_92 : decode cX10_judgeBody 92 = .ok (.getfield 542, 3) := by decide +kernel
theorem dX10_judgeBody_95 : decode cX10_judgeBody 95 = .ok (.aload_n 0, 1) := by decide +kernel
theorem dX10_judgeBody_96 : decode cX10_judgeBody 96 = .ok (.getfield 545, 3) := by decide +kernel
theorem dX10_judgeBody_99 : decode cX10_judgeBody 99 = .ok (.aload_n 0, 1) := by decide +kernel
theorem dX10_judgeBody_100 : decode cX10_judgeBody 100 = .ok (.getfield 548, 3) := by decide +kernel
theorem dX10_judgeBody_103 : decode cX10_judgeBody 103 = .ok (.invokevirtual 502, 3) := by decide +kernel
theorem dX10_judgeBody_106 : decode cX10_judgeBody 106 = .ok (.ifCond .ne 12, 3) := by decide +kernel
theorem dX10_judgeBody_109 : decode cX10_judgeBody 109 = .ok (.aload_n 0, 1) := by decide +kernel
theorem dX10_judgeBody_110 : decode cX10_judgeBody 110 = .ok (.iconst 4, 1) := by decide +kernel
theorem dX10_judgeBody_111 : decode cX10_judgeBody 111 = .ok (.aload_n 0, 1) := by decide +kernel
theorem dX10_judgeBody_112 : decode cX10_judgeBody 112 = .ok (.getfield 884, 3) := by decide +kernel
theorem dX10_judgeBody_115 : decode cX10_judgeBody 115 = .ok (.invokevirtual 472, 3) := by decide +kernel
theorem dX10_judgeBody_118 : decode cX10_judgeBody 118 = .ok (.return_, 1) := by decide +kernel
/-! AlgebraHouseModel.judgeBody(I)V -/
def P_X10_judgeBody (x1 : Int) (m : MM) (Q : Int → MM → Prop) : Prop := (0 ≤ (m 582 32) ∧ (m 582 32) < 21) ∧ ∀ m1 : MM, m1 = up m 618 (m 582 32) (m 582 62) → ∀ m2 : MM, m2 = up m1 619 (m 582 32) (m1 582 63) → ∀ m3 : MM, m3 = up m2 620 (m 582 32) (m2 582 64) → R_X10_judge 300 0 [x1] m3 (fun r1 m4 => (0 ≤ x1 ∧ x1 < 12000) ∧ (RI (m4 598 x1)) ∧ (if (m4 598 x1) = (-9) then Q 0 m4 else P_X10_instance (m 582 32) (-1) (m4 582 62) (m4 582 63) (m4 582 64) m4 (fun r2 m5 => (RI r2) ∧ (if r2 = 0 then Q 0 m5 else P_X10_goes (m5 598 x1) (m5 599 x1) (m5 600 x1) (m5 582 70) (m5 582 71) (m5 582 72) m5 (fun r3 m6 => (RI r3) ∧ (if r3 = 0 then P_X10_note 4 (m6 582 110) m6 (fun r4 m7 => Q 0 m7) else Q 0 m6)))))) (fun _ => False)
theorem p_X10_judgeBody {f : Nat} {Q : Int → MM → Prop} {T : MM → Prop} (hf : 325 ≤ f) (x1 : Int) (m : MM) (h : P_X10_judgeBody x1 m Q) : CC f M_X10_judgeBody [vR 582, vI x1] m Q T := by
  refine CC.of (plainFor_of_name (by decide)) (Nat.le_of_ble_eq_true rfl) (ls := [vR 582, vI x1, vU]) rfl ?_
  have h : (0 ≤ (m 582 32) ∧ (m 582 32) < 21) ∧ ∀ m1 : MM, m1 = up m 618 (m 582 32) (m 582 62) → ∀ m2 : MM, m2 = up m1 619 (m 582 32) (m1 582 63) → ∀ m3 : MM, m3 = up m2 620 (m 582 32) (m2 582 64) → R_X10_judge 300 0 [x1] m3 (fun r1 m4 => (0 ≤ x1 ∧ x1 < 12000) ∧ (RI (m4 598 x1)) ∧ (if (m4 598 x1) = (-9) then Q 0 m4 else P_X10_instance (m 582 32) (-1) (m4 582 62) (m4 582 63) (m4 582 64) m4 (fun r2 m5 => (RI r2) ∧ (if r2 = 0 then Q 0 m5 else P_X10_goes (m5 598 x1) (m5 599 x1) (m5 600 x1) (m5 582 70) (m5 582 71) (m5 582 72) m5 (fun r3 m6 => (RI r3) ∧ (if r3 = 0 then P_X10_note 4 (m6 582 110) m6 (fun r4 m7 => Q 0 m7) else Q 0 m6)))))) (fun _ => False) := h
  refine b_aload_n dX10_judgeBody_0 rfl ?_
  refine b_getI dX10_judgeBody_1 fk_X10_591 ly_582 ?_
  refine b_istore_n (ls' := [vR 582, vI x1, vI (m 582 32)]) dX10_judgeBody_4 (Nat.le_of_ble_eq_true rfl) rfl ?_
  refine b_aload_n dX10_judgeBody_5 rfl ?_
  refine b_getR dX10_judgeBody_6 fk_X10_191 ly_582 gg_582_47 ?_
  refine b_iload_n dX10_judgeBody_9 rfl ?_
  refine b_aload_n dX10_judgeBody_10 rfl ?_
  refine b_getI dX10_judgeBody_11 fk_X10_234 ly_582 ?_
  obtain ⟨g1, h⟩ := h
  refine b_iast dX10_judgeBody_14 ly_618 g1 (fun m1 em1 => ?_)
  have h := h m1 em1
  refine b_aload_n dX10_judgeBody_15 rfl ?_
  refine b_getR dX10_judgeBody_16 fk_X10_194 ly_582 gg_582_48 ?_
  refine b_iload_n dX10_judgeBody_19 rfl ?_
  refine b_aload_n dX10_judgeBody_20 rfl ?_
  refine b_getI dX10_judgeBody_21 fk_X10_509 ly_582 ?_
  refine b_iast dX10_judgeBody_24 ly_619 g1 (fun m2 em2 => ?_)
  have h := h m2 em2
  refine b_aload_n dX10_judgeBody_25 rfl ?_
  refine b_getR dX10_judgeBody_26 fk_X10_197 ly_582 gg_582_49 ?_
  refine b_iload_n dX10_judgeBody_29 rfl ?_
  refine b_aload_n dX10_judgeBody_30 rfl ?_
  refine b_getI dX10_judgeBody_31 fk_X10_512 ly_582 ?_
  refine b_iast dX10_judgeBody_34 ly_620 g1 (fun m3 em3 => ?_)
  have h := h m3 em3
  refine b_aload_n dX10_judgeBody_35 rfl ?_
  refine b_iload_n dX10_judgeBody_36 rfl ?_
  refine b_cVv (as := [vI x1]) (st := []) dX10_judgeBody_37 mf_X10_judge qs134 lk_X10_476 ly_582 rfl ((pr_X10_judge 300 324 (Nat.le_refl _)).1 _ _ _ _ h) (by omega) rfl rfl (Nat.le_of_ble_eq_true rfl) (by decide) rfl (fun _ => rfl) (fun r1 m4 h => ?_) (fun _ h => h.elim)
  refine b_aload_n dX10_judgeBody_40 rfl ?_
  refine b_getR dX10_judgeBody_41 fk_X10_130 ly_582 gg_582_24 ?_
  refine b_iload_n dX10_judgeBody_44 rfl ?_
  obtain ⟨g2, h⟩ := h
  refine b_iald dX10_judgeBody_45 ly_598 g2 ?_
  refine b_bipush dX10_judgeBody_46 (by decide) ?_
  obtain ⟨g3, h⟩ := h
  refine b_icmp_eq 118 dX10_judgeBody_48 g3 (by decide) (by decide) (fun c1 => ?_) (fun c1 => ?_)
  · have h := ifT c1 h
    exact b_vret dX10_judgeBody_118 rfl h
  · have h := ifF c1 h
    refine b_aload_n dX10_judgeBody_51 rfl ?_
    refine b_iload_n dX10_judgeBody_52 rfl ?_
    refine b_iconst dX10_judgeBody_53 ?_
    refine b_aload_n dX10_judgeBody_54 rfl ?_
    refine b_getI dX10_judgeBody_55 fk_X10_234 ly_582 ?_
    refine b_aload_n dX10_judgeBody_58 rfl ?_
    refine b_getI dX10_judgeBody_59 fk_X10_509 ly_582 ?_
    refine b_aload_n dX10_judgeBody_62 rfl ?_
    refine b_getI dX10_judgeBody_63 fk_X10_512 ly_582 ?_
    refine b_cVi (as := [vI (m 582 32), vI (-1), vI (m4 582 62), vI (m4 582 63), vI (m4 582 64)]) (st := []) dX10_judgeBody_66 mf_X10_instance qs137 lk_X10_538 ly_582 rfl (p_X10_instance (f := 1) (Nat.le_refl _) _ _ _ _ _ _ h) (by omega) rfl rfl (Nat.le_of_ble_eq_true rfl) (by decide) rfl (fun _ => rfl) (fun r2 m5 h => ?_) (fun _ h => h)
    obtain ⟨g4, h⟩ := h
    refine b_if_eq 118 dX10_judgeBody_69 g4 (by decide) (fun c2 => ?_) (fun c2 => ?_)
    · have h := ifT c2 h
      exact b_vret dX10_judgeBody_118 rfl h
    · have h := ifF c2 h
      refine b_aload_n dX10_judgeBody_72 rfl ?_
      refine b_aload_n dX10_judgeBody_73 rfl ?_
      refine b_getR dX10_judgeBody_74 fk_X10_130 ly_582 gg_582_24 ?_
      refine b_iload_n dX10_judgeBody_77 rfl ?_
      refine b_iald dX10_judgeBody_78 ly_598 g2 ?_
      refine b_aload_n dX10_judgeBody_79 rfl ?_
      refine b_getR dX10_judgeBody_80 fk_X10_133 ly_582 gg_582_25 ?_
      refine b_iload_n dX10_judgeBody_83 rfl ?_
      refine b_iald dX10_judgeBody_84 ly_599 g2 ?_
      refine b_aload_n dX10_judgeBody_85 rfl ?_
      refine b_getR dX10_judgeBody_86 fk_X10_136 ly_582 gg_582_26 ?_
      refine b_iload_n dX10_judgeBody_89 rfl ?_
      refine b_iald dX10_judgeBody_90 ly_600 g2 ?_
      refine b_aload_n dX10_judgeBody_91 rfl ?_
      refine b_getI dX10_judgeBody_92 fk_X10_542 ly_582 ?_
      refine b_aload_n dX10_judgeBody_95 rfl ?_
      refine b_getI dX10_judgeBody_96 fk_X10_545 ly_582 ?_
      refine b_aload_n dX10_judgeBody_99 rfl ?_
      refine b_getI dX10_judgeBody_100 fk_X10_548 ly_582 ?_
      refine b_cVi (as := [vI (m5 598 x1), vI (m5 599 x1), vI (m5 600 x1), vI (m5 582 70), vI (m5 582 71), vI (m5 582 72)]) (st := []) dX10_judgeBody_103 mf_X10_goes qs145 lk_X10_502 ly_582 rfl (p_X10_goes (f := 3) (Nat.le_refl _) _ _ _ _ _ _ _ h) (by omega) rfl rfl (Nat.le_of_ble_eq_true rfl) (by decide) rfl (fun _ => rfl) (fun r3 m6 h => ?_) (fun _ h => h)
      obtain ⟨g5, h⟩ := h
      refine b_if_ne 118 dX10_judgeBody_106 g5 (by decide) (fun c3 => ?_) (fun c3 => ?_)
      · have h := ifF c3 h
        exact b_vret dX10_judgeBody_118 rfl h
      · have h := ifT (Decidable.of_not_not c3) h
        refine b_aload_n dX10_judgeBody_109 rfl ?_
        refine b_iconst dX10_judgeBody_110 ?_
        refine b_aload_n dX10_judgeBody_111 rfl ?_
        refine b_getI dX10_judgeBody_112 fk_X10_884 ly_582 ?_
        refine b_cVv (as := [vI 4, vI (m6 582 110)]) (st := []) dX10_judgeBody_115 mf_X10_note qs129 lk_X10_472 ly_582 rfl (p_X10_note (f := 1) (Nat.le_refl _) _ _ _ h) (by omega) rfl rfl (Nat.le_of_ble_eq_true rfl) (by decide) rfl (fun _ => rfl) (fun r4 m7 h => ?_) (fun _ h => h)
        exact b_vret dX10_judgeBody_118 rfl h
theorem dX10_judgeHead_0 : decode cX10_judgeHead 0 = .ok (.aload_n 0, 1) := by decide +kernel
theorem dX10_judgeHead_1 : decode cX10_judgeHead 1 = .ok (.aload_n 0, 1) := by decide +kernel
theorem dX10_judgeHead_2 : decode cX10_judgeHead 2 = .ok (.getfield 170, 3) := by decide +kernel
theorem dX10_judgeHead_5 : decode cX10_judgeHead 5 = .ok (.aload_n 0, 1) := by decide +kernel
theorem dX10_judgeHead_6 : decode cX10_judgeHead 6 = .ok (.getfield 591, 3) := by decide +kernel
theorem dX10_judgeHead_9 : decode cX10_judgeHead 9 = .ok (.iaload, 1) := by decide +kernel
theorem dX10_judgeHead_10 : decode cX10_judgeHead 10 = .ok (.ifCond .le 7, 3) := by decide +kernel
theorem dX10_judgeHead_13 : decode cX10_judgeHead 13 = .ok (.iconst 0, 1) := by decide +kernel
theorem dX10_judgeHead_14 : decode cX10_judgeHead 14 = .ok (.goto 5, 3) := by decide +kernel
theorem dX10_judgeHead_17 : decode cX10_judgeHead 17 = .ok (.bipush (-9), 2) := by decide +kernel
theorem dX10_judgeHead_19 : decode cX10_judgeHead 19 = .ok (.putfield 234, 3) := by decide +kernel
theorem dX10_judgeHead_22 : decode cX10_judgeHead 22 = .ok (.aload_n 0, 1) := by decide +kernel
theorem dX10_judgeHead_23 : decode cX10_judgeHead 23 = .ok (.iconst 0, 1) := by decide +kernel
theorem dX10_judgeHead_24 : decode cX10_judgeHead 24 = .ok (.putfield 509, 3) := by decide +kernel
theorem dX10_judgeHead_27 : decode cX10_judgeHead 27 = .ok (.aload_n 0, 1) := by decide +kernel
theorem dX10_judgeHead_28 : decode cX10_judgeHead 28 = .ok (.iconst 0, 1) := by decide +kernel
theorem dX10_judgeHead_29 : decode cX10_judgeHead 29 = .ok (.putfield 512, 3) := by decide +kernel
theorem dX10_judgeHead_32 : decode cX10_judgeHead 32 = .ok (.aload_n 0, 1) := by decide +kernel
theorem dX10_judgeHead_33 : decode cX10_judgeHead 33 = .ok (.iload_n 1, 1) := by decide +kernel
theorem dX10_judgeHead_34 : decode cX10_judgeHead 34 = .ok (.invokevirtual 479, 3) := by decide +kernel
theorem dX10_judgeHead_37 : decode cX10_judgeHead 37 = .ok (.return_, 1) := by decide +kernel
/-! AlgebraHouseModel.judgeHead(I)V -/
def P_X10_judgeHead (x1 : Int) (m : MM) (Q : Int → MM → Prop) : Prop := (0 ≤ (m 582 32) ∧ (m 582 32) < 21) ∧ ((RI (m 611 (m 582 32)))) ∧ ∀ m1 : MM, m1 = up m 582 62 (if (m 611 (m 582 32)) ≤ 0 then (-9) else 0 : Int) → ∀ m2 : MM, m2 = up m1 582 63 0 → ∀ m3 : MM, m3 = up m2 582 64 0 → R_X10_judgeRing 20 0 [x1] m3 (fun r1 m4 => Q 0 m4) (fun _ => False)
theorem p_X10_judgeHead {f : Nat} {Q : Int → MM → Prop} {T : MM → Prop} (hf : 24 ≤ f) (x1 : Int) (m : MM) (h : P_X10_judgeHead x1 m Q) : CC f M_X10_judgeHead [vR 582, vI x1] m Q T := by
  refine CC.of (plainFor_of_name (by decide)) (Nat.le_of_ble_eq_true rfl) (ls := [vR 582, vI x1]) rfl ?_
  have h : (0 ≤ (m 582 32) ∧ (m 582 32) < 21) ∧ ((RI (m 611 (m 582 32)))) ∧ ∀ m1 : MM, m1 = up m 582 62 (if (m 611 (m 582 32)) ≤ 0 then (-9) else 0 : Int) → ∀ m2 : MM, m2 = up m1 582 63 0 → ∀ m3 : MM, m3 = up m2 582 64 0 → R_X10_judgeRing 20 0 [x1] m3 (fun r1 m4 => Q 0 m4) (fun _ => False) := h
  refine b_aload_n dX10_judgeHead_0 rfl ?_
  refine b_aload_n dX10_judgeHead_1 rfl ?_
  refine b_getR dX10_judgeHead_2 fk_X10_170 ly_582 gg_582_40 ?_
  refine b_aload_n dX10_judgeHead_5 rfl ?_
  refine b_getI dX10_judgeHead_6 fk_X10_591 ly_582 ?_
  obtain ⟨g1, h⟩ := h
  refine b_iald dX10_judgeHead_9 ly_611 g1 ?_
  obtain ⟨hs, h⟩ := h
  have K : B f M_X10_judgeHead 19 [vR 582, vI x1] [vI (if (m 611 (m 582 32)) ≤ 0 then (-9) else 0 : Int), vR 582] m Q T := by
    clear hs
    refine b_putI dX10_judgeHead_19 fk_X10_234 ly_582 (fun m1 em1 => ?_)
    have h := h m1 em1
    refine b_aload_n dX10_judgeHead_22 rfl ?_
    refine b_iconst dX10_judgeHead_23 ?_
    refine b_putI dX10_judgeHead_24 fk_X10_509 ly_582 (fun m2 em2 => ?_)
    have h := h m2 em2
    refine b_aload_n dX10_judgeHead_27 rfl ?_
    refine b_iconst dX10_judgeHead_28 ?_
    refine b_putI dX10_judgeHead_29 fk_X10_512 ly_582 (fun m3 em3 => ?_)
    have h := h m3 em3
    refine b_aload_n dX10_judgeHead_32 rfl ?_
    refine b_iload_n dX10_judgeHead_33 rfl ?_
    refine b_cVv (as := [vI x1]) (st := []) dX10_judgeHead_34 mf_X10_judgeRing qs127 lk_X10_479 ly_582 rfl ((pr_X10_judgeRing 20 23 (Nat.le_refl _)).1 _ _ _ _ h) (by omega) rfl rfl (Nat.le_of_ble_eq_true rfl) (by decide) rfl (fun _ => rfl) (fun r1 m4 h => ?_) (fun _ h => h.elim)
    exact b_vret dX10_judgeHead_37 rfl h
  have g2 := hs
  refine b_if_le 17 dX10_judgeHead_10 g2 (by decide) (fun c1 => ?_) (fun c1 => ?_)
  ·
    refine b_bipush dX10_judgeHead_17 (by decide) ?_
    exact Eq.mp (congrArg (fun z => B f M_X10_judgeHead 19 [vR 582, vI x1] (vI z :: [vR 582]) m Q T) (show (if (m 611 (m 582 32)) ≤ 0 then (-9) else 0 : Int) = (-9) by rw [if_pos c1])) K
  ·
    refine b_iconst dX10_judgeHead_13 ?_
    refine b_goto 19 dX10_judgeHead_14 (by decide) ?_
    exact Eq.mp (congrArg (fun z => B f M_X10_judgeHead 19 [vR 582, vI x1] (vI z :: [vR 582]) m Q T) (show (if (m 611 (m 582 32)) ≤ 0 then (-9) else 0 : Int) = 0 by rw [if_neg c1])) K
