set_option maxRecDepth 100000
theorem dX10_readDefinition_0 : decode cX10_readDefinition 0 = .ok (.aload_n 0, 1) := by decide +kernel
theorem dX10_readDefinition_1 : decode cX10_readDefinition 1 = .ok (.getfield 591, 3) := by decide +kernel
theorem dX10_readDefinition_4 : decode cX10_readDefinition 4 = .ok (.istore_n 1, 1) := by decide +kernel
theorem dX10_readDefinition_5 : decode cX10_readDefinition 5 = .ok (.aload_n 0, 1) := by decide +kernel
theorem dX10_readDefinition_6 : decode cX10_readDefinition 6 = .ok (.iconst 1, 1) := by decide +kernel
theorem dX10_readDefinition_7 : decode cX10_readDefinition 7 = .ok (.invokevirtual 388, 3) := by decide +kernel
theorem dX10_readDefinition_10 : decode cX10_readDefinition 10 = .ok (.istore_n 2, 1) := by decide +kernel
theorem dX10_readDefinition_11 : decode cX10_readDefinition 11 = .ok (.aload_n 0, 1) := by decide +kernel
theorem dX10_readDefinition_12 : decode cX10_readDefinition 12 = .ok (.getfield 155, 3) := by decide +kernel
theorem dX10_readDefinition_15 : decode cX10_readDefinition 15 = .ok (.iload_n 1, 1) := by decide +kernel
theorem dX10_readDefinition_16 : decode cX10_readDefinition 16 = .ok (.aload_n 0, 1) := by decide +kernel
theorem dX10_readDefinition_17 : decode cX10_readDefinition 17 = .ok (.getfield 99, 3) := by decide +kernel
theorem dX10_readDefinition_20 : decode cX10_readDefinition 20 = .ok (.iload_n 2, 1) := by decide +kernel
theorem dX10_readDefinition_21 : decode cX10_readDefinition 21 = .ok (.laload, 1) := by decide +kernel
theorem dX10_readDefinition_22 : decode cX10_readDefinition 22 = .ok (.lastore, 1) := by decide +kernel
theorem dX10_readDefinition_23 : decode cX10_readDefinition 23 = .ok (.aload_n 0, 1) := by decide +kernel
theorem dX10_readDefinition_24 : decode cX10_readDefinition 24 = .ok (.getfield 164, 3) := by decide +kernel
theorem dX10_readDefinition_27 : decode cX10_readDefinition 27 = .ok (.iload_n 1, 1) := by decide +kernel
theorem dX10_readDefinition_28 : decode cX10_readDefinition 28 = .ok (.iconst 0, 1) := by decide +kernel
theorem dX10_readDefinition_29 : decode cX10_readDefinition 29 = .ok (.iastore, 1) := by decide +kernel
theorem dX10_readDefinition_30 : decode cX10_readDefinition 30 = .ok (.aload_n 0, 1) := by decide +kernel
theorem dX10_readDefinition_31 : decode cX10_readDefinition 31 = .ok (.getfield 170, 3) := by decide +kernel
theorem dX10_readDefinition_34 : decode cX10_readDefinition 34 = .ok (.iload_n 1, 1) := by decide +kernel
theorem dX10_readDefinition_35 : decode cX10_readDefinition 35 = .ok (.iconst 0, 1) := by decide +kernel
theorem dX10_readDefinition_36 : decode cX10_readDefinition 36 = .ok (.iastore, 1) := by decide +kernel
theorem dX10_readDefinition_37 : decode cX10_readDefinition 37 = .ok (.aload_n 0, 1) := by decide +kernel
theorem dX10_readDefinition_38 : decode cX10_readDefinition 38 = .ok (.iconst (-1), 1) := by decide +kernel
theorem dX10_readDefinition_39 : decode cX10_readDefinition 39 = .ok (.putfield 878, 3) := by decide +kernel
theorem dX10_readDefinition_42 : decode cX10_readDefinition 42 = .ok (.aload_n 0, 1) := by decide +kernel
theorem dX10_readDefinition_43 : decode cX10_readDefinition 43 = .ok (.bipush 40, 2) := by decide +kernel
theorem dX10_readDefinition_45 : decode cX10_readDefinition 45 = .ok (.invokevirtual 385, 3) := by decide +kernel
theorem dX10_readDefinition_48 : decode cX10_readDefinition 48 = .ok (.aload_n 0, 1) := by decide +kernel
theorem dX10_readDefinition_49 : decode cX10_readDefinition 49 = .ok (.getfield 347, 3) := by decide +kernel
theorem dX10_readDefinition_52 : decode cX10_readDefinition 52 = .ok (.ifCond .ne 31, 3) := by decide +kernel
theorem dX10_readDefinition_55 : decode cX10_readDefinition 55 = .ok (.aload_n 0, 1) := by decide +kernel
theorem dX10_readDefinition_56 : decode cX10_readDefinition 56 = .ok (.getfield 93, 3) := by decide +kernel
theorem dX10_readDefinition_59 : decode cX10_readDefinition 59 = .ok (.aload_n 0, 1) := by decide +kernel
theorem dX10_readDefinition_60 : decode cX10_readDefinition 60 = .ok (.getfield 324, 3) := by decide +kernel
theorem dX10_readDefinition_63 : decode cX10_readDefinition 63 = .ok (.iaload, 1) := by decide +kernel
theorem dX10_readDefinition_64 : decode cX10_readDefinition 64 = .ok (.iconst 1, 1) := by decide +kernel
theorem dX10_readDefinition_65 : decode cX10_readDefinition 65 = .ok (.if_icmp .ne 18, 3) := by decide +kernel
theorem dX10_readDefinition_68 : decode cX10_readDefinition 68 = .ok (.aload_n 0, 1) := by decide +kernel
theorem dX10_readDefinition_69 : decode cX10_readDefinition 69 = .ok (.getfield 164, 3) := by decide +kernel
theorem dX10_readDefinition_72 : decode cX10_readDefinition 72 = .ok (.iload_n 1, 1) := by decide +kernel
theorem dX10_readDefinition_73 : decode cX10_readDefinition 73 = .ok (.iaload, 1) := by decide +kernel
theorem dX10_readDefinition_74 : decode cX10_readDefinition 74 = .ok (.iconst 3, 1) := by decide +kernel
theorem dX10_readDefinition_75 : decode cX10_readDefinition 75 = .ok (.if_icmp .ne 8, 3) := by decide +kernel
theorem dX10_readDefinition_78 : decode cX10_readDefinition 78 = .ok (.aload_n 0, 1) := by decide +kernel
theorem dX10_readDefinition_79 : decode cX10_readDefinition 79 = .ok (.iconst 2, 1) := by decide +kernel
theorem dX10_readDefinition_80 : decode cX10_readDefinition 80 = .ok (.invokevirtual 356, 3) := by decide +kernel
theorem dX10_readDefinition_83 : decode cX10_readDefinition 83 = .ok (.aload_n 0, 1) := by decide +kernel
theorem dX10_readDefinition_84 : decode cX10_readDefinition 84 = .ok (.iconst 1, 1) := by decide +kernel
theorem dX10_readDefinition_85 : decode cX10_readDefinition 85 = .ok (.invokevirtual 388, 3) := by decide +kernel
theorem dX10_readDefinition_88 : decode cX10_readDefinition 88 = .ok (.istore_n 3, 1) := by decide +kernel
theorem dX10_readDefinition_89 : decode cX10_readDefinition 89 = .ok (.aload_n 0, 1) := by decide +kernel
theorem dX10_readDefinition_90 : decode cX10_readDefinition 90 = .ok (.bipush 58, 2) := by decide +kernel
theorem dX10_readDefinition_92 : decode cX10_readDefinition 92 = .ok (.invokevirtual 372, 3) := by decide +kernel
theorem dX10_readDefinition_95 : decode cX10_readDefinition 95 = .ok (.aload_n 0, 1) := by decide +kernel
theorem dX10_readDefinition_96 : decode cX10_readDefinition 96 = .ok (.invokevirtual 392, 3) := by decide +kernel
theorem dX10_readDefinition_99 : decode cX10_readDefinition 99 = .ok (.istore 4, 2) := by decide +kernel
theorem dX10_readDefinition_101 : decode cX10_readDefinition 101 = .ok (.aload_n 0, 1) := by decide +kernel
theorem dX10_readDefinition_102 : decode cX10_readDefinition 102 = .ok (.getfield 347, 3) := by decide +kernel
theorem dX10_readDefinition_105 : decode cX10_readDefinition 105 = .ok (.ifCond .le 5, 3) := by decide +kernel
theorem dX10_readDefinition_108 : decode cX10_readDefinition 108 = .ok (.iconst (-1), 1) := by decide +kernel
theorem dX10_readDefinition_109 : decode cX10_readDefinition 109 = .ok (.ireturn, 1) := by decide +kernel
theorem dX10_readDefinition_110 : decode cX10_readDefinition 110 = .ok (.aload_n 0, 1) := by decide +kernel
theorem dX10_readDefinition_111 : decode cX10_readDefinition 111 = .ok (.getfield 164, 3) := by decide +kernel
theorem dX10_readDefinition_114 : decode cX10_readDefinition 114 = .ok (.iload_n 1, 1) := by decide +kernel
theorem dX10_readDefinition_115 : decode cX10_readDefinition 115 = .ok (.iaload, 1) := by decide +kernel
theorem dX10_readDefinition_116 : decode cX10_readDefinition 116 = .ok (.istore 5, 2) := by decide +kernel
theorem dX10_readDefinition_118 : decode cX10_readDefinition 118 = .ok (.aload_n 0, 1) := by decide +kernel
theorem dX10_readDefinition_119 : decode cX10_readDefinition 119 = .ok (.getfield 304, 3) := by decide +kernel
theorem dX10_readDefinition_122 : decode cX10_readDefinition 122 = .ok (.iload 5, 2) := by decide +kernel
theorem dX10_readDefinition_124 : decode cX10_readDefinition 124 = .ok (.iload_n 3, 1) := by decide +kernel
theorem dX10_readDefinition_125 : decode cX10_readDefinition 125 = .ok (.iastore, 1) := by decide +kernel
theorem dX10_readDefinition_126 : decode cX10_readDefinition 126 = .ok (.aload_n 0, 1) := by decide +kernel
theorem dX10_readDefinition_127 : decode cX10_readDefinition 127 = .ok (.getfield 307, 3) := by decide +kernel
theorem dX10_readDefinition_130 : decode cX10_readDefinition 130 = .ok (.iload 5, 2) := by decide +kernel
theorem dX10_readDefinition_132 : decode cX10_readDefinition 132 = .ok (.iload 4, 2) := by decide +kernel
theorem dX10_readDefinition_134 : decode cX10_readDefinition 134 = .ok (.iastore, 1) := by decide +kernel
theorem dX10_readDefinition_135 : decode cX10_readDefinition 135 = .ok (.aload_n 0, 1) := by decide +kernel
theorem dX10_readDefinition_136 : decode cX10_readDefinition 136 = .ok (.getfield 161, 3) := by decide +kernel
theorem dX10_readDefinition_139 : decode cX10_readDefinition 139 = .ok (.iconst 3, 1) := by decide +kernel
theorem dX10_readDefinition_140 : decode cX10_readDefinition 140 = .ok (.iload_n 1, 1) := by decide +kernel
theorem dX10_readDefinition_141 : decode cX10_readDefinition 141 = .ok (.imul, 1) := by decide +kernel
theorem dX10_readDefinition_142 : decode cX10_readDefinition 142 = .ok (.iload 5, 2) := by decide +kernel
theorem dX10_readDefinition_144 : decode cX10_readDefinition 144 = .ok (.iadd, 1) := by decide +kernel
theorem dX10_readDefinition_145 : decode cX10_readDefinition 145 = .ok (.aload_n 0, 1) := by decide +kernel
theorem dX10_readDefinition_146 : decode cX10_readDefinition 146 = .ok (.getfield 99, 3) := by decide +kernel
theorem dX10_readDefinition_149 : decode cX10_readDefinition 149 = .ok (.iload_n 3, 1) := by decide +kernel
theorem dX10_readDefinition_150 : decode cX10_readDefinition 150 = .ok (.laload, 1) := by decide +kernel
theorem dX10_readDefinition_151 : decode cX10_readDefinition 151 = .ok (.lastore, 1) := by decide +kernel
theorem dX10_readDefinition_152 : decode cX10_readDefinition 152 = .ok (.aload_n 0, 1) := by decide +kernel
theorem dX10_readDefinition_153 : decode cX10_readDefinition 153 = .ok (.getfield 164, 3) := by decide +kernel
theorem dX10_readDefinition_156 : decode cX10_readDefinition 156 = .ok (.iload_n 1, 1) := by decide +kernel
theorem dX10_readDefinition_157 : decode cX10_readDefinition 157 = .ok (.dup2, 1) := by decide +kernel
theorem dX10_readDefinition_158 : decode cX10_readDefinition 158 = .ok (.iaload, 1) := by decide +kernel
theorem dX10_readDefinition_159 : decode cX10_readDefinition 159 = .ok (.iconst 1, 1) := by decide +kernel
theorem dX10_readDefinition_160 : decode cX10_readDefinition 160 = .ok (.iadd, 1) := by decide +kernel
theorem dX10_readDefinition_161 : decode cX10_readDefinition 161 = .ok (.iastore, 1) := by decide +kernel
theorem dX10_readDefinition_162 : decode cX10_readDefinition 162 = .ok (.aload_n 0, 1) := by decide +kernel
theorem dX10_readDefinition_163 : decode cX10_readDefinition 163 = .ok (.bipush 44, 2) := by decide +kernel
theorem dX10_readDefinition_165 : decode cX10_readDefinition 165 = .ok (.invokevirtual 430, 3) := by decide +kernel
theorem dX10_readDefinition_168 : decode cX10_readDefinition 168 = .ok (.ifCond .ne (-120), 3) := by decide +kernel
theorem dX10_readDefinition_171 : decode cX10_readDefinition 171 = .ok (.aload_n 0, 1) := by decide +kernel
theorem dX10_readDefinition_172 : decode cX10_readDefinition 172 = .ok (.bipush 41, 2) := by decide +kernel
theorem dX10_readDefinition_174 : decode cX10_readDefinition 174 = .ok (.invokevirtual 396, 3) := by decide +kernel
theorem dX10_readDefinition_177 : decode cX10_readDefinition 177 = .ok (.aload_n 0, 1) := by decide +kernel
theorem dX10_readDefinition_178 : decode cX10_readDefinition 178 = .ok (.bipush 58, 2) := by decide +kernel
theorem dX10_readDefinition_180 : decode cX10_readDefinition 180 = .ok (.invokevirtual 372, 3) := by decide +kernel
theorem dX10_readDefinition_183 : decode cX10_readDefinition 183 = .ok (.aload_n 0, 1) := by decide +kernel
theorem dX10_readDefinition_184 : decode cX10_readDefinition 184 = .ok (.aload_n 0, 1) := by decide +kernel
theorem dX10_readDefinition_185 : decode cX10_readDefinition 185 = .ok (.invokevirtual 392, 3) := by decide +kernel
theorem dX10_readDefinition_188 : decode cX10_readDefinition 188 = .ok (.putfield 881, 3) := by decide +kernel
theorem dX10_readDefinition_191 : decode cX10_readDefinition 191 = .ok (.aload_n 0, 1) := by decide +kernel
theorem dX10_readDefinition_192 : decode cX10_readDefinition 192 = .ok (.ldc2_w 25, 3) := by decide +kernel
theorem dX10_readDefinition_195 : decode cX10_readDefinition 195 = .ok (.invokevirtual 365, 3) := by decide +kernel
theorem dX10_readDefinition_198 : decode cX10_readDefinition 198 = .ok (.ifCond .eq 67, 3) := by decide +kernel
theorem dX10_readDefinition_201 : decode cX10_readDefinition 201 = .ok (.aload_n 0, 1) := by decide +kernel
theorem dX10_readDefinition_202 : decode cX10_readDefinition 202 = .ok (.aload_n 0, 1) := by decide +kernel
theorem dX10_readDefinition_203 : decode cX10_readDefinition 203 = .ok (.getfield 324, 3) := by decide +kernel
theorem dX10_readDefinition_206 : decode cX10_readDefinition 206 = .ok (.putfield 878, 3) := by decide +kernel
theorem dX10_readDefinition_209 : decode cX10_readDefinition 209 = .ok (.aload_n 0, 1) := by decide +kernel
theorem dX10_readDefinition_210 : decode cX10_readDefinition 210 = .ok (.invokevirtual 362, 3) := by decide +kernel
theorem dX10_readDefinition_213 : decode cX10_readDefinition 213 = .ok (.aload_n 0, 1) := by decide +kernel
theorem dX10_readDefinition_214 : decode cX10_readDefinition 214 = .ok (.getfield 170, 3) := by decide +kernel
theorem dX10_readDefinition_217 : decode cX10_readDefinition 217 = .ok (.iload_n 1, 1) := by decide +kernel
theorem dX10_readDefinition_218 : decode cX10_readDefinition 218 = .ok (.aload_n 0, 1) := by decide +kernel
theorem dX10_readDefinition_219 : decode cX10_readDefinition 219 = .ok (.ldc2_w 27, 3) := by decide +kernel
theorem dX10_readDefinition_222 : decode cX10_readDefinition 222 = .ok (.invokevirtual 399, 3) := by decide +kernel
theorem dX10_readDefinition_225 : decode cX10_readDefinition 225 = .ok (.ifCond .eq 7, 3) := by decide +kernel
theorem dX10_readDefinition_228 : decode cX10_readDefinition 228 = .ok (.iconst 1, 1) := by decide +kernel
theorem dX10_readDefinition_229 : decode cX10_readDefinition 229 = .ok (.goto 18, 3) := by decide +kernel
theorem dX10_readDefinition_232 : decode cX10_readDefinition 232 = .ok (.aload_n 0, 1) := by decide +kernel
theorem dX10_readDefinition_233 : decode cX10_readDefinition 233 = .ok (.ldc2_w 29, 3) := by decide +kernel
theorem dX10_readDefinition_236 : decode cX10_readDefinition 236 = .ok (.invokevirtual 399, 3) := by decide +kernel
theorem dX10_readDefinition_239 : decode cX10_readDefinition 239 = .ok (.ifCond .eq 7, 3) := by decide +kernel
theorem dX10_readDefinition_242 : decode cX10_readDefinition 242 = .ok (.iconst 2, 1) := by decide +kernel
theorem dX10_readDefinition_243 : decode cX10_readDefinition 243 = .ok (.goto 4, 3) := by decide +kernel
theorem dX10_readDefinition_246 : decode cX10_readDefinition 246 = .ok (.iconst 3, 1) := by decide +kernel
theorem dX10_readDefinition_247 : decode cX10_readDefinition 247 = .ok (.iastore, 1) := by decide +kernel
theorem dX10_readDefinition_248 : decode cX10_readDefinition 248 = .ok (.aload_n 0, 1) := by decide +kernel
theorem dX10_readDefinition_249 : decode cX10_readDefinition 249 = .ok (.getfield 170, 3) := by decide +kernel
theorem dX10_readDefinition_252 : decode cX10_readDefinition 252 = .ok (.iload_n 1, 1) := by decide +kernel
theorem dX10_readDefinition_253 : decode cX10_readDefinition 253 = .ok (.iaload, 1) := by decide +kernel
theorem dX10_readDefinition_254 : decode cX10_readDefinition 254 = .ok (.iconst 3, 1) := by decide +kernel
theorem dX10_readDefinition_255 : decode cX10_readDefinition 255 = .ok (.if_icmp .ne 10, 3) := by decide +kernel
theorem dX10_readDefinition_258 : decode cX10_readDefinition 258 = .ok (.aload_n 0, 1) := by decide +kernel
theorem dX10_readDefinition_259 : decode cX10_readDefinition 259 = .ok (.ldc2_w 31, 3) := by decide +kernel
theorem dX10_readDefinition_262 : decode cX10_readDefinition 262 = .ok (.invokevirtual 408, 3) := by decide +kernel
theorem dX10_readDefinition_265 : decode cX10_readDefinition 265 = .ok (.aload_n 0, 1) := by decide +kernel
theorem dX10_readDefinition_266 : decode cX10_readDefinition 266 = .ok (.sipush 15677, 3) := by decide +kernel
theorem dX10_readDefinition_269 : decode cX10_readDefinition 269 = .ok (.invokevirtual 372, 3) := by decide +kernel
theorem dX10_readDefinition_272 : decode cX10_readDefinition 272 = .ok (.aload_n 0, 1) := by decide +kernel
theorem dX10_readDefinition_273 : decode cX10_readDefinition 273 = .ok (.aload_n 0, 1) := by decide +kernel
theorem dX10_readDefinition_274 : decode cX10_readDefinition 274 = .ok (.getfield 96, 3) := by decide +kernel
theorem dX10_readDefinition_277 : decode cX10_readDefinition 277 = .ok (.aload_n 0, 1) := by decide +kernel
theorem dX10_readDefinition_278 : decode cX10_readDefinition 278 = .ok (.getfield 324, 3) := by decide +kernel
theorem dX10_readDefinition_281 : decode cX10_readDefinition 281 = .ok (.iaload, 1) := by decide +kernel
theorem dX10_readDefinition_282 : decode cX10_readDefinition 282 = .ok (.putfield 884, 3) := by decide +kernel
theorem dX10_readDefinition_285 : decode cX10_readDefinition 285 = .ok (.aload_n 0, 1) := by decide +kernel
theorem dX10_readDefinition_286 : decode cX10_readDefinition 286 = .ok (.invokevirtual 405, 3) := by decide +kernel
theorem dX10_readDefinition_289 : decode cX10_readDefinition 289 = .ok (.ireturn, 1) := by decide +kernel
/-! AlgebraHouseModel.readDefinition()I -/
def P_X10_readDefinition_265 (Q : Int → MM → Prop) (m : MM) : Prop := P_X10_sign 15677 m (fun r1 m1 => (0 ≤ (m1 582 9) ∧ (m1 582 9) < 420) ∧ ∀ m2 : MM, m2 = up m1 582 110 (m1 588 (m1 582 9)) → R_X10_readE 300 4 [] m2 (fun r2 m3 => Q r2 m3) (fun _ => False))
def P_X10_readDefinition_247 (Q : Int → MM → Prop) (x1 : Int) (s1 : Int) (s2 : Int) (m : MM) : Prop := (0 ≤ s1 ∧ s1 < 21) ∧ ∀ m1 : MM, m1 = up m 611 s1 s2 → (0 ≤ x1 ∧ x1 < 21) ∧ (RI (m1 611 x1)) ∧ (if (m1 611 x1) = 3 then P_X10_key 439854918756 m1 (fun r1 m2 => P_X10_readDefinition_265 Q m2) else P_X10_readDefinition_265 Q m1)
def P_X10_readDefinition_171 (Q : Int → MM → Prop) (x1 : Int) (m : MM) : Prop := P_X10_closeWith 41 m (fun r1 m1 => P_X10_sign 58 m1 (fun r2 m2 => R_X10_readRing 20 0 [] m2 (fun r3 m3 => ∀ m4 : MM, m4 = up m3 582 112 r3 → P_X10_isKey 6713202 m4 (fun r4 m5 => (RI r4) ∧ (if r4 = 0 then P_X10_readDefinition_265 Q m5 else ∀ m6 : MM, m6 = up m5 582 113 (m5 582 9) → P_X10_accept m6 (fun r5 m7 => P_X10_takesKey 1919512167 m7 (fun r6 m8 => (RI r6) ∧ (if r6 = 0 then P_X10_takesKey 482854660462 m8 (fun r7 m9 => (RI r7) ∧ (if r7 = 0 then P_X10_readDefinition_247 Q x1 x1 3 m9 else P_X10_readDefinition_247 Q x1 x1 2 m9)) else P_X10_readDefinition_247 Q x1 x1 1 m8)))))) (fun _ => False)))
def P_X10_readDefinition_83 (Q : Int → MM → Prop) (K48 : Int → MM → Prop) (x1 : Int) (m : MM) : Prop := P_X10_need 1 m (fun r1 m1 => P_X10_sign 58 m1 (fun r2 m2 => R_X10_readRing 20 0 [] m2 (fun r3 m3 => (RI (m3 582 10)) ∧ (if (m3 582 10) ≤ 0 then (0 ≤ x1 ∧ x1 < 21) ∧ (0 ≤ (m3 609 x1) ∧ (m3 609 x1) < 3) ∧ ∀ m4 : MM, m4 = up m3 651 (m3 609 x1) r1 → ∀ m5 : MM, m5 = up m4 652 (m3 609 x1) r3 → (0 ≤ r1 ∧ r1 < 420) ∧ (0 ≤ ((3 * x1) + (m3 609 x1)) ∧ ((3 * x1) + (m3 609 x1)) < 63) ∧ ∀ m6 : MM, m6 = up m5 608 ((3 * x1) + (m3 609 x1)) (m5 589 r1) → ∀ m7 : MM, m7 = up m6 609 x1 ((m6 609 x1) + 1) → P_X10_takesSign 44 m7 (fun r4 m8 => (RI r4) ∧ (if r4 = 0 then P_X10_readDefinition_171 Q x1 m8 else K48 x1 m8)) else Q (-1) m3)) (fun _ => False)))
def P_X10_readDefinition_48 (Q : Int → MM → Prop) : Nat → Int → MM → Prop
  | 0, _, _ => False
  | n + 1, x1, m => (RI (m 582 10)) ∧ (if (m 582 10) = 0 then (0 ≤ (m 582 9) ∧ (m 582 9) < 420) ∧ (RI (m 587 (m 582 9))) ∧ (if (m 587 (m 582 9)) = 1 then (0 ≤ x1 ∧ x1 < 21) ∧ (RI (m 609 x1)) ∧ (if (m 609 x1) = 3 then P_X10_fail 2 m (fun r1 m1 => P_X10_readDefinition_83 Q (fun z0 z1 => P_X10_readDefinition_48 Q n z0 z1) x1 m1) else P_X10_readDefinition_83 Q (fun z0 z1 => P_X10_readDefinition_48 Q n z0 z1) x1 m) else P_X10_readDefinition_83 Q (fun z0 z1 => P_X10_readDefinition_48 Q n z0 z1) x1 m) else P_X10_readDefinition_83 Q (fun z0 z1 => P_X10_readDefinition_48 Q n z0 z1) x1 m)
def P_X10_readDefinition (m : MM) (Q : Int → MM → Prop) : Prop := P_X10_need 1 m (fun r1 m1 => (0 ≤ r1 ∧ r1 < 420) ∧ (0 ≤ (m 582 32) ∧ (m 582 32) < 21) ∧ ∀ m2 : MM, m2 = up m1 606 (m 582 32) (m1 589 r1) → ∀ m3 : MM, m3 = up m2 609 (m 582 32) 0 → ∀ m4 : MM, m4 = up m3 611 (m 582 32) 0 → ∀ m5 : MM, m5 = up m4 582 113 (-1) → P_X10_openWith 40 m5 (fun r2 m6 => ∃ nn, P_X10_readDefinition_48 Q nn (m 582 32) m6))
theorem pl_X10_readDefinition_265 {f : Nat} {Q : Int → MM → Prop} {T : MM → Prop} (hf : 327 ≤ f) : ∀ (m : MM), P_X10_readDefinition_265 Q m → B f M_X10_readDefinition 265 [vR 582, vU, vU, vU, vU, vU] [] m Q T := by
  intro m h
  have h : P_X10_sign 15677 m (fun r1 m1 => (0 ≤ (m1 582 9) ∧ (m1 582 9) < 420) ∧ ∀ m2 : MM, m2 = up m1 582 110 (m1 588 (m1 582 9)) → R_X10_readE 300 4 [] m2 (fun r2 m3 => Q r2 m3) (fun _ => False)) := h
  refine b_aload_n dX10_readDefinition_265 rfl ?_
  refine b_sipush dX10_readDefinition_266 (by decide) ?_
  refine b_cVv (as := [vI 15677]) (st := []) dX10_readDefinition_269 mf_X10_sign qs103 lk_X10_372 ly_582 rfl (p_X10_sign (f := 3) (Nat.le_refl _) _ _ h) (by omega) rfl rfl (Nat.le_of_ble_eq_true rfl) (by decide) rfl (fun _ => rfl) (fun r1 m1 h => ?_) (fun _ h => h)
  refine b_aload_n dX10_readDefinition_272 rfl ?_
  refine b_aload_n dX10_readDefinition_273 rfl ?_
  refine b_getR dX10_readDefinition_274 fk_X10_96 ly_582 gg_582_6 ?_
  refine b_aload_n dX10_readDefinition_277 rfl ?_
  refine b_getI dX10_readDefinition_278 fk_X10_324 ly_582 ?_
  obtain ⟨g1, h⟩ := h
  refine b_iald dX10_readDefinition_281 ly_588 g1 ?_
  refine b_putI dX10_readDefinition_282 fk_X10_884 ly_582 (fun m2 em2 => ?_)
  have h := h m2 em2
  refine b_aload_n dX10_readDefinition_285 rfl ?_
  refine b_cVi (as := []) (st := []) dX10_readDefinition_286 mf_X10_readE qs113 lk_X10_405 ly_582 rfl ((pr_X10_readE 300 326 (Nat.le_refl _)).2.2.2.2.1 _ _ _ h) (by omega) rfl rfl (Nat.le_of_ble_eq_true rfl) (by decide) rfl (fun _ => rfl) (fun r2 m3 h => ?_) (fun _ h => h.elim)
  exact b_iret dX10_readDefinition_289 rfl h
theorem pl_X10_readDefinition_247 {f : Nat} {Q : Int → MM → Prop} {T : MM → Prop} (hf : 327 ≤ f) : ∀ (x1 : Int) (s1 : Int) (s2 : Int) (m : MM), P_X10_readDefinition_247 Q x1 s1 s2 m → B f M_X10_readDefinition 247 [vR 582, vI x1, vU, vU, vU, vU] [vI s2, vI s1, vR 611] m Q T := by
  intro x1 s1 s2 m h
  have h : (0 ≤ s1 ∧ s1 < 21) ∧ ∀ m1 : MM, m1 = up m 611 s1 s2 → (0 ≤ x1 ∧ x1 < 21) ∧ (RI (m1 611 x1)) ∧ (if (m1 611 x1) = 3 then P_X10_key 439854918756 m1 (fun r1 m2 => P_X10_readDefinition_265 Q m2) else P_X10_readDefinition_265 Q m1) := h
  obtain ⟨g1, h⟩ := h
  refine b_iast dX10_readDefinition_247 ly_611 g1 (fun m1 em1 => ?_)
  have h := h m1 em1
  refine b_aload_n dX10_readDefinition_248 rfl ?_
  refine b_getR dX10_readDefinition_249 fk_X10_170 ly_582 gg_582_40 ?_
  refine b_iload_n dX10_readDefinition_252 rfl ?_
  obtain ⟨g2, h⟩ := h
  refine b_iald dX10_readDefinition_253 ly_611 g2 ?_
  refine b_iconst dX10_readDefinition_254 ?_
  obtain ⟨g3, h⟩ := h
  refine b_icmp_ne 265 dX10_readDefinition_255 g3 (by decide) (by decide) (fun c1 => ?_) (fun c1 => ?_)
  · have h := ifF c1 h
    refine b_fgt [true, false, false, false, false, false] (ls' := [vR 582, vU, vU, vU, vU, vU]) rfl rfl ?_
    exact pl_X10_readDefinition_265 hf _ h
  · have h := ifT (Decidable.of_not_not c1) h
    refine b_aload_n dX10_readDefinition_258 rfl ?_
    refine b_ldc2 (439854918756) dX10_readDefinition_259 q1628 (by decide) ?_
    refine b_cVv (as := [vL 439854918756]) (st := []) dX10_readDefinition_262 mf_X10_key qs112 lk_X10_408 ly_582 rfl (p_X10_key (f := 3) (Nat.le_refl _) _ _ h) (by omega) rfl rfl (Nat.le_of_ble_eq_true rfl) (by decide) rfl (fun _ => rfl) (fun r1 m2 h => ?_) (fun _ h => h)
    refine b_fgt [true, false, false, false, false, false] (ls' := [vR 582, vU, vU, vU, vU, vU]) rfl rfl ?_
    exact pl_X10_readDefinition_265 hf _ h
theorem pl_X10_readDefinition_171 {f : Nat} {Q : Int → MM → Prop} {T : MM → Prop} (hf : 327 ≤ f) : ∀ (x1 : Int) (m : MM), P_X10_readDefinition_171 Q x1 m → B f M_X10_readDefinition 171 [vR 582, vI x1, vU, vU, vU, vU] [] m Q T := by
  intro x1 m h
  have h : P_X10_closeWith 41 m (fun r1 m1 => P_X10_sign 58 m1 (fun r2 m2 => R_X10_readRing 20 0 [] m2 (fun r3 m3 => ∀ m4 : MM, m4 = up m3 582 112 r3 → P_X10_isKey 6713202 m4 (fun r4 m5 => (RI r4) ∧ (if r4 = 0 then P_X10_readDefinition_265 Q m5 else ∀ m6 : MM, m6 = up m5 582 113 (m5 582 9) → P_X10_accept m6 (fun r5 m7 => P_X10_takesKey 1919512167 m7 (fun r6 m8 => (RI r6) ∧ (if r6 = 0 then P_X10_takesKey 482854660462 m8 (fun r7 m9 => (RI r7) ∧ (if r7 = 0 then P_X10_readDefinition_247 Q x1 x1 3 m9 else P_X10_readDefinition_247 Q x1 x1 2 m9)) else P_X10_readDefinition_247 Q x1 x1 1 m8)))))) (fun _ => False))) := h
  refine b_aload_n dX10_readDefinition_171 rfl ?_
  refine b_bipush dX10_readDefinition_172 (by decide) ?_
  refine b_cVv (as := [vI 41]) (st := []) dX10_readDefinition_174 mf_X10_closeWith qs109 lk_X10_396 ly_582 rfl (p_X10_closeWith (f := 4) (Nat.le_refl _) _ _ h) (by omega) rfl rfl (Nat.le_of_ble_eq_true rfl) (by decide) rfl (fun _ => rfl) (fun r1 m1 h => ?_) (fun _ h => h)
  refine b_aload_n dX10_readDefinition_177 rfl ?_
  refine b_bipush dX10_readDefinition_178 (by decide) ?_
  refine b_cVv (as := [vI 58]) (st := []) dX10_readDefinition_180 mf_X10_sign qs103 lk_X10_372 ly_582 rfl (p_X10_sign (f := 3) (Nat.le_refl _) _ _ h) (by omega) rfl rfl (Nat.le_of_ble_eq_true rfl) (by decide) rfl (fun _ => rfl) (fun r2 m2 h => ?_) (fun _ h => h)
  refine b_aload_n dX10_readDefinition_183 rfl ?_
  refine b_aload_n dX10_readDefinition_184 rfl ?_
  refine b_cVi (as := []) (st := [vR 582]) dX10_readDefinition_185 mf_X10_readRing qs106 lk_X10_392 ly_582 rfl ((pr_X10_readRing 20 25 (Nat.le_refl _)).1 _ _ _ h) (by omega) rfl rfl (Nat.le_of_ble_eq_true rfl) (by decide) rfl (fun _ => rfl) (fun r3 m3 h => ?_) (fun _ h => h.elim)
  refine b_putI dX10_readDefinition_188 fk_X10_881 ly_582 (fun m4 em4 => ?_)
  have h := h m4 em4
  refine b_aload_n dX10_readDefinition_191 rfl ?_
  refine b_ldc2 (6713202) dX10_readDefinition_192 q1625 (by decide) ?_
  refine b_cVi (as := [vL 6713202]) (st := []) dX10_readDefinition_195 mf_X10_isKey qs108 lk_X10_365 ly_582 rfl (p_X10_isKey (f := 1) (Nat.le_refl _) _ _ h) (by omega) rfl rfl (Nat.le_of_ble_eq_true rfl) (by decide) rfl (fun _ => rfl) (fun r4 m5 h => ?_) (fun _ h => h)
  obtain ⟨g1, h⟩ := h
  refine b_if_eq 265 dX10_readDefinition_198 g1 (by decide) (fun c1 => ?_) (fun c1 => ?_)
  · have h := ifT c1 h
    refine b_fgt [true, false, false, false, false, false] (ls' := [vR 582, vU, vU, vU, vU, vU]) rfl rfl ?_
    exact pl_X10_readDefinition_265 hf _ h
  · have h := ifF c1 h
    refine b_aload_n dX10_readDefinition_201 rfl ?_
    refine b_aload_n dX10_readDefinition_202 rfl ?_
    refine b_getI dX10_readDefinition_203 fk_X10_324 ly_582 ?_
    refine b_putI dX10_readDefinition_206 fk_X10_878 ly_582 (fun m6 em6 => ?_)
    have h := h m6 em6
    refine b_aload_n dX10_readDefinition_209 rfl ?_
    refine b_cVv (as := []) (st := []) dX10_readDefinition_210 mf_X10_accept qs100 lk_X10_362 ly_582 rfl (p_X10_accept (f := 2) (Nat.le_refl _) _ h) (by omega) rfl rfl (Nat.le_of_ble_eq_true rfl) (by decide) rfl (fun _ => rfl) (fun r5 m7 h => ?_) (fun _ h => h)
    refine b_aload_n dX10_readDefinition_213 rfl ?_
    refine b_getR dX10_readDefinition_214 fk_X10_170 ly_582 gg_582_40 ?_
    refine b_iload_n dX10_readDefinition_217 rfl ?_
    refine b_aload_n dX10_readDefinition_218 rfl ?_
    refine b_ldc2 (1919512167) dX10_readDefinition_219 q1626 (by decide) ?_
    refine b_cVi (as := [vL 1919512167]) (st := [vI x1, vR 611]) dX10_readDefinition_222 mf_X10_takesKey qs111 lk_X10_399 ly_582 rfl (p_X10_takesKey (f := 3) (Nat.le_refl _) _ _ h) (by omega) rfl rfl (Nat.le_of_ble_eq_true rfl) (by decide) rfl (fun _ => rfl) (fun r6 m8 h => ?_) (fun _ h => h)
    obtain ⟨g2, h⟩ := h
    refine b_if_eq 232 dX10_readDefinition_225 g2 (by decide) (fun c2 => ?_) (fun c2 => ?_)
    · have h := ifT c2 h
      refine b_aload_n dX10_readDefinition_232 rfl ?_
      refine b_ldc2 (482854660462) dX10_readDefinition_233 q1627 (by decide) ?_
      refine b_cVi (as := [vL 482854660462]) (st := [vI x1, vR 611]) dX10_readDefinition_236 mf_X10_takesKey qs111 lk_X10_399 ly_582 rfl (p_X10_takesKey (f := 3) (Nat.le_refl _) _ _ h) (by omega) rfl rfl (Nat.le_of_ble_eq_true rfl) (by decide) rfl (fun _ => rfl) (fun r7 m9 h => ?_) (fun _ h => h)
      obtain ⟨g3, h⟩ := h
      refine b_if_eq 246 dX10_readDefinition_239 g3 (by decide) (fun c3 => ?_) (fun c3 => ?_)
      · have h := ifT c3 h
        refine b_iconst dX10_readDefinition_246 ?_
        exact pl_X10_readDefinition_247 hf _ _ _ _ h
      · have h := ifF c3 h
        refine b_iconst dX10_readDefinition_242 ?_
        refine b_goto 247 dX10_readDefinition_243 (by decide) ?_
        exact pl_X10_readDefinition_247 hf _ _ _ _ h
    · have h := ifF c2 h
      refine b_iconst dX10_readDefinition_228 ?_
      refine b_goto 247 dX10_readDefinition_229 (by decide) ?_
      exact pl_X10_readDefinition_247 hf _ _ _ _ h
theorem pl_X10_readDefinition_83 {f : Nat} {Q : Int → MM → Prop} {T : MM → Prop} (hf : 327 ≤ f) {K48 : Int → MM → Prop} (hK48 : ∀ (x1 : Int) (m : MM), K48 x1 m → B f M_X10_readDefinition 48 [vR 582, vI x1, vU, vU, vU, vU] [] m Q T) : ∀ (x1 : Int) (m : MM), P_X10_readDefinition_83 Q K48 x1 m → B f M_X10_readDefinition 83 [vR 582, vI x1, vU, vU, vU, vU] [] m Q T := by
  intro x1 m h
  have h : P_X10_need 1 m (fun r1 m1 => P_X10_sign 58 m1 (fun r2 m2 => R_X10_readRing 20 0 [] m2 (fun r3 m3 => (RI (m3 582 10)) ∧ (if (m3 582 10) ≤ 0 then (0 ≤ x1 ∧ x1 < 21) ∧ (0 ≤ (m3 609 x1) ∧ (m3 609 x1) < 3) ∧ ∀ m4 : MM, m4 = up m3 651 (m3 609 x1) r1 → ∀ m5 : MM, m5 = up m4 652 (m3 609 x1) r3 → (0 ≤ r1 ∧ r1 < 420) ∧ (0 ≤ ((3 * x1) + (m3 609 x1)) ∧ ((3 * x1) + (m3 609 x1)) < 63) ∧ ∀ m6 : MM, m6 = up m5 608 ((3 * x1) + (m3 609 x1)) (m5 589 r1) → ∀ m7 : MM, m7 = up m6 609 x1 ((m6 609 x1) + 1) → P_X10_takesSign 44 m7 (fun r4 m8 => (RI r4) ∧ (if r4 = 0 then P_X10_readDefinition_171 Q x1 m8 else K48 x1 m8)) else Q (-1) m3)) (fun _ => False))) := h
  refine b_aload_n dX10_readDefinition_83 rfl ?_
  refine b_iconst dX10_readDefinition_84 ?_
  refine b_cVi (as := [vI 1]) (st := []) dX10_readDefinition_85 mf_X10_need qs99 lk_X10_388 ly_582 rfl (p_X10_need (f := 3) (Nat.le_refl _) _ _ h) (by omega) rfl rfl (Nat.le_of_ble_eq_true rfl) (by decide) rfl (fun _ => rfl) (fun r1 m1 h => ?_) (fun _ h => h)
  refine b_istore_n (ls' := [vR 582, vI x1, vU, vI r1, vU, vU]) dX10_readDefinition_88 (Nat.le_of_ble_eq_true rfl) rfl ?_
  refine b_aload_n dX10_readDefinition_89 rfl ?_
  refine b_bipush dX10_readDefinition_90 (by decide) ?_
  refine b_cVv (as := [vI 58]) (st := []) dX10_readDefinition_92 mf_X10_sign qs103 lk_X10_372 ly_582 rfl (p_X10_sign (f := 3) (Nat.le_refl _) _ _ h) (by omega) rfl rfl (Nat.le_of_ble_eq_true rfl) (by decide) rfl (fun _ => rfl) (fun r2 m2 h => ?_) (fun _ h => h)
  refine b_aload_n dX10_readDefinition_95 rfl ?_
  refine b_cVi (as := []) (st := []) dX10_readDefinition_96 mf_X10_readRing qs106 lk_X10_392 ly_582 rfl ((pr_X10_readRing 20 25 (Nat.le_refl _)).1 _ _ _ h) (by omega) rfl rfl (Nat.le_of_ble_eq_true rfl) (by decide) rfl (fun _ => rfl) (fun r3 m3 h => ?_) (fun _ h => h.elim)
  refine b_istore (ls' := [vR 582, vI x1, vU, vI r1, vI r3, vU]) dX10_readDefinition_99 (Nat.le_of_ble_eq_true rfl) rfl ?_
  refine b_aload_n dX10_readDefinition_101 rfl ?_
  refine b_getI dX10_readDefinition_102 fk_X10_347 ly_582 ?_
  obtain ⟨g1, h⟩ := h
  refine b_if_le 110 dX10_readDefinition_105 g1 (by decide) (fun c1 => ?_) (fun c1 => ?_)
  · have h := ifT c1 h
    refine b_aload_n dX10_readDefinition_110 rfl ?_
    refine b_getR dX10_readDefinition_111 fk_X10_164 ly_582 gg_582_38 ?_
    refine b_iload_n dX10_readDefinition_114 rfl ?_
    obtain ⟨g2, h⟩ := h
    refine b_iald dX10_readDefinition_115 ly_609 g2 ?_
    refine b_istore (ls' := [vR 582, vI x1, vU, vI r1, vI r3, vI (m3 609 x1)]) dX10_readDefinition_116 (Nat.le_of_ble_eq_true rfl) rfl ?_
    refine b_aload_n dX10_readDefinition_118 rfl ?_
    refine b_getR dX10_readDefinition_119 fk_X10_304 ly_582 gg_582_114 ?_
    refine b_iload dX10_readDefinition_122 rfl ?_
    refine b_iload_n dX10_readDefinition_124 rfl ?_
    obtain ⟨g3, h⟩ := h
    refine b_iast dX10_readDefinition_125 ly_651 g3 (fun m4 em4 => ?_)
    have h := h m4 em4
    refine b_aload_n dX10_readDefinition_126 rfl ?_
    refine b_getR dX10_readDefinition_127 fk_X10_307 ly_582 gg_582_115 ?_
    refine b_iload dX10_readDefinition_130 rfl ?_
    refine b_iload dX10_readDefinition_132 rfl ?_
    refine b_iast dX10_readDefinition_134 ly_652 g3 (fun m5 em5 => ?_)
    have h := h m5 em5
    refine b_aload_n dX10_readDefinition_135 rfl ?_
    refine b_getR dX10_readDefinition_136 fk_X10_161 ly_582 gg_582_37 ?_
    refine b_iconst dX10_readDefinition_139 ?_
    refine b_iload_n dX10_readDefinition_140 rfl ?_
    refine b_imul dX10_readDefinition_141 ?_
    refine b_iload dX10_readDefinition_142 rfl ?_
    refine b_iadd dX10_readDefinition_144 ?_
    refine b_aload_n dX10_readDefinition_145 rfl ?_
    refine b_getR dX10_readDefinition_146 fk_X10_99 ly_582 gg_582_7 ?_
    refine b_iload_n dX10_readDefinition_149 rfl ?_
    obtain ⟨g4, h⟩ := h
    refine b_lald dX10_readDefinition_150 ly_589 g4 ?_
    obtain ⟨g5, h⟩ := h
    refine b_last dX10_readDefinition_151 ly_608 g5 (fun m6 em6 => ?_)
    have h := h m6 em6
    refine b_aload_n dX10_readDefinition_152 rfl ?_
    refine b_getR dX10_readDefinition_153 fk_X10_164 ly_582 gg_582_38 ?_
    refine b_iload_n dX10_readDefinition_156 rfl ?_
    refine b_dup2 dX10_readDefinition_157 rfl rfl ?_
    refine b_iald dX10_readDefinition_158 ly_609 g2 ?_
    refine b_iconst dX10_readDefinition_159 ?_
    refine b_iadd dX10_readDefinition_160 ?_
    refine b_iast dX10_readDefinition_161 ly_609 g2 (fun m7 em7 => ?_)
    have h := h m7 em7
    refine b_aload_n dX10_readDefinition_162 rfl ?_
    refine b_bipush dX10_readDefinition_163 (by decide) ?_
    refine b_cVi (as := [vI 44]) (st := []) dX10_readDefinition_165 mf_X10_takesSign qs110 lk_X10_430 ly_582 rfl (p_X10_takesSign (f := 3) (Nat.le_refl _) _ _ h) (by omega) rfl rfl (Nat.le_of_ble_eq_true rfl) (by decide) rfl (fun _ => rfl) (fun r4 m8 h => ?_) (fun _ h => h)
    obtain ⟨g6, h⟩ := h
    refine b_if_ne 48 dX10_readDefinition_168 g6 (by decide) (fun c2 => ?_) (fun c2 => ?_)
    · have h := ifF c2 h
      refine b_fgt [true, true, false, false, false, false] (ls' := [vR 582, vI x1, vU, vU, vU, vU]) rfl rfl ?_
      exact hK48 _ _ h
    · have h := ifT (Decidable.of_not_not c2) h
      refine b_fgt [true, true, false, false, false, false] (ls' := [vR 582, vI x1, vU, vU, vU, vU]) rfl rfl ?_
      exact pl_X10_readDefinition_171 hf _ _ h
  · have h := ifF c1 h
    refine b_iconst dX10_readDefinition_108 ?_
    exact b_iret dX10_readDefinition_109 rfl h
theorem pl_X10_readDefinition_48 {f : Nat} {Q : Int → MM → Prop} {T : MM → Prop} (hf : 327 ≤ f) : ∀ (n : Nat) (x1 : Int) (m : MM), P_X10_readDefinition_48 Q n x1 m → B f M_X10_readDefinition 48 [vR 582, vI x1, vU, vU, vU, vU] [] m Q T := by
  intro n
  induction n with
  | zero => intro x1 m h; exact h.elim
  | succ n ih =>
    intro x1 m h
    have h : (RI (m 582 10)) ∧ (if (m 582 10) = 0 then (0 ≤ (m 582 9) ∧ (m 582 9) < 420) ∧ (RI (m 587 (m 582 9))) ∧ (if (m 587 (m 582 9)) = 1 then (0 ≤ x1 ∧ x1 < 21) ∧ (RI (m 609 x1)) ∧ (if (m 609 x1) = 3 then P_X10_fail 2 m (fun r1 m1 => P_X10_readDefinition_83 Q (fun z0 z1 => P_X10_readDefinition_48 Q n z0 z1) x1 m1) else P_X10_readDefinition_83 Q (fun z0 z1 => P_X10_readDefinition_48 Q n z0 z1) x1 m) else P_X10_readDefinition_83 Q (fun z0 z1 => P_X10_readDefinition_48 Q n z0 z1) x1 m) else P_X10_readDefinition_83 Q (fun z0 z1 => P_X10_readDefinition_48 Q n z0 z1) x1 m) := h
    refine b_aload_n dX10_readDefinition_48 rfl ?_
    refine b_getI dX10_readDefinition_49 fk_X10_347 ly_582 ?_
    obtain ⟨g1, h⟩ := h
    refine b_if_ne 83 dX10_readDefinition_52 g1 (by decide) (fun c1 => ?_) (fun c1 => ?_)
    · have h := ifF c1 h
      exact pl_X10_readDefinition_83 hf (fun _ _ h => ih _ _ h) _ _ h
    · have h := ifT (Decidable.of_not_not c1) h
      refine b_aload_n dX10_readDefinition_55 rfl ?_
      refine b_getR dX10_readDefinition_56 fk_X10_93 ly_582 gg_582_5 ?_
      refine b_aload_n dX10_readDefinition_59 rfl ?_
      refine b_getI dX10_readDefinition_60 fk_X10_324 ly_582 ?_
      obtain ⟨g2, h⟩ := h
      refine b_iald dX10_readDefinition_63 ly_587 g2 ?_
      refine b_iconst dX10_readDefinition_64 ?_
      obtain ⟨g3, h⟩ := h
      refine b_icmp_ne 83 dX10_readDefinition_65 g3 (by decide) (by decide) (fun c2 => ?_) (fun c2 => ?_)
      · have h := ifF c2 h
        exact pl_X10_readDefinition_83 hf (fun _ _ h => ih _ _ h) _ _ h
      · have h := ifT (Decidable.of_not_not c2) h
        refine b_aload_n dX10_readDefinition_68 rfl ?_
        refine b_getR dX10_readDefinition_69 fk_X10_164 ly_582 gg_582_38 ?_
        refine b_iload_n dX10_readDefinition_72 rfl ?_
        obtain ⟨g4, h⟩ := h
        refine b_iald dX10_readDefinition_73 ly_609 g4 ?_
        refine b_iconst dX10_readDefinition_74 ?_
        obtain ⟨g5, h⟩ := h
        refine b_icmp_ne 83 dX10_readDefinition_75 g5 (by decide) (by decide) (fun c3 => ?_) (fun c3 => ?_)
        · have h := ifF c3 h
          exact pl_X10_readDefinition_83 hf (fun _ _ h => ih _ _ h) _ _ h
        · have h := ifT (Decidable.of_not_not c3) h
          refine b_aload_n dX10_readDefinition_78 rfl ?_
          refine b_iconst dX10_readDefinition_79 ?_
          refine b_cVv (as := [vI 2]) (st := []) dX10_readDefinition_80 mf_X10_fail qs101 lk_X10_356 ly_582 rfl (p_X10_fail (f := 1) (Nat.le_refl _) _ _ h) (by omega) rfl rfl (Nat.le_of_ble_eq_true rfl) (by decide) rfl (fun _ => rfl) (fun r1 m1 h => ?_) (fun _ h => h)
          exact pl_X10_readDefinition_83 hf (fun _ _ h => ih _ _ h) _ _ h
theorem p_X10_readDefinition {f : Nat} {Q : Int → MM → Prop} {T : MM → Prop} (hf : 327 ≤ f) (m : MM) (h : P_X10_readDefinition m Q) : CC f M_X10_readDefinition [vR 582] m Q T := by
  refine CC.of (plainFor_of_name (by decide)) (Nat.le_of_ble_eq_true rfl) (ls := [vR 582, vU, vU, vU, vU, vU]) rfl ?_
  have h : P_X10_need 1 m (fun r1 m1 => (0 ≤ r1 ∧ r1 < 420) ∧ (0 ≤ (m 582 32) ∧ (m 582 32) < 21) ∧ ∀ m2 : MM, m2 = up m1 606 (m 582 32) (m1 589 r1) → ∀ m3 : MM, m3 = up m2 609 (m 582 32) 0 → ∀ m4 : MM, m4 = up m3 611 (m 582 32) 0 → ∀ m5 : MM, m5 = up m4 582 113 (-1) → P_X10_openWith 40 m5 (fun r2 m6 => ∃ nn, P_X10_readDefinition_48 Q nn (m 582 32) m6)) := h
  refine b_aload_n dX10_readDefinition_0 rfl ?_
  refine b_getI dX10_readDefinition_1 fk_X10_591 ly_582 ?_
  refine b_istore_n (ls' := [vR 582, vI (m 582 32), vU, vU, vU, vU]) dX10_readDefinition_4 (Nat.le_of_ble_eq_true rfl) rfl ?_
  refine b_aload_n dX10_readDefinition_5 rfl ?_
  refine b_iconst dX10_readDefinition_6 ?_
  refine b_cVi (as := [vI 1]) (st := []) dX10_readDefinition_7 mf_X10_need qs99 lk_X10_388 ly_582 rfl (p_X10_need (f := 3) (Nat.le_refl _) _ _ h) (by omega) rfl rfl (Nat.le_of_ble_eq_true rfl) (by decide) rfl (fun _ => rfl) (fun r1 m1 h => ?_) (fun _ h => h)
  refine b_istore_n (ls' := [vR 582, vI (m 582 32), vI r1, vU, vU, vU]) dX10_readDefinition_10 (Nat.le_of_ble_eq_true rfl) rfl ?_
  refine b_aload_n dX10_readDefinition_11 rfl ?_
  refine b_getR dX10_readDefinition_12 fk_X10_155 ly_582 gg_582_35 ?_
  refine b_iload_n dX10_readDefinition_15 rfl ?_
  refine b_aload_n dX10_readDefinition_16 rfl ?_
  refine b_getR dX10_readDefinition_17 fk_X10_99 ly_582 gg_582_7 ?_
  refine b_iload_n dX10_readDefinition_20 rfl ?_
  obtain ⟨g1, h⟩ := h
  refine b_lald dX10_readDefinition_21 ly_589 g1 ?_
  obtain ⟨g2, h⟩ := h
  refine b_last dX10_readDefinition_22 ly_606 g2 (fun m2 em2 => ?_)
  have h := h m2 em2
  refine b_aload_n dX10_readDefinition_23 rfl ?_
  refine b_getR dX10_readDefinition_24 fk_X10_164 ly_582 gg_582_38 ?_
  refine b_iload_n dX10_readDefinition_27 rfl ?_
  refine b_iconst dX10_readDefinition_28 ?_
  refine b_iast dX10_readDefinition_29 ly_609 g2 (fun m3 em3 => ?_)
  have h := h m3 em3
  refine b_aload_n dX10_readDefinition_30 rfl ?_
  refine b_getR dX10_readDefinition_31 fk_X10_170 ly_582 gg_582_40 ?_
  refine b_iload_n dX10_readDefinition_34 rfl ?_
  refine b_iconst dX10_readDefinition_35 ?_
  refine b_iast dX10_readDefinition_36 ly_611 g2 (fun m4 em4 => ?_)
  have h := h m4 em4
  refine b_aload_n dX10_readDefinition_37 rfl ?_
  refine b_iconst dX10_readDefinition_38 ?_
  refine b_putI dX10_readDefinition_39 fk_X10_878 ly_582 (fun m5 em5 => ?_)
  have h := h m5 em5
  refine b_aload_n dX10_readDefinition_42 rfl ?_
  refine b_bipush dX10_readDefinition_43 (by decide) ?_
  refine b_cVv (as := [vI 40]) (st := []) dX10_readDefinition_45 mf_X10_openWith qs102 lk_X10_385 ly_582 rfl (p_X10_openWith (f := 4) (Nat.le_refl _) _ _ h) (by omega) rfl rfl (Nat.le_of_ble_eq_true rfl) (by decide) rfl (fun _ => rfl) (fun r2 m6 h => ?_) (fun _ h => h)
  refine b_fgt [true, true, false, false, false, false] (ls' := [vR 582, vI (m 582 32), vU, vU, vU, vU]) rfl rfl ?_
  obtain ⟨nn, h⟩ := h
  exact pl_X10_readDefinition_48 hf nn _ _ h
theorem dX10_readLine_0 : decode cX10_readLine 0 = .ok (.iload_n 1, 1) := by decide +kernel
theorem dX10_readLine_1 : decode cX10_readLine 1 = .ok (.ifCond .eq 11, 3) := by decide +kernel
theorem dX10_readLine_4 : decode cX10_readLine 4 = .ok (.aload_n 0, 1) := by decide +kernel
theorem dX10_readLine_5 : decode cX10_readLine 5 = .ok (.invokevirtual 362, 3) := by decide +kernel
theorem dX10_readLine_8 : decode cX10_readLine 8 = .ok (.aload_n 0, 1) := by decide +kernel
theorem dX10_readLine_9 : decode cX10_readLine 9 = .ok (.invokevirtual 362, 3) := by decide +kernel
theorem dX10_readLine_12 : decode cX10_readLine 12 = .ok (.aload_n 0, 1) := by decide +kernel
theorem dX10_readLine_13 : decode cX10_readLine 13 = .ok (.invokevirtual 405, 3) := by decide +kernel
theorem dX10_readLine_16 : decode cX10_readLine 16 = .ok (.ireturn, 1) := by decide +kernel
/-! AlgebraHouseModel.readLine(Z)I -/
def P_X10_readLine_12 (Q : Int → MM → Prop) (m : MM) : Prop := R_X10_readE 300 4 [] m (fun r1 m1 => Q r1 m1) (fun _ => False)
def P_X10_readLine (x1 : Int) (m : MM) (Q : Int → MM → Prop) : Prop := (RI x1) ∧ (if x1 = 0 then P_X10_readLine_12 Q m else P_X10_accept m (fun r1 m1 => P_X10_accept m1 (fun r2 m2 => P_X10_readLine_12 Q m2)))
theorem pl_X10_readLine_12 {f : Nat} {Q : Int → MM → Prop} {T : MM → Prop} (hf : 327 ≤ f) : ∀ (m : MM), P_X10_readLine_12 Q m → B f M_X10_readLine 12 [vR 582, vU] [] m Q T := by
  intro m h
  have h : R_X10_readE 300 4 [] m (fun r1 m1 => Q r1 m1) (fun _ => False) := h
  refine b_aload_n dX10_readLine_12 rfl ?_
  refine b_cVi (as := []) (st := []) dX10_readLine_13 mf_X10_readE qs113 lk_X10_405 ly_582 rfl ((pr_X10_readE 300 326 (Nat.le_refl _)).2.2.2.2.1 _ _ _ h) (by omega) rfl rfl (Nat.le_of_ble_eq_true rfl) (by decide) rfl (fun _ => rfl) (fun r1 m1 h => ?_) (fun _ h => h.elim)
  exact b_iret dX10_readLine_16 rfl h
theorem p_X10_readLine {f : Nat} {Q : Int → MM → Prop} {T : MM → Prop} (hf : 327 ≤ f) (x1 : Int) (m : MM) (h : P_X10_readLine x1 m Q) : CC f M_X10_readLine [vR 582, vI x1] m Q T := by
  refine CC.of (plainFor_of_name (by decide)) (Nat.le_of_ble_eq_true rfl) (ls := [vR 582, vI x1]) rfl ?_
  have h : (RI x1) ∧ (if x1 = 0 then P_X10_readLine_12 Q m else P_X10_accept m (fun r1 m1 => P_X10_accept m1 (fun r2 m2 => P_X10_readLine_12 Q m2))) := h
  refine b_iload_n dX10_readLine_0 rfl ?_
  obtain ⟨g1, h⟩ := h
  refine b_if_eq 12 dX10_readLine_1 g1 (by decide) (fun c1 => ?_) (fun c1 => ?_)
  · have h := ifT c1 h
    refine b_fgt [true, false] (ls' := [vR 582, vU]) rfl rfl ?_
    exact pl_X10_readLine_12 hf _ h
  · have h := ifF c1 h
    refine b_aload_n dX10_readLine_4 rfl ?_
    refine b_cVv (as := []) (st := []) dX10_readLine_5 mf_X10_accept qs100 lk_X10_362 ly_582 rfl (p_X10_accept (f := 2) (Nat.le_refl _) _ h) (by omega) rfl rfl (Nat.le_of_ble_eq_true rfl) (by decide) rfl (fun _ => rfl) (fun r1 m1 h => ?_) (fun _ h => h)
    refine b_aload_n dX10_readLine_8 rfl ?_
    refine b_cVv (as := []) (st := []) dX10_readLine_9 mf_X10_accept qs100 lk_X10_362 ly_582 rfl (p_X10_accept (f := 2) (Nat.le_refl _) _ h) (by omega) rfl rfl (Nat.le_of_ble_eq_true rfl) (by decide) rfl (fun _ => rfl) (fun r2 m2 h => ?_) (fun _ h => h)
    refine b_fgt [true, false] (ls' := [vR 582, vU]) rfl rfl ?_
    exact pl_X10_readLine_12 hf _ h
theorem dX10_wordKind_0 : decode cX10_wordKind 0 = .ok (.iconst 0, 1) := by decide +kernel
theorem dX10_wordKind_1 : decode cX10_wordKind 1 = .ok (.istore_n 3, 1) := by decide +kernel
theorem dX10_wordKind_2 : decode cX10_wordKind 2 = .ok (.iload_n 3, 1) := by decide +kernel
theorem dX10_wordKind_3 : decode cX10_wordKind 3 = .ok (.bipush 21, 2) := by decide +kernel
theorem dX10_wordKind_5 : decode cX10_wordKind 5 = .ok (.if_icmp .ge 22, 3) := by decide +kernel
theorem dX10_wordKind_8 : decode cX10_wordKind 8 = .ok (.aload_n 0, 1) := by decide +kernel
theorem dX10_wordKind_9 : decode cX10_wordKind 9 = .ok (.getfield 51, 3) := by decide +kernel
theorem dX10_wordKind_12 : decode cX10_wordKind 12 = .ok (.iload_n 3, 1) := by decide +kernel
theorem dX10_wordKind_13 : decode cX10_wordKind 13 = .ok (.laload, 1) := by decide +kernel
theorem dX10_wordKind_14 : decode cX10_wordKind 14 = .ok (.lload_n 1, 1) := by decide +kernel
theorem dX10_wordKind_15 : decode cX10_wordKind 15 = .ok (.lcmp, 1) := by decide +kernel
theorem dX10_wordKind_16 : decode cX10_wordKind 16 = .ok (.ifCond .ne 5, 3) := by decide +kernel
theorem dX10_wordKind_19 : decode cX10_wordKind 19 = .ok (.iconst 2, 1) := by decide +kernel
theorem dX10_wordKind_20 : decode cX10_wordKind 20 = .ok (.ireturn, 1) := by decide +kernel
theorem dX10_wordKind_21 : decode cX10_wordKind 21 = .ok (.iinc 3 1, 3) := by decide +kernel
theorem dX10_wordKind_24 : decode cX10_wordKind 24 = .ok (.goto (-22), 3) := by decide +kernel
theorem dX10_wordKind_27 : decode cX10_wordKind 27 = .ok (.aload_n 0, 1) := by decide +kernel
theorem dX10_wordKind_28 : decode cX10_wordKind 28 = .ok (.lload_n 1, 1) := by decide +kernel
theorem dX10_wordKind_29 : decode cX10_wordKind 29 = .ok (.invokevirtual 344, 3) := by decide +kernel
theorem dX10_wordKind_32 : decode cX10_wordKind 32 = .ok (.ifCond .lt 7, 3) := by decide +kernel
theorem dX10_wordKind_35 : decode cX10_wordKind 35 = .ok (.iconst 3, 1) := by decide +kernel
theorem dX10_wordKind_36 : decode cX10_wordKind 36 = .ok (.goto 4, 3) := by decide +kernel
theorem dX10_wordKind_39 : decode cX10_wordKind 39 = .ok (.iconst 1, 1) := by decide +kernel
theorem dX10_wordKind_40 : decode cX10_wordKind 40 = .ok (.ireturn, 1) := by decide +kernel
/-! AlgebraHouseModel.wordKind(J)I -/
def P_X10_wordKind_27 (Q : Int → MM → Prop) (x1 : Int) (m : MM) : Prop := P_X10_builtInOf x1 m (fun r1 m1 => (RI r1) ∧ (if r1 < 0 then Q 1 m1 else Q 3 m1))
def P_X10_wordKind_2 (Q : Int → MM → Prop) : Nat → Int → Int → MM → Prop
  | 0, _, _, _ => False
  | n + 1, x1, x3, m => (RI x3) ∧ (if 21 ≤ x3 then P_X10_wordKind_27 Q x1 m else (0 ≤ x3 ∧ x3 < 21) ∧ (RL (m 583 x3)) ∧ (RL x1) ∧ (if (m 583 x3) = x1 then Q 2 m else P_X10_wordKind_2 Q n x1 (x3 + 1) m))
def P_X10_wordKind (x1 : Int) (m : MM) (Q : Int → MM → Prop) : Prop := ∃ nn, P_X10_wordKind_2 Q nn x1 0 m
theorem pl_X10_wordKind_27 {f : Nat} {Q : Int → MM → Prop} {T : MM → Prop} (hf : 2 ≤ f) : ∀ (x1 : Int) (m : MM), P_X10_wordKind_27 Q x1 m → B f M_X10_wordKind 27 [vR 582, vL x1, vU, vU] [] m Q T := by
  intro x1 m h
  have h : P_X10_builtInOf x1 m (fun r1 m1 => (RI r1) ∧ (if r1 < 0 then Q 1 m1 else Q 3 m1)) := h
  refine b_aload_n dX10_wordKind_27 rfl ?_
  refine b_lload_n dX10_wordKind_28 rfl ?_
  refine b_cVi (as := [vL x1]) (st := []) dX10_wordKind_29 mf_X10_builtInOf qs97 lk_X10_344 ly_582 rfl (p_X10_builtInOf (f := 1) (Nat.le_refl _) _ _ h) (by omega) rfl rfl (Nat.le_of_ble_eq_true rfl) (by decide) rfl (fun _ => rfl) (fun r1 m1 h => ?_) (fun _ h => h)
  obtain ⟨g1, h⟩ := h
  refine b_if_lt 39 dX10_wordKind_32 g1 (by decide) (fun c1 => ?_) (fun c1 => ?_)
  · have h := ifT c1 h
    refine b_iconst dX10_wordKind_39 ?_
    exact b_iret dX10_wordKind_40 rfl h
  · have h := ifF c1 h
    refine b_iconst dX10_wordKind_35 ?_
    refine b_goto 40 dX10_wordKind_36 (by decide) ?_
    exact b_iret dX10_wordKind_40 rfl h
theorem pl_X10_wordKind_2 {f : Nat} {Q : Int → MM → Prop} {T : MM → Prop} (hf : 2 ≤ f) : ∀ (n : Nat) (x1 : Int) (x3 : Int) (m : MM), P_X10_wordKind_2 Q n x1 x3 m → B f M_X10_wordKind 2 [vR 582, vL x1, vU, vI x3] [] m Q T := by
  intro n
  induction n with
  | zero => intro x1 x3 m h; exact h.elim
  | succ n ih =>
    intro x1 x3 m h
    have h : (RI x3) ∧ (if 21 ≤ x3 then P_X10_wordKind_27 Q x1 m else (0 ≤ x3 ∧ x3 < 21) ∧ (RL (m 583 x3)) ∧ (RL x1) ∧ (if (m 583 x3) = x1 then Q 2 m else P_X10_wordKind_2 Q n x1 (x3 + 1) m)) := h
    refine b_iload_n dX10_wordKind_2 rfl ?_
    refine b_bipush dX10_wordKind_3 (by decide) ?_
    obtain ⟨g1, h⟩ := h
    refine b_icmp_ge 27 dX10_wordKind_5 g1 (by decide) (by decide) (fun c1 => ?_) (fun c1 => ?_)
    · have h := ifT c1 h
      refine b_fgt [true, true, false, false] (ls' := [vR 582, vL x1, vU, vU]) rfl rfl ?_
      exact pl_X10_wordKind_27 hf _ _ h
    · have h := ifF c1 h
      refine b_aload_n dX10_wordKind_8 rfl ?_
      refine b_getR dX10_wordKind_9 fk_X10_51 ly_582 gg_582_0 ?_
      refine b_iload_n dX10_wordKind_12 rfl ?_
      obtain ⟨g2, h⟩ := h
      refine b_lald dX10_wordKind_13 ly_583 g2 ?_
      refine b_lload_n dX10_wordKind_14 rfl ?_
      obtain ⟨g3, h⟩ := h
      obtain ⟨g4, h⟩ := h
      refine b_lc_ne 21 dX10_wordKind_15 dX10_wordKind_16 g3 g4 (by decide) (fun c2 => ?_) (fun c2 => ?_)
      · have h := ifF c2 h
        refine b_iinc (ls' := [vR 582, vL x1, vU, vI (x3 + 1)]) dX10_wordKind_21 rfl rfl ?_
        refine b_goto 2 dX10_wordKind_24 (by decide) ?_
        exact ih _ _ _ h
      · have h := ifT (Decidable.of_not_not c2) h
        refine b_iconst dX10_wordKind_19 ?_
        exact b_iret dX10_wordKind_20 rfl h
theorem p_X10_wordKind {f : Nat} {Q : Int → MM → Prop} {T : MM → Prop} (hf : 2 ≤ f) (x1 : Int) (m : MM) (h : P_X10_wordKind x1 m Q) : CC f M_X10_wordKind [vR 582, vL x1] m Q T := by
  refine CC.of (plainFor_of_name (by decide)) (Nat.le_of_ble_eq_true rfl) (ls := [vR 582, vL x1, vU, vU]) rfl ?_
  have h : ∃ nn, P_X10_wordKind_2 Q nn x1 0 m := h
  refine b_iconst dX10_wordKind_0 ?_
  refine b_istore_n (ls' := [vR 582, vL x1, vU, vI 0]) dX10_wordKind_1 (Nat.le_of_ble_eq_true rfl) rfl ?_
  obtain ⟨nn, h⟩ := h
  exact pl_X10_wordKind_2 hf nn _ _ _ h
theorem dX10_token_0 : decode cX10_token 0 = .ok (.aload_n 0, 1) := by decide +kernel
theorem dX10_token_1 : decode cX10_token 1 = .ok (.getfield 90, 3) := by decide +kernel
theorem dX10_token_4 : decode cX10_token 4 = .ok (.iload_n 1, 1) := by decide +kernel
theorem dX10_token_5 : decode cX10_token 5 = .ok (.iaload, 1) := by decide +kernel
theorem dX10_token_6 : decode cX10_token 6 = .ok (.istore_n 3, 1) := by decide +kernel
theorem dX10_token_7 : decode cX10_token 7 = .ok (.iload_n 1, 1) := by decide +kernel
theorem dX10_token_8 : decode cX10_token 8 = .ok (.istore 4, 2) := by decide +kernel
theorem dX10_token_10 : decode cX10_token 10 = .ok (.lconst 0, 1) := by decide +kernel
theorem dX10_token_11 : decode cX10_token 11 = .ok (.lstore 5, 2) := by decide +kernel
theorem dX10_token_13 : decode cX10_token 13 = .ok (.iload_n 3, 1) := by decide +kernel
theorem dX10_token_14 : decode cX10_token 14 = .ok (.invokestatic 327, 3) := by decide +kernel
theorem dX10_token_17 : decode cX10_token 17 = .ok (.ifCond .eq 104, 3) := by decide +kernel
theorem dX10_token_20 : decode cX10_token 20 = .ok (.iload 4, 2) := by decide +kernel
theorem dX10_token_22 : decode cX10_token 22 = .ok (.iload_n 2, 1) := by decide +kernel
theorem dX10_token_23 : decode cX10_token 23 = .ok (.if_icmp .ge 60, 3) := by decide +kernel
theorem dX10_token_26 : decode cX10_token 26 = .ok (.aload_n 0, 1) := by decide +kernel
theorem dX10_token_27 : decode cX10_token 27 = .ok (.getfield 90, 3) := by decide +kernel
theorem dX10_token_30 : decode cX10_token 30 = .ok (.iload 4, 2) := by decide +kernel
theorem dX10_token_32 : decode cX10_token 32 = .ok (.iaload, 1) := by decide +kernel
theorem dX10_token_33 : decode cX10_token 33 = .ok (.invokestatic 327, 3) := by decide +kernel
theorem dX10_token_36 : decode cX10_token 36 = .ok (.ifCond .ne 16, 3) := by decide +kernel
theorem dX10_token_39 : decode cX10_token 39 = .ok (.aload_n 0, 1) := by decide +kernel
theorem dX10_token_40 : decode cX10_token 40 = .ok (.getfield 90, 3) := by decide +kernel
theorem dX10_token_43 : decode cX10_token 43 = .ok (.iload 4, 2) := by decide +kernel
theorem dX10_token_45 : decode cX10_token 45 = .ok (.iaload, 1) := by decide +kernel
theorem dX10_token_46 : decode cX10_token 46 = .ok (.invokestatic 331, 3) := by decide +kernel
theorem dX10_token_49 : decode cX10_token 49 = .ok (.ifCond .eq 34, 3) := by decide +kernel
theorem dX10_token_52 : decode cX10_token 52 = .ok (.iload 4, 2) := by decide +kernel
theorem dX10_token_54 : decode cX10_token 54 = .ok (.iload_n 1, 1) := by decide +kernel
theorem dX10_token_55 : decode cX10_token 55 = .ok (.isub, 1) := by decide +kernel
theorem dX10_token_56 : decode cX10_token 56 = .ok (.bipush 8, 2) := by decide +kernel
theorem dX10_token_58 : decode cX10_token 58 = .ok (.if_icmp .ge 19, 3) := by decide +kernel
theorem dX10_token_61 : decode cX10_token 61 = .ok (.lload 5, 2) := by decide +kernel
theorem dX10_token_63 : decode cX10_token 63 = .ok (.bipush 8, 2) := by decide +kernel
theorem dX10_token_65 : decode cX10_token 65 = .ok (.lshl, 1) := by decide +kernel
theorem dX10_token_66 : decode cX10_token 66 = .ok (.aload_n 0, 1) := by decide +kernel
theorem dX10_token_67 : decode cX10_token 67 = .ok (.getfield 90, 3) := by decide +kernel
theorem dX10_token_70 : decode cX10_token 70 = .ok (.iload 4, 2) := by decide +kernel
theorem dX10_token_72 : decode cX10_token 72 = .ok (.iaload, 1) := by decide +kernel
theorem dX10_token_73 : decode cX10_token 73 = .ok (.i2l, 1) := by decide +kernel
theorem dX10_token_74 : decode cX10_token 74 = .ok (.lor, 1) := by decide +kernel
theorem dX10_token_75 : decode cX10_token 75 = .ok (.lstore 5, 2) := by decide +kernel
theorem dX10_token_77 : decode cX10_token 77 = .ok (.iinc 4 1, 3) := by decide +kernel
theorem dX10_token_80 : decode cX10_token 80 = .ok (.goto (-60), 3) := by decide +kernel
theorem dX10_token_83 : decode cX10_token 83 = .ok (.aload_n 0, 1) := by decide +kernel
theorem dX10_token_84 : decode cX10_token 84 = .ok (.getfield 99, 3) := by decide +kernel
theorem dX10_token_87 : decode cX10_token 87 = .ok (.aload_n 0, 1) := by decide +kernel
theorem dX10_token_88 : decode cX10_token 88 = .ok (.getfield 317, 3) := by decide +kernel
theorem dX10_token_91 : decode cX10_token 91 = .ok (.lload 5, 2) := by decide +kernel
theorem dX10_token_93 : decode cX10_token 93 = .ok (.lastore, 1) := by decide +kernel
theorem dX10_token_94 : decode cX10_token 94 = .ok (.iload 4, 2) := by decide +kernel
theorem dX10_token_96 : decode cX10_token 96 = .ok (.iload_n 1, 1) := by decide +kernel
theorem dX10_token_97 : decode cX10_token 97 = .ok (.isub, 1) := by decide +kernel
theorem dX10_token_98 : decode cX10_token 98 = .ok (.bipush 8, 2) := by decide +kernel
theorem dX10_token_100 : decode cX10_token 100 = .ok (.if_icmp .gt 18, 3) := by decide +kernel
theorem dX10_token_103 : decode cX10_token 103 = .ok (.aload_n 0, 1) := by decide +kernel
theorem dX10_token_104 : decode cX10_token 104 = .ok (.getfield 93, 3) := by decide +kernel
theorem dX10_token_107 : decode cX10_token 107 = .ok (.aload_n 0, 1) := by decide +kernel
theorem dX10_token_108 : decode cX10_token 108 = .ok (.getfield 317, 3) := by decide +kernel
theorem dX10_token_111 : decode cX10_token 111 = .ok (.aload_n 0, 1) := by decide +kernel
theorem dX10_token_112 : decode cX10_token 112 = .ok (.lload 5, 2) := by decide +kernel
theorem dX10_token_114 : decode cX10_token 114 = .ok (.invokevirtual 334, 3) := by decide +kernel
theorem dX10_token_117 : decode cX10_token 117 = .ok (.iastore, 1) := by decide +kernel
theorem dX10_token_118 : decode cX10_token 118 = .ok (.iload 4, 2) := by decide +kernel
theorem dX10_token_120 : decode cX10_token 120 = .ok (.ireturn, 1) := by decide +kernel
theorem dX10_token_121 : decode cX10_token 121 = .ok (.iload_n 3, 1) := by decide +kernel
theorem dX10_token_122 : decode cX10_token 122 = .ok (.invokestatic 331, 3) := by decide +kernel
theorem dX10_token_125 : decode cX10_token 125 = .ok (.ifCond .eq 110, 3) := by decide +kernel
theorem dX10_token_128 : decode cX10_token 128 = .ok (.iload 4, 2) := by decide +kernel
theorem dX10_token_130 : decode cX10_token 130 = .ok (.iload_n 2, 1) := by decide +kernel
theorem dX10_token_131 : decode cX10_token 131 = .ok (.if_icmp .ge 52, 3) := by decide +kernel
theorem dX10_token_134 : decode cX10_token 134 = .ok (.aload_n 0, 1) := by decide +kernel
theorem dX10_token_135 : decode cX10_token 135 = .ok (.getfield 90, 3) := by decide +kernel
theorem dX10_token_138 : decode cX10_token 138 = .ok (.iload 4, 2) := by decide +kernel
theorem dX10_token_140 : decode cX10_token 140 = .ok (.iaload, 1) := by decide +kernel
theorem dX10_token_141 : decode cX10_token 141 = .ok (.invokestatic 331, 3) := by decide +kernel
theorem dX10_token_144 : decode cX10_token 144 = .ok (.ifCond .eq 39, 3) := by decide +kernel
theorem dX10_token_147 : decode cX10_token 147 = .ok (.iload 4, 2) := by decide +kernel
theorem dX10_token_149 : decode cX10_token 149 = .ok (.iload_n 1, 1) := by decide +kernel
theorem dX10_token_150 : decode cX10_token 150 = .ok (.isub, 1) := by decide +kernel
theorem dX10_token_151 : decode cX10_token 151 = .ok (.bipush 9, 2) := by decide +kernel
theorem dX10_token_153 : decode cX10_token 153 = .ok (.if_icmp .ge 24, 3) := by decide +kernel
theorem dX10_token_156 : decode cX10_token 156 = .ok (.ldc2_w 338, 3) := by decide +kernel
theorem dX10_token_159 : decode cX10_token 159 = .ok (.lload 5, 2) := by decide +kernel
theorem dX10_token_161 : decode cX10_token 161 = .ok (.lmul, 1) := by decide +kernel
theorem dX10_token_162 : decode cX10_token 162 = .ok (.aload_n 0, 1) := by decide +kernel
theorem dX10_token_163 : decode cX10_token 163 = .ok (.getfield 90, 3) := by decide +kernel
theorem dX10_token_166 : decode cX10_token 166 = .ok (.iload 4, 2) := by decide +kernel
theorem dX10_token_168 : decode cX10_token 168 = .ok (.iaload, 1) := by decide +kernel
theorem dX10_token_169 : decode cX10_token 169 = .ok (.i2l, 1) := by decide +kernel
theorem dX10_token_170 : decode cX10_token 170 = .ok (.ladd, 1) := by decide +kernel
theorem dX10_token_171 : decode cX10_token 171 = .ok (.ldc2_w 340, 3) := by decide +kernel
theorem dX10_token_174 : decode cX10_token 174 = .ok (.lsub, 1) := by decide +kernel
theorem dX10_token_175 : decode cX10_token 175 = .ok (.lstore 5, 2) := by decide +kernel
theorem dX10_token_177 : decode cX10_token 177 = .ok (.iinc 4 1, 3) := by decide +kernel
theorem dX10_token_180 : decode cX10_token 180 = .ok (.goto (-52), 3) := by decide +kernel
theorem dX10_token_183 : decode cX10_token 183 = .ok (.aload_n 0, 1) := by decide +kernel
theorem dX10_token_184 : decode cX10_token 184 = .ok (.getfield 99, 3) := by decide +kernel
theorem dX10_token_187 : decode cX10_token 187 = .ok (.aload_n 0, 1) := by decide +kernel
theorem dX10_token_188 : decode cX10_token 188 = .ok (.getfield 317, 3) := by decide +kernel
theorem dX10_token_191 : decode cX10_token 191 = .ok (.lload 5, 2) := by decide +kernel
theorem dX10_token_193 : decode cX10_token 193 = .ok (.lastore, 1) := by decide +kernel
theorem dX10_token_194 : decode cX10_token 194 = .ok (.iload 4, 2) := by decide +kernel
theorem dX10_token_196 : decode cX10_token 196 = .ok (.iload_n 1, 1) := by decide +kernel
theorem dX10_token_197 : decode cX10_token 197 = .ok (.isub, 1) := by decide +kernel
theorem dX10_token_198 : decode cX10_token 198 = .ok (.bipush 9, 2) := by decide +kernel
theorem dX10_token_200 : decode cX10_token 200 = .ok (.if_icmp .gt 32, 3) := by decide +kernel
theorem dX10_token_203 : decode cX10_token 203 = .ok (.iload 4, 2) := by decide +kernel
theorem dX10_token_205 : decode cX10_token 205 = .ok (.iload_n 2, 1) := by decide +kernel
theorem dX10_token_206 : decode cX10_token 206 = .ok (.if_icmp .eq 16, 3) := by decide +kernel
theorem dX10_token_209 : decode cX10_token 209 = .ok (.aload_n 0, 1) := by decide +kernel
theorem dX10_token_210 : decode cX10_token 210 = .ok (.getfield 90, 3) := by decide +kernel
theorem dX10_token_213 : decode cX10_token 213 = .ok (.iload 4, 2) := by decide +kernel
theorem dX10_token_215 : decode cX10_token 215 = .ok (.iaload, 1) := by decide +kernel
theorem dX10_token_216 : decode cX10_token 216 = .ok (.invokestatic 327, 3) := by decide +kernel
theorem dX10_token_219 : decode cX10_token 219 = .ok (.ifCond .ne 13, 3) := by decide +kernel
theorem dX10_token_222 : decode cX10_token 222 = .ok (.aload_n 0, 1) := by decide +kernel
theorem dX10_token_223 : decode cX10_token 223 = .ok (.getfield 93, 3) := by decide +kernel
theorem dX10_token_226 : decode cX10_token 226 = .ok (.aload_n 0, 1) := by decide +kernel
theorem dX10_token_227 : decode cX10_token 227 = .ok (.getfield 317, 3) := by decide +kernel
theorem dX10_token_230 : decode cX10_token 230 = .ok (.iconst 4, 1) := by decide +kernel
theorem dX10_token_231 : decode cX10_token 231 = .ok (.iastore, 1) := by decide +kernel
theorem dX10_token_232 : decode cX10_token 232 = .ok (.iload 4, 2) := by decide +kernel
theorem dX10_token_234 : decode cX10_token 234 = .ok (.ireturn, 1) := by decide +kernel
theorem dX10_token_235 : decode cX10_token 235 = .ok (.iload_n 1, 1) := by decide +kernel
theorem dX10_token_236 : decode cX10_token 236 = .ok (.iconst 1, 1) := by decide +kernel
theorem dX10_token_237 : decode cX10_token 237 = .ok (.iadd, 1) := by decide +kernel
theorem dX10_token_238 : decode cX10_token 238 = .ok (.iload_n 2, 1) := by decide +kernel
theorem dX10_token_239 : decode cX10_token 239 = .ok (.if_icmp .ge 14, 3) := by decide +kernel
theorem dX10_token_242 : decode cX10_token 242 = .ok (.aload_n 0, 1) := by decide +kernel
theorem dX10_token_243 : decode cX10_token 243 = .ok (.getfield 90, 3) := by decide +kernel
theorem dX10_token_246 : decode cX10_token 246 = .ok (.iload_n 1, 1) := by decide +kernel
theorem dX10_token_247 : decode cX10_token 247 = .ok (.iconst 1, 1) := by decide +kernel
theorem dX10_token_248 : decode cX10_token 248 = .ok (.iadd, 1) := by decide +kernel
theorem dX10_token_249 : decode cX10_token 249 = .ok (.iaload, 1) := by decide +kernel
theorem dX10_token_250 : decode cX10_token 250 = .ok (.goto 4, 3) := by decide +kernel
theorem dX10_token_253 : decode cX10_token 253 = .ok (.iconst 0, 1) := by decide +kernel
theorem dX10_token_254 : decode cX10_token 254 = .ok (.istore 7, 2) := by decide +kernel
theorem dX10_token_256 : decode cX10_token 256 = .ok (.iload_n 3, 1) := by decide +kernel
theorem dX10_token_257 : decode cX10_token 257 = .ok (.bipush 58, 2) := by decide +kernel
theorem dX10_token_259 : decode cX10_token 259 = .ok (.if_icmp .ne 17, 3) := by decide +kernel
theorem dX10_token_262 : decode cX10_token 262 = .ok (.iload 7, 2) := by decide +kernel
theorem dX10_token_264 : decode cX10_token 264 = .ok (.bipush 61, 2) := by decide +kernel
theorem dX10_token_266 : decode cX10_token 266 = .ok (.if_icmp .eq 36, 3) := by decide +kernel
theorem dX10_token_269 : decode cX10_token 269 = .ok (.iload 7, 2) := by decide +kernel
theorem dX10_token_271 : decode cX10_token 271 = .ok (.bipush 58, 2) := by decide +kernel
theorem dX10_token_273 : decode cX10_token 273 = .ok (.if_icmp .eq 29, 3) := by decide +kernel
theorem dX10_token_276 : decode cX10_token 276 = .ok (.iload_n 3, 1) := by decide +kernel
theorem dX10_token_277 : decode cX10_token 277 = .ok (.bipush 61, 2) := by decide +kernel
theorem dX10_token_279 : decode cX10_token 279 = .ok (.if_icmp .ne 10, 3) := by decide +kernel
theorem dX10_token_282 : decode cX10_token 282 = .ok (.iload 7, 2) := by decide +kernel
theorem dX10_token_284 : decode cX10_token 284 = .ok (.bipush 61, 2) := by decide +kernel
theorem dX10_token_286 : decode cX10_token 286 = .ok (.if_icmp .eq 16, 3) := by decide +kernel
theorem dX10_token_289 : decode cX10_token 289 = .ok (.iload_n 3, 1) := by decide +kernel
theorem dX10_token_290 : decode cX10_token 290 = .ok (.bipush 60, 2) := by decide +kernel
theorem dX10_token_292 : decode cX10_token 292 = .ok (.if_icmp .ne 14, 3) := by decide +kernel
theorem dX10_token_295 : decode cX10_token 295 = .ok (.iload 7, 2) := by decide +kernel
theorem dX10_token_297 : decode cX10_token 297 = .ok (.bipush 61, 2) := by decide +kernel
theorem dX10_token_299 : decode cX10_token 299 = .ok (.if_icmp .ne 7, 3) := by decide +kernel
theorem dX10_token_302 : decode cX10_token 302 = .ok (.iconst 1, 1) := by decide +kernel
theorem dX10_token_303 : decode cX10_token 303 = .ok (.goto 4, 3) := by decide +kernel
theorem dX10_token_306 : decode cX10_token 306 = .ok (.iconst 0, 1) := by decide +kernel
theorem dX10_token_307 : decode cX10_token 307 = .ok (.istore 8, 2) := by decide +kernel
theorem dX10_token_309 : decode cX10_token 309 = .ok (.iload_n 3, 1) := by decide +kernel
theorem dX10_token_310 : decode cX10_token 310 = .ok (.bipush 40, 2) := by decide +kernel
theorem dX10_token_312 : decode cX10_token 312 = .ok (.if_icmp .eq 93, 3) := by decide +kernel
theorem dX10_token_315 : decode cX10_token 315 = .ok (.iload_n 3, 1) := by decide +kernel
theorem dX10_token_316 : decode cX10_token 316 = .ok (.bipush 41, 2) := by decide +kernel
theorem dX10_token_318 : decode cX10_token 318 = .ok (.if_icmp .eq 87, 3) := by decide +kernel
theorem dX10_token_321 : decode cX10_token 321 = .ok (.iload_n 3, 1) := by decide +kernel
theorem dX10_token_322 : decode cX10_token 322 = .ok (.bipush 91, 2) := by decide +kernel
theorem dX10_token_324 : decode cX10_token 324 = .ok (.if_icmp .eq 81, 3) := by decide +kernel
theorem dX10_token_327 : decode cX10_token 327 = .ok (.iload_n 3, 1) := by decide +kernel
theorem dX10_token_328 : decode cX10_token 328 = .ok (.bipush 93, 2) := by decide +kernel
theorem dX10_token_330 : decode cX10_token 330 = .ok (.if_icmp .eq 75, 3) := by decide +kernel
theorem dX10_token_333 : decode cX10_token 333 = .ok (.iload_n 3, 1) := by decide +kernel
theorem dX10_token_334 : decode cX10_token 334 = .ok (.bipush 44, 2) := by decide +kernel
theorem dX10_token_336 : decode cX10_token 336 = .ok (.if_icmp .eq 69, 3) := by decide +kernel
theorem dX10_token_339 : decode cX10_token 339 = .ok (.iload_n 3, 1) := by decide +kernel
theorem dX10_token_340 : decode cX10_token 340 = .ok (.bipush 58, 2) := by decide +kernel
theorem dX10_token_342 : decode cX10_token 342 = .ok (.if_icmp .eq 63, 3) := by decide +kernel
theorem dX10_token_345 : decode cX10_token 345 = .ok (.iload_n 3, 1) := by decide +kernel
theorem dX10_token_346 : decode cX10_token 346 = .ok (.bipush 61, 2) := by decide +kernel
theorem dX10_token_348 : decode cX10_token 348 = .ok (.if_icmp .eq 57, 3) := by decide +kernel
theorem dX10_token_351 : decode cX10_token 351 = .ok (.iload_n 3, 1) := by decide +kernel
theorem dX10_token_352 : decode cX10_token 352 = .ok (.bipush 35, 2) := by decide +kernel
theorem dX10_token_354 : decode cX10_token 354 = .ok (.if_icmp .eq 51, 3) := by decide +kernel
theorem dX10_token_357 : decode cX10_token 357 = .ok (.iload_n 3, 1) := by decide +kernel
theorem dX10_token_358 : decode cX10_token 358 = .ok (.bipush 60, 2) := by decide +kernel
theorem dX10_token_360 : decode cX10_token 360 = .ok (.if_icmp .eq 45, 3) := by decide +kernel
theorem dX10_token_363 : decode cX10_token 363 = .ok (.iload_n 3, 1) := by decide +kernel
theorem dX10_token_364 : decode cX10_token 364 = .ok (.bipush 43, 2) := by decide +kernel
theorem dX10_token_366 : decode cX10_token 366 = .ok (.if_icmp .eq 39, 3) := by decide +kernel
theorem dX10_token_369 : decode cX10_token 369 = .ok (.iload_n 3, 1) := by decide +kernel
theorem dX10_token_370 : decode cX10_token 370 = .ok (.bipush 45, 2) := by decide +kernel
theorem dX10_token_372 : decode cX10_token 372 = .ok (.if_icmp .eq 33, 3) := by decide +kernel
theorem dX10_token_375 : decode cX10_token 375 = .ok (.iload_n 3, 1) := by decide +kernel
theorem dX10_token_376 : decode cX10_token 376 = .ok (.bipush 42, 2) := by decide +kernel
theorem dX10_token_378 : decode cX10_token 378 = .ok (.if_icmp .eq 27, 3) := by decide +kernel
theorem dX10_token_381 : decode cX10_token 381 = .ok (.iload_n 3, 1) := by decide +kernel
theorem dX10_token_382 : decode cX10_token 382 = .ok (.bipush 47, 2) := by decide +kernel
theorem dX10_token_384 : decode cX10_token 384 = .ok (.if_icmp .eq 21, 3) := by decide +kernel
theorem dX10_token_387 : decode cX10_token 387 = .ok (.iload_n 3, 1) := by decide +kernel
theorem dX10_token_388 : decode cX10_token 388 = .ok (.bipush 94, 2) := by decide +kernel
theorem dX10_token_390 : decode cX10_token 390 = .ok (.if_icmp .eq 15, 3) := by decide +kernel
theorem dX10_token_393 : decode cX10_token 393 = .ok (.iload_n 3, 1) := by decide +kernel
theorem dX10_token_394 : decode cX10_token 394 = .ok (.bipush 33, 2) := by decide +kernel
theorem dX10_token_396 : decode cX10_token 396 = .ok (.if_icmp .eq 9, 3) := by decide +kernel
theorem dX10_token_399 : decode cX10_token 399 = .ok (.iload_n 3, 1) := by decide +kernel
theorem dX10_token_400 : decode cX10_token 400 = .ok (.bipush 37, 2) := by decide +kernel
theorem dX10_token_402 : decode cX10_token 402 = .ok (.if_icmp .ne 7, 3) := by decide +kernel
theorem dX10_token_405 : decode cX10_token 405 = .ok (.iconst 1, 1) := by decide +kernel
theorem dX10_token_406 : decode cX10_token 406 = .ok (.goto 4, 3) := by decide +kernel
theorem dX10_token_409 : decode cX10_token 409 = .ok (.iconst 0, 1) := by decide +kernel
theorem dX10_token_410 : decode cX10_token 410 = .ok (.istore 9, 2) := by decide +kernel
theorem dX10_token_412 : decode cX10_token 412 = .ok (.iload 8, 2) := by decide +kernel
theorem dX10_token_414 : decode cX10_token 414 = .ok (.ifCond .ne 8, 3) := by decide +kernel
theorem dX10_token_417 : decode cX10_token 417 = .ok (.iload 9, 2) := by decide +kernel
theorem dX10_token_419 : decode cX10_token 419 = .ok (.ifCond .eq 13, 3) := by decide +kernel
theorem dX10_token_422 : decode cX10_token 422 = .ok (.aload_n 0, 1) := by decide +kernel
theorem dX10_token_423 : decode cX10_token 423 = .ok (.getfield 93, 3) := by decide +kernel
theorem dX10_token_426 : decode cX10_token 426 = .ok (.aload_n 0, 1) := by decide +kernel
theorem dX10_token_427 : decode cX10_token 427 = .ok (.getfield 317, 3) := by decide +kernel
theorem dX10_token_430 : decode cX10_token 430 = .ok (.iconst 5, 1) := by decide +kernel
theorem dX10_token_431 : decode cX10_token 431 = .ok (.iastore, 1) := by decide +kernel
theorem dX10_token_432 : decode cX10_token 432 = .ok (.aload_n 0, 1) := by decide +kernel
theorem dX10_token_433 : decode cX10_token 433 = .ok (.getfield 99, 3) := by decide +kernel
theorem dX10_token_436 : decode cX10_token 436 = .ok (.aload_n 0, 1) := by decide +kernel
theorem dX10_token_437 : decode cX10_token 437 = .ok (.getfield 317, 3) := by decide +kernel
theorem dX10_token_440 : decode cX10_token 440 = .ok (.iload 8, 2) := by decide +kernel
theorem dX10_token_442 : decode cX10_token 442 = .ok (.ifCond .eq 16, 3) := by decide +kernel
theorem dX10_token_445 : decode cX10_token 445 = .ok (.ldc2_w 342, 3) := by decide +kernel
theorem dX10_token_448 : decode cX10_token 448 = .ok (.iload_n 3, 1) := by decide +kernel
theorem dX10_token_449 : decode cX10_token 449 = .ok (.i2l, 1) := by decide +kernel
theorem dX10_token_450 : decode cX10_token 450 = .ok (.lmul, 1) := by decide +kernel
theorem dX10_token_451 : decode cX10_token 451 = .ok (.iload 7, 2) := by decide +kernel
theorem dX10_token_453 : decode cX10_token 453 = .ok (.i2l, 1) := by decide +kernel
theorem dX10_token_454 : decode cX10_token 454 = .ok (.ladd, 1) := by decide +kernel
theorem dX10_token_455 : decode cX10_token 455 = .ok (.goto 5, 3) := by decide +kernel
theorem dX10_token_458 : decode cX10_token 458 = .ok (.iload_n 3, 1) := by decide +kernel
theorem dX10_token_459 : decode cX10_token 459 = .ok (.i2l, 1) := by decide +kernel
theorem dX10_token_460 : decode cX10_token 460 = .ok (.lastore, 1) := by decide +kernel
theorem dX10_token_461 : decode cX10_token 461 = .ok (.iload_n 1, 1) := by decide +kernel
theorem dX10_token_462 : decode cX10_token 462 = .ok (.iload 8, 2) := by decide +kernel
theorem dX10_token_464 : decode cX10_token 464 = .ok (.ifCond .eq 7, 3) := by decide +kernel
theorem dX10_token_467 : decode cX10_token 467 = .ok (.iconst 2, 1) := by decide +kernel
theorem dX10_token_468 : decode cX10_token 468 = .ok (.goto 4, 3) := by decide +kernel
theorem dX10_token_471 : decode cX10_token 471 = .ok (.iconst 1, 1) := by decide +kernel
theorem dX10_token_472 : decode cX10_token 472 = .ok (.iadd, 1) := by decide +kernel
theorem dX10_token_473 : decode cX10_token 473 = .ok (.ireturn, 1) := by decide +kernel
/-! AlgebraHouseModel.token(II)I -/
def P_X10_token_52 (Q : Int → MM → Prop) (K20 : Int → Int → Int → Int → MM → Prop) (x1 : Int) (x2 : Int) (x4 : Int) (x5 : Int) (m : MM) : Prop := (RI (x4 - x1)) ∧ (if 8 ≤ (x4 - x1) then K20 x1 x2 (x4 + 1) x5 m else (0 ≤ x4 ∧ x4 < 400) ∧ (RI (m 586 x4)) ∧ K20 x1 x2 (x4 + 1) (lOr (lShl x5 8) (m 586 x4)) m)
def P_X10_token_83 (Q : Int → MM → Prop) (x1 : Int) (x4 : Int) (x5 : Int) (m : MM) : Prop := (0 ≤ (m 582 8) ∧ (m 582 8) < 420) ∧ ∀ m1 : MM, m1 = up m 589 (m 582 8) x5 → (RI (x4 - x1)) ∧ (if 8 < (x4 - x1) then Q x4 m1 else P_X10_wordKind x5 m1 (fun r1 m2 => (0 ≤ (m1 582 8) ∧ (m1 582 8) < 420) ∧ ∀ m3 : MM, m3 = up m2 587 (m1 582 8) r1 → Q x4 m3))
def P_X10_token_20 (Q : Int → MM → Prop) : Nat → Int → Int → Int → Int → MM → Prop
  | 0, _, _, _, _, _ => False
  | n + 1, x1, x2, x4, x5, m => (RI x4) ∧ (RI x2) ∧ (if x2 ≤ x4 then P_X10_token_83 Q x1 x4 x5 m else (0 ≤ x4 ∧ x4 < 400) ∧ P_X10_isLetter (m 586 x4) m (fun r1 m1 => (RI r1) ∧ (if r1 = 0 then P_X10_isDigit (m1 586 x4) m1 (fun r2 m2 => (RI r2) ∧ (if r2 = 0 then P_X10_token_83 Q x1 x4 x5 m2 else P_X10_token_52 Q (fun z0 z1 z2 z3 z4 => P_X10_token_20 Q n z0 z1 z2 z3 z4) x1 x2 x4 x5 m2)) else P_X10_token_52 Q (fun z0 z1 z2 z3 z4 => P_X10_token_20 Q n z0 z1 z2 z3 z4) x1 x2 x4 x5 m1)))
def P_X10_token_183 (Q : Int → MM → Prop) (x1 : Int) (x2 : Int) (x4 : Int) (x5 : Int) (m : MM) : Prop := (0 ≤ (m 582 8) ∧ (m 582 8) < 420) ∧ ∀ m1 : MM, m1 = up m 589 (m 582 8) x5 → (RI (x4 - x1)) ∧ (if 9 < (x4 - x1) then Q x4 m1 else (RI x4) ∧ (RI x2) ∧ (if x4 = x2 then (0 ≤ (m1 582 8) ∧ (m1 582 8) < 420) ∧ ∀ m2 : MM, m2 = up m1 587 (m1 582 8) 4 → Q x4 m2 else (0 ≤ x4 ∧ x4 < 400) ∧ P_X10_isLetter (m1 586 x4) m1 (fun r1 m3 => (RI r1) ∧ (if r1 = 0 then (0 ≤ (m3 582 8) ∧ (m3 582 8) < 420) ∧ ∀ m4 : MM, m4 = up m3 587 (m3 582 8) 4 → Q x4 m4 else Q x4 m3))))
def P_X10_token_128 (Q : Int → MM → Prop) : Nat → Int → Int → Int → Int → MM → Prop
  | 0, _, _, _, _, _ => False
  | n + 1, x1, x2, x4, x5, m => (RI x4) ∧ (RI x2) ∧ (if x2 ≤ x4 then P_X10_token_183 Q x1 x2 x4 x5 m else (0 ≤ x4 ∧ x4 < 400) ∧ P_X10_isDigit (m 586 x4) m (fun r1 m1 => (RI r1) ∧ (if r1 = 0 then P_X10_token_183 Q x1 x2 x4 x5 m1 else (RI (x4 - x1)) ∧ (if 9 ≤ (x4 - x1) then P_X10_token_128 Q n x1 x2 (x4 + 1) x5 m1 else (RI (m1 586 x4)) ∧ P_X10_token_128 Q n x1 x2 (x4 + 1) (((10 * x5) + (m1 586 x4)) - 48) m1))))
def P_X10_token_432 (Q : Int → MM → Prop) (x1 : Int) (x3 : Int) (x7 : Int) (x8 : Int) (m : MM) : Prop := ((RI x8) ∧ (if x8 = 0 then ((RI x3)) else ((RI x3) ∧ (RI x7)))) ∧ (0 ≤ (m 582 8) ∧ (m 582 8) < 420) ∧ ∀ m1 : MM, m1 = up m 589 (m 582 8) (if x8 = 0 then x3 else ((256 * x3) + x7) : Int) → (RI x8) ∧ (if x8 = 0 then Q (x1 + 1) m1 else Q (x1 + 2) m1)
def P_X10_token_422 (Q : Int → MM → Prop) (x1 : Int) (x3 : Int) (x7 : Int) (x8 : Int) (m : MM) : Prop := (0 ≤ (m 582 8) ∧ (m 582 8) < 420) ∧ ∀ m1 : MM, m1 = up m 587 (m 582 8) 5 → P_X10_token_432 Q x1 x3 x7 x8 m1
def P_X10_token_405 (Q : Int → MM → Prop) (x1 : Int) (x3 : Int) (x7 : Int) (x8 : Int) (m : MM) : Prop := (RI x8) ∧ (if x8 = 0 then (if (1 : Int) = 0 then P_X10_token_432 Q x1 x3 x7 x8 m else P_X10_token_422 Q x1 x3 x7 x8 m) else P_X10_token_422 Q x1 x3 x7 x8 m)
def P_X10_token_276 (Q : Int → MM → Prop) (x1 : Int) (x3 : Int) (x7 : Int) (m : MM) : Prop := ((RI x3) ∧ (if x3 = 61 then ((RI x7)) else ((if x3 = 60 then ((RI x7)) else True)))) ∧ (RI x3) ∧ (if x3 = 40 then P_X10_token_405 Q x1 x3 x7 (if x3 = 61 then (if x7 = 61 then 1 else (if x3 = 60 then (if x7 = 61 then 1 else 0 : Int) else 0 : Int) : Int) else (if x3 = 60 then (if x7 = 61 then 1 else 0 : Int) else 0 : Int) : Int) m else (if x3 = 41 then P_X10_token_405 Q x1 x3 x7 (if x3 = 61 then (if x7 = 61 then 1 else (if x3 = 60 then (if x7 = 61 then 1 else 0 : Int) else 0 : Int) : Int) else (if x3 = 60 then (if x7 = 61 then 1 else 0 : Int) else 0 : Int) : Int) m else (RI (if x3 = 61 then (if x7 = 61 then 1 else (if x3 = 60 then (if x7 = 61 then 1 else 0 : Int) else 0 : Int) : Int) else (if x3 = 60 then (if x7 = 61 then 1 else 0 : Int) else 0 : Int) : Int)) ∧ (if (if x3 = 61 then (if x7 = 61 then 1 else (if x3 = 60 then (if x7 = 61 then 1 else 0 : Int) else 0 : Int) : Int) else (if x3 = 60 then (if x7 = 61 then 1 else 0 : Int) else 0 : Int) : Int) = 0 then (RI (if x3 = 91 then 1 else (if x3 = 93 then 1 else (if x3 = 44 then 1 else (if x3 = 58 then 1 else (if x3 = 61 then 1 else (if x3 = 35 then 1 else (if x3 = 60 then 1 else (if x3 = 43 then 1 else (if x3 = 45 then 1 else (if x3 = 42 then 1 else (if x3 = 47 then 1 else (if x3 = 94 then 1 else (if x3 = 33 then 1 else (if x3 = 37 then 1 else 0 : Int) : Int) : Int) : Int) : Int) : Int) : Int) : Int) : Int) : Int) : Int) : Int) : Int) : Int)) ∧ (if (if x3 = 91 then 1 else (if x3 = 93 then 1 else (if x3 = 44 then 1 else (if x3 = 58 then 1 else (if x3 = 61 then 1 else (if x3 = 35 then 1 else (if x3 = 60 then 1 else (if x3 = 43 then 1 else (if x3 = 45 then 1 else (if x3 = 42 then 1 else (if x3 = 47 then 1 else (if x3 = 94 then 1 else (if x3 = 33 then 1 else (if x3 = 37 then 1 else 0 : Int) : Int) : Int) : Int) : Int) : Int) : Int) : Int) : Int) : Int) : Int) : Int) : Int) : Int) = 0 then P_X10_token_432 Q x1 x3 x7 (if x3 = 61 then (if x7 = 61 then 1 else (if x3 = 60 then (if x7 = 61 then 1 else 0 : Int) else 0 : Int) : Int) else (if x3 = 60 then (if x7 = 61 then 1 else 0 : Int) else 0 : Int) : Int) m else P_X10_token_422 Q x1 x3 x7 (if x3 = 61 then (if x7 = 61 then 1 else (if x3 = 60 then (if x7 = 61 then 1 else 0 : Int) else 0 : Int) : Int) else (if x3 = 60 then (if x7 = 61 then 1 else 0 : Int) else 0 : Int) : Int) m) else P_X10_token_422 Q x1 x3 x7 (if x3 = 61 then (if x7 = 61 then 1 else (if x3 = 60 then (if x7 = 61 then 1 else 0 : Int) else 0 : Int) : Int) else (if x3 = 60 then (if x7 = 61 then 1 else 0 : Int) else 0 : Int) : Int) m)))
def P_X10_token (x1 : Int) (x2 : Int) (m : MM) (Q : Int → MM → Prop) : Prop := (0 ≤ x1 ∧ x1 < 400) ∧ P_X10_isLetter (m 586 x1) m (fun r1 m1 => (RI r1) ∧ (if r1 = 0 then P_X10_isDigit (m 586 x1) m1 (fun r2 m2 => (RI r2) ∧ (if r2 = 0 then ((RI (x1 + 1)) ∧ (RI x2) ∧ (if x2 ≤ (x1 + 1) then True else ((0 ≤ (x1 + 1) ∧ (x1 + 1) < 400)))) ∧ (RI (m 586 x1)) ∧ (if (m 586 x1) = 58 then ((RI (if x2 ≤ (x1 + 1) then 0 else (m2 586 (x1 + 1)) : Int))) ∧ (if (m 586 x1) = 40 then P_X10_token_405 Q x1 (m 586 x1) (if x2 ≤ (x1 + 1) then 0 else (m2 586 (x1 + 1)) : Int) (if (if x2 ≤ (x1 + 1) then 0 else (m2 586 (x1 + 1)) : Int) = 61 then 1 else (if (if x2 ≤ (x1 + 1) then 0 else (m2 586 (x1 + 1)) : Int) = 58 then 1 else (if (m 586 x1) = 61 then (if (if x2 ≤ (x1 + 1) then 0 else (m2 586 (x1 + 1)) : Int) = 61 then 1 else (if (m 586 x1) = 60 then (if (if x2 ≤ (x1 + 1) then 0 else (m2 586 (x1 + 1)) : Int) = 61 then 1 else 0 : Int) else 0 : Int) : Int) else (if (m 586 x1) = 60 then (if (if x2 ≤ (x1 + 1) then 0 else (m2 586 (x1 + 1)) : Int) = 61 then 1 else 0 : Int) else 0 : Int) : Int) : Int) : Int) m2 else (if (m 586 x1) = 41 then P_X10_token_405 Q x1 (m 586 x1) (if x2 ≤ (x1 + 1) then 0 else (m2 586 (x1 + 1)) : Int) (if (if x2 ≤ (x1 + 1) then 0 else (m2 586 (x1 + 1)) : Int) = 61 then 1 else (if (if x2 ≤ (x1 + 1) then 0 else (m2 586 (x1 + 1)) : Int) = 58 then 1 else (if (m 586 x1) = 61 then (if (if x2 ≤ (x1 + 1) then 0 else (m2 586 (x1 + 1)) : Int) = 61 then 1 else (if (m 586 x1) = 60 then (if (if x2 ≤ (x1 + 1) then 0 else (m2 586 (x1 + 1)) : Int) = 61 then 1 else 0 : Int) else 0 : Int) : Int) else (if (m 586 x1) = 60 then (if (if x2 ≤ (x1 + 1) then 0 else (m2 586 (x1 + 1)) : Int) = 61 then 1 else 0 : Int) else 0 : Int) : Int) : Int) : Int) m2 else (RI (if (if x2 ≤ (x1 + 1) then 0 else (m2 586 (x1 + 1)) : Int) = 61 then 1 else (if (if x2 ≤ (x1 + 1) then 0 else (m2 586 (x1 + 1)) : Int) = 58 then 1 else (if (m 586 x1) = 61 then (if (if x2 ≤ (x1 + 1) then 0 else (m2 586 (x1 + 1)) : Int) = 61 then 1 else (if (m 586 x1) = 60 then (if (if x2 ≤ (x1 + 1) then 0 else (m2 586 (x1 + 1)) : Int) = 61 then 1 else 0 : Int) else 0 : Int) : Int) else (if (m 586 x1) = 60 then (if (if x2 ≤ (x1 + 1) then 0 else (m2 586 (x1 + 1)) : Int) = 61 then 1 else 0 : Int) else 0 : Int) : Int) : Int) : Int)) ∧ (if (if (if x2 ≤ (x1 + 1) then 0 else (m2 586 (x1 + 1)) : Int) = 61 then 1 else (if (if x2 ≤ (x1 + 1) then 0 else (m2 586 (x1 + 1)) : Int) = 58 then 1 else (if (m 586 x1) = 61 then (if (if x2 ≤ (x1 + 1) then 0 else (m2 586 (x1 + 1)) : Int) = 61 then 1 else (if (m 586 x1) = 60 then (if (if x2 ≤ (x1 + 1) then 0 else (m2 586 (x1 + 1)) : Int) = 61 then 1 else 0 : Int) else 0 : Int) : Int) else (if (m 586 x1) = 60 then (if (if x2 ≤ (x1 + 1) then 0 else (m2 586 (x1 + 1)) : Int) = 61 then 1 else 0 : Int) else 0 : Int) : Int) : Int) : Int) = 0 then (RI (if (m 586 x1) = 91 then 1 else (if (m 586 x1) = 93 then 1 else (if (m 586 x1) = 44 then 1 else (if (m 586 x1) = 58 then 1 else (if (m 586 x1) = 61 then 1 else (if (m 586 x1) = 35 then 1 else (if (m 586 x1) = 60 then 1 else (if (m 586 x1) = 43 then 1 else (if (m 586 x1) = 45 then 1 else (if (m 586 x1) = 42 then 1 else (if (m 586 x1) = 47 then 1 else (if (m 586 x1) = 94 then 1 else (if (m 586 x1) = 33 then 1 else (if (m 586 x1) = 37 then 1 else 0 : Int) : Int) : Int) : Int) : Int) : Int) : Int) : Int) : Int) : Int) : Int) : Int) : Int) : Int)) ∧ (if (if (m 586 x1) = 91 then 1 else (if (m 586 x1) = 93 then 1 else (if (m 586 x1) = 44 then 1 else (if (m 586 x1) = 58 then 1 else (if (m 586 x1) = 61 then 1 else (if (m 586 x1) = 35 then 1 else (if (m 586 x1) = 60 then 1 else (if (m 586 x1) = 43 then 1 else (if (m 586 x1) = 45 then 1 else (if (m 586 x1) = 42 then 1 else (if (m 586 x1) = 47 then 1 else (if (m 586 x1) = 94 then 1 else (if (m 586 x1) = 33 then 1 else (if (m 586 x1) = 37 then 1 else 0 : Int) : Int) : Int) : Int) : Int) : Int) : Int) : Int) : Int) : Int) : Int) : Int) : Int) : Int) = 0 then P_X10_token_432 Q x1 (m 586 x1) (if x2 ≤ (x1 + 1) then 0 else (m2 586 (x1 + 1)) : Int) (if (if x2 ≤ (x1 + 1) then 0 else (m2 586 (x1 + 1)) : Int) = 61 then 1 else (if (if x2 ≤ (x1 + 1) then 0 else (m2 586 (x1 + 1)) : Int) = 58 then 1 else (if (m 586 x1) = 61 then (if (if x2 ≤ (x1 + 1) then 0 else (m2 586 (x1 + 1)) : Int) = 61 then 1 else (if (m 586 x1) = 60 then (if (if x2 ≤ (x1 + 1) then 0 else (m2 586 (x1 + 1)) : Int) = 61 then 1 else 0 : Int) else 0 : Int) : Int) else (if (m 586 x1) = 60 then (if (if x2 ≤ (x1 + 1) then 0 else (m2 586 (x1 + 1)) : Int) = 61 then 1 else 0 : Int) else 0 : Int) : Int) : Int) : Int) m2 else P_X10_token_422 Q x1 (m 586 x1) (if x2 ≤ (x1 + 1) then 0 else (m2 586 (x1 + 1)) : Int) (if (if x2 ≤ (x1 + 1) then 0 else (m2 586 (x1 + 1)) : Int) = 61 then 1 else (if (if x2 ≤ (x1 + 1) then 0 else (m2 586 (x1 + 1)) : Int) = 58 then 1 else (if (m 586 x1) = 61 then (if (if x2 ≤ (x1 + 1) then 0 else (m2 586 (x1 + 1)) : Int) = 61 then 1 else (if (m 586 x1) = 60 then (if (if x2 ≤ (x1 + 1) then 0 else (m2 586 (x1 + 1)) : Int) = 61 then 1 else 0 : Int) else 0 : Int) : Int) else (if (m 586 x1) = 60 then (if (if x2 ≤ (x1 + 1) then 0 else (m2 586 (x1 + 1)) : Int) = 61 then 1 else 0 : Int) else 0 : Int) : Int) : Int) : Int) m2) else P_X10_token_422 Q x1 (m 586 x1) (if x2 ≤ (x1 + 1) then 0 else (m2 586 (x1 + 1)) : Int) (if (if x2 ≤ (x1 + 1) then 0 else (m2 586 (x1 + 1)) : Int) = 61 then 1 else (if (if x2 ≤ (x1 + 1) then 0 else (m2 586 (x1 + 1)) : Int) = 58 then 1 else (if (m 586 x1) = 61 then (if (if x2 ≤ (x1 + 1) then 0 else (m2 586 (x1 + 1)) : Int) = 61 then 1 else (if (m 586 x1) = 60 then (if (if x2 ≤ (x1 + 1) then 0 else (m2 586 (x1 + 1)) : Int) = 61 then 1 else 0 : Int) else 0 : Int) : Int) else (if (m 586 x1) = 60 then (if (if x2 ≤ (x1 + 1) then 0 else (m2 586 (x1 + 1)) : Int) = 61 then 1 else 0 : Int) else 0 : Int) : Int) : Int) : Int) m2))) else P_X10_token_276 Q x1 (m 586 x1) (if x2 ≤ (x1 + 1) then 0 else (m2 586 (x1 + 1)) : Int) m2) else ∃ nn, P_X10_token_128 Q nn x1 x2 x1 0 m2)) else ∃ nn, P_X10_token_20 Q nn x1 x2 x1 0 m1))
theorem pl_X10_token_52 {f : Nat} {Q : Int → MM → Prop} {T : MM → Prop} (hf : 3 ≤ f) {K20 : Int → Int → Int → Int → MM → Prop} (hK20 : ∀ (x1 : Int) (x2 : Int) (x4 : Int) (x5 : Int) (m : MM), K20 x1 x2 x4 x5 m → B f M_X10_token 20 [vR 582, vI x1, vI x2, vU, vI x4, vL x5, vU, vU, vU, vU] [] m Q T) : ∀ (x1 : Int) (x2 : Int) (x4 : Int) (x5 : Int) (m : MM), P_X10_token_52 Q K20 x1 x2 x4 x5 m → B f M_X10_token 52 [vR 582, vI x1, vI x2, vU, vI x4, vL x5, vU, vU, vU, vU] [] m Q T := by
  intro x1 x2 x4 x5 m h
  have h : (RI (x4 - x1)) ∧ (if 8 ≤ (x4 - x1) then K20 x1 x2 (x4 + 1) x5 m else (0 ≤ x4 ∧ x4 < 400) ∧ (RI (m 586 x4)) ∧ K20 x1 x2 (x4 + 1) (lOr (lShl x5 8) (m 586 x4)) m) := h
  refine b_iload dX10_token_52 rfl ?_
  refine b_iload_n dX10_token_54 rfl ?_
  refine b_isub dX10_token_55 ?_
  refine b_bipush dX10_token_56 (by decide) ?_
  obtain ⟨g1, h⟩ := h
  refine b_icmp_ge 77 dX10_token_58 g1 (by decide) (by decide) (fun c1 => ?_) (fun c1 => ?_)
  · have h := ifT c1 h
    refine b_iinc (ls' := [vR 582, vI x1, vI x2, vU, vI (x4 + 1), vL x5, vU, vU, vU, vU]) dX10_token_77 rfl rfl ?_
    refine b_goto 20 dX10_token_80 (by decide) ?_
    exact hK20 _ _ _ _ _ h
  · have h := ifF c1 h
    refine b_lload dX10_token_61 rfl ?_
    refine b_bipush dX10_token_63 (by decide) ?_
    refine b_lshl dX10_token_65 ?_
    refine b_aload_n dX10_token_66 rfl ?_
    refine b_getR dX10_token_67 fk_X10_90 ly_582 gg_582_3 ?_
    refine b_iload dX10_token_70 rfl ?_
    obtain ⟨g2, h⟩ := h
    refine b_iald dX10_token_72 ly_586 g2 ?_
    obtain ⟨g3, h⟩ := h
    refine b_i2l dX10_token_73 g3 ?_
    refine b_lor dX10_token_74 ?_
    refine b_lstore (ls' := [vR 582, vI x1, vI x2, vU, vI x4, vL (lOr (lShl x5 8) (m 586 x4)), vU, vU, vU, vU]) dX10_token_75 (Nat.le_of_ble_eq_true rfl) rfl ?_
    refine b_iinc (ls' := [vR 582, vI x1, vI x2, vU, vI (x4 + 1), vL (lOr (lShl x5 8) (m 586 x4)), vU, vU, vU, vU]) dX10_token_77 rfl rfl ?_
    refine b_goto 20 dX10_token_80 (by decide) ?_
    exact hK20 _ _ _ _ _ h
theorem pl_X10_token_83 {f : Nat} {Q : Int → MM → Prop} {T : MM → Prop} (hf : 3 ≤ f) : ∀ (x1 : Int) (x4 : Int) (x5 : Int) (m : MM), P_X10_token_83 Q x1 x4 x5 m → B f M_X10_token 83 [vR 582, vI x1, vU, vU, vI x4, vL x5, vU, vU, vU, vU] [] m Q T := by
  intro x1 x4 x5 m h
  have h : (0 ≤ (m 582 8) ∧ (m 582 8) < 420) ∧ ∀ m1 : MM, m1 = up m 589 (m 582 8) x5 → (RI (x4 - x1)) ∧ (if 8 < (x4 - x1) then Q x4 m1 else P_X10_wordKind x5 m1 (fun r1 m2 => (0 ≤ (m1 582 8) ∧ (m1 582 8) < 420) ∧ ∀ m3 : MM, m3 = up m2 587 (m1 582 8) r1 → Q x4 m3)) := h
  refine b_aload_n dX10_token_83 rfl ?_
  refine b_getR dX10_token_84 fk_X10_99 ly_582 gg_582_7 ?_
  refine b_aload_n dX10_token_87 rfl ?_
  refine b_getI dX10_token_88 fk_X10_317 ly_582 ?_
  refine b_lload dX10_token_91 rfl ?_
  obtain ⟨g1, h⟩ := h
  refine b_last dX10_token_93 ly_589 g1 (fun m1 em1 => ?_)
  have h := h m1 em1
  refine b_iload dX10_token_94 rfl ?_
  refine b_iload_n dX10_token_96 rfl ?_
  refine b_isub dX10_token_97 ?_
  refine b_bipush dX10_token_98 (by decide) ?_
  obtain ⟨g2, h⟩ := h
  refine b_icmp_gt 118 dX10_token_100 g2 (by decide) (by decide) (fun c1 => ?_) (fun c1 => ?_)
  · have h := ifT c1 h
    refine b_iload dX10_token_118 rfl ?_
    exact b_iret dX10_token_120 rfl h
  · have h := ifF c1 h
    refine b_aload_n dX10_token_103 rfl ?_
    refine b_getR dX10_token_104 fk_X10_93 ly_582 gg_582_5 ?_
    refine b_aload_n dX10_token_107 rfl ?_
    refine b_getI dX10_token_108 fk_X10_317 ly_582 ?_
    refine b_aload_n dX10_token_111 rfl ?_
    refine b_lload dX10_token_112 rfl ?_
    refine b_cVi (as := [vL x5]) (st := [vI (m1 582 8), vR 587]) dX10_token_114 mf_X10_wordKind qs96 lk_X10_334 ly_582 rfl (p_X10_wordKind (f := 2) (Nat.le_refl _) _ _ h) (by omega) rfl rfl (Nat.le_of_ble_eq_true rfl) (by decide) rfl (fun _ => rfl) (fun r1 m2 h => ?_) (fun _ h => h)
    obtain ⟨g3, h⟩ := h
    refine b_iast dX10_token_117 ly_587 g3 (fun m3 em3 => ?_)
    have h := h m3 em3
    refine b_iload dX10_token_118 rfl ?_
    exact b_iret dX10_token_120 rfl h
theorem pl_X10_token_20 {f : Nat} {Q : Int → MM → Prop} {T : MM → Prop} (hf : 3 ≤ f) : ∀ (n : Nat) (x1 : Int) (x2 : Int) (x4 : Int) (x5 : Int) (m : MM), P_X10_token_20 Q n x1 x2 x4 x5 m → B f M_X10_token 20 [vR 582, vI x1, vI x2, vU, vI x4, vL x5, vU, vU, vU, vU] [] m Q T := by
  intro n
  induction n with
  | zero => intro x1 x2 x4 x5 m h; exact h.elim
  | succ n ih =>
    intro x1 x2 x4 x5 m h
    have h : (RI x4) ∧ (RI x2) ∧ (if x2 ≤ x4 then P_X10_token_83 Q x1 x4 x5 m else (0 ≤ x4 ∧ x4 < 400) ∧ P_X10_isLetter (m 586 x4) m (fun r1 m1 => (RI r1) ∧ (if r1 = 0 then P_X10_isDigit (m1 586 x4) m1 (fun r2 m2 => (RI r2) ∧ (if r2 = 0 then P_X10_token_83 Q x1 x4 x5 m2 else P_X10_token_52 Q (fun z0 z1 z2 z3 z4 => P_X10_token_20 Q n z0 z1 z2 z3 z4) x1 x2 x4 x5 m2)) else P_X10_token_52 Q (fun z0 z1 z2 z3 z4 => P_X10_token_20 Q n z0 z1 z2 z3 z4) x1 x2 x4 x5 m1))) := h
    refine b_iload dX10_token_20 rfl ?_
    refine b_iload_n dX10_token_22 rfl ?_
    obtain ⟨g1, h⟩ := h
    obtain ⟨g2, h⟩ := h
    refine b_icmp_ge 83 dX10_token_23 g1 g2 (by decide) (fun c1 => ?_) (fun c1 => ?_)
    · have h := ifT c1 h
      refine b_fgt [true, true, false, false, true, true, false, false, false, false] (ls' := [vR 582, vI x1, vU, vU, vI x4, vL x5, vU, vU, vU, vU]) rfl rfl ?_
      exact pl_X10_token_83 hf _ _ _ _ h
    · have h := ifF c1 h
      refine b_aload_n dX10_token_26 rfl ?_
      refine b_getR dX10_token_27 fk_X10_90 ly_582 gg_582_3 ?_
      refine b_iload dX10_token_30 rfl ?_
      obtain ⟨g3, h⟩ := h
      refine b_iald dX10_token_32 ly_586 g3 ?_
      refine b_cSi (as := [vI (m 586 x4)]) (st := []) dX10_token_33 mf_X10_isLetter lk_X10_327 (p_X10_isLetter (f := 1) (Nat.le_refl _) _ _ h) (by omega) rfl rfl (Nat.le_of_ble_eq_true rfl) (by decide) rfl (fun _ => rfl) (fun r1 m1 h => ?_) (fun _ h => h)
      obtain ⟨g4, h⟩ := h
      refine b_if_ne 52 dX10_token_36 g4 (by decide) (fun c2 => ?_) (fun c2 => ?_)
      · have h := ifF c2 h
        exact pl_X10_token_52 hf (fun _ _ _ _ _ h => ih _ _ _ _ _ h) _ _ _ _ _ h
      · have h := ifT (Decidable.of_not_not c2) h
        refine b_aload_n dX10_token_39 rfl ?_
        refine b_getR dX10_token_40 fk_X10_90 ly_582 gg_582_3 ?_
        refine b_iload dX10_token_43 rfl ?_
        refine b_iald dX10_token_45 ly_586 g3 ?_
        refine b_cSi (as := [vI (m1 586 x4)]) (st := []) dX10_token_46 mf_X10_isDigit lk_X10_331 (p_X10_isDigit (f := 1) (Nat.le_refl _) _ _ h) (by omega) rfl rfl (Nat.le_of_ble_eq_true rfl) (by decide) rfl (fun _ => rfl) (fun r2 m2 h => ?_) (fun _ h => h)
        obtain ⟨g5, h⟩ := h
        refine b_if_eq 83 dX10_token_49 g5 (by decide) (fun c3 => ?_) (fun c3 => ?_)
        · have h := ifT c3 h
          refine b_fgt [true, true, false, false, true, true, false, false, false, false] (ls' := [vR 582, vI x1, vU, vU, vI x4, vL x5, vU, vU, vU, vU]) rfl rfl ?_
          exact pl_X10_token_83 hf _ _ _ _ h
        · have h := ifF c3 h
          exact pl_X10_token_52 hf (fun _ _ _ _ _ h => ih _ _ _ _ _ h) _ _ _ _ _ h
theorem pl_X10_token_183 {f : Nat} {Q : Int → MM → Prop} {T : MM → Prop} (hf : 3 ≤ f) : ∀ (x1 : Int) (x2 : Int) (x4 : Int) (x5 : Int) (m : MM), P_X10_token_183 Q x1 x2 x4 x5 m → B f M_X10_token 183 [vR 582, vI x1, vI x2, vU, vI x4, vL x5, vU, vU, vU, vU] [] m Q T := by
  intro x1 x2 x4 x5 m h
  have h : (0 ≤ (m 582 8) ∧ (m 582 8) < 420) ∧ ∀ m1 : MM, m1 = up m 589 (m 582 8) x5 → (RI (x4 - x1)) ∧ (if 9 < (x4 - x1) then Q x4 m1 else (RI x4) ∧ (RI x2) ∧ (if x4 = x2 then (0 ≤ (m1 582 8) ∧ (m1 582 8) < 420) ∧ ∀ m2 : MM, m2 = up m1 587 (m1 582 8) 4 → Q x4 m2 else (0 ≤ x4 ∧ x4 < 400) ∧ P_X10_isLetter (m1 586 x4) m1 (fun r1 m3 => (RI r1) ∧ (if r1 = 0 then (0 ≤ (m3 582 8) ∧ (m3 582 8) < 420) ∧ ∀ m4 : MM, m4 = up m3 587 (m3 582 8) 4 → Q x4 m4 else Q x4 m3)))) := h
  refine b_aload_n dX10_token_183 rfl ?_
  refine b_getR dX10_token_184 fk_X10_99 ly_582 gg_582_7 ?_
  refine b_aload_n dX10_token_187 rfl ?_
  refine b_getI dX10_token_188 fk_X10_317 ly_582 ?_
  refine b_lload dX10_token_191 rfl ?_
  obtain ⟨g1, h⟩ := h
  refine b_last dX10_token_193 ly_589 g1 (fun m1 em1 => ?_)
  have h := h m1 em1
  refine b_iload dX10_token_194 rfl ?_
  refine b_iload_n dX10_token_196 rfl ?_
  refine b_isub dX10_token_197 ?_
  refine b_bipush dX10_token_198 (by decide) ?_
  obtain ⟨g2, h⟩ := h
  refine b_icmp_gt 232 dX10_token_200 g2 (by decide) (by decide) (fun c1 => ?_) (fun c1 => ?_)
  · have h := ifT c1 h
    refine b_iload dX10_token_232 rfl ?_
    exact b_iret dX10_token_234 rfl h
  · have h := ifF c1 h
    refine b_iload dX10_token_203 rfl ?_
    refine b_iload_n dX10_token_205 rfl ?_
    obtain ⟨g3, h⟩ := h
    obtain ⟨g4, h⟩ := h
    refine b_icmp_eq 222 dX10_token_206 g3 g4 (by decide) (fun c2 => ?_) (fun c2 => ?_)
    · have h := ifT c2 h
      refine b_aload_n dX10_token_222 rfl ?_
      refine b_getR dX10_token_223 fk_X10_93 ly_582 gg_582_5 ?_
      refine b_aload_n dX10_token_226 rfl ?_
      refine b_getI dX10_token_227 fk_X10_317 ly_582 ?_
      refine b_iconst dX10_token_230 ?_
      obtain ⟨g5, h⟩ := h
      refine b_iast dX10_token_231 ly_587 g5 (fun m2 em2 => ?_)
      have h := h m2 em2
      refine b_iload dX10_token_232 rfl ?_
      exact b_iret dX10_token_234 rfl h
    · have h := ifF c2 h
      refine b_aload_n dX10_token_209 rfl ?_
      refine b_getR dX10_token_210 fk_X10_90 ly_582 gg_582_3 ?_
      refine b_iload dX10_token_213 rfl ?_
      obtain ⟨g6, h⟩ := h
      refine b_iald dX10_token_215 ly_586 g6 ?_
      refine b_cSi (as := [vI (m1 586 x4)]) (st := []) dX10_token_216 mf_X10_isLetter lk_X10_327 (p_X10_isLetter (f := 1) (Nat.le_refl _) _ _ h) (by omega) rfl rfl (Nat.le_of_ble_eq_true rfl) (by decide) rfl (fun _ => rfl) (fun r1 m3 h => ?_) (fun _ h => h)
      obtain ⟨g7, h⟩ := h
      refine b_if_ne 232 dX10_token_219 g7 (by decide) (fun c3 => ?_) (fun c3 => ?_)
      · have h := ifF c3 h
        refine b_iload dX10_token_232 rfl ?_
        exact b_iret dX10_token_234 rfl h
      · have h := ifT (Decidable.of_not_not c3) h
        refine b_aload_n dX10_token_222 rfl ?_
        refine b_getR dX10_token_223 fk_X10_93 ly_582 gg_582_5 ?_
        refine b_aload_n dX10_token_226 rfl ?_
        refine b_getI dX10_token_227 fk_X10_317 ly_582 ?_
        refine b_iconst dX10_token_230 ?_
        obtain ⟨g8, h⟩ := h
        refine b_iast dX10_token_231 ly_587 g8 (fun m4 em4 => ?_)
        have h := h m4 em4
        refine b_iload dX10_token_232 rfl ?_
        exact b_iret dX10_token_234 rfl h
theorem pl_X10_token_128 {f : Nat} {Q : Int → MM → Prop} {T : MM → Prop} (hf : 3 ≤ f) : ∀ (n : Nat) (x1 : Int) (x2 : Int) (x4 : Int) (x5 : Int) (m : MM), P_X10_token_128 Q n x1 x2 x4 x5 m → B f M_X10_token 128 [vR 582, vI x1, vI x2, vU, vI x4, vL x5, vU, vU, vU, vU] [] m Q T := by
  intro n
  induction n with
  | zero => intro x1 x2 x4 x5 m h; exact h.elim
  | succ n ih =>
    intro x1 x2 x4 x5 m h
    have h : (RI x4) ∧ (RI x2) ∧ (if x2 ≤ x4 then P_X10_token_183 Q x1 x2 x4 x5 m else (0 ≤ x4 ∧ x4 < 400) ∧ P_X10_isDigit (m 586 x4) m (fun r1 m1 => (RI r1) ∧ (if r1 = 0 then P_X10_token_183 Q x1 x2 x4 x5 m1 else (RI (x4 - x1)) ∧ (if 9 ≤ (x4 - x1) then P_X10_token_128 Q n x1 x2 (x4 + 1) x5 m1 else (RI (m1 586 x4)) ∧ P_X10_token_128 Q n x1 x2 (x4 + 1) (((10 * x5) + (m1 586 x4)) - 48) m1)))) := h
    refine b_iload dX10_token_128 rfl ?_
    refine b_iload_n dX10_token_130 rfl ?_
    obtain ⟨g1, h⟩ := h
    obtain ⟨g2, h⟩ := h
    refine b_icmp_ge 183 dX10_token_131 g1 g2 (by decide) (fun c1 => ?_) (fun c1 => ?_)
    · have h := ifT c1 h
      exact pl_X10_token_183 hf _ _ _ _ _ h
    · have h := ifF c1 h
      refine b_aload_n dX10_token_134 rfl ?_
      refine b_getR dX10_token_135 fk_X10_90 ly_582 gg_582_3 ?_
      refine b_iload dX10_token_138 rfl ?_
      obtain ⟨g3, h⟩ := h
      refine b_iald dX10_token_140 ly_586 g3 ?_
      refine b_cSi (as := [vI (m 586 x4)]) (st := []) dX10_token_141 mf_X10_isDigit lk_X10_331 (p_X10_isDigit (f := 1) (Nat.le_refl _) _ _ h) (by omega) rfl rfl (Nat.le_of_ble_eq_true rfl) (by decide) rfl (fun _ => rfl) (fun r1 m1 h => ?_) (fun _ h => h)
      obtain ⟨g4, h⟩ := h
      refine b_if_eq 183 dX10_token_144 g4 (by decide) (fun c2 => ?_) (fun c2 => ?_)
      · have h := ifT c2 h
        exact pl_X10_token_183 hf _ _ _ _ _ h
      · have h := ifF c2 h
        refine b_iload dX10_token_147 rfl ?_
        refine b_iload_n dX10_token_149 rfl ?_
        refine b_isub dX10_token_150 ?_
        refine b_bipush dX10_token_151 (by decide) ?_
        obtain ⟨g5, h⟩ := h
        refine b_icmp_ge 177 dX10_token_153 g5 (by decide) (by decide) (fun c3 => ?_) (fun c3 => ?_)
        · have h := ifT c3 h
          refine b_iinc (ls' := [vR 582, vI x1, vI x2, vU, vI (x4 + 1), vL x5, vU, vU, vU, vU]) dX10_token_177 rfl rfl ?_
          refine b_goto 128 dX10_token_180 (by decide) ?_
          exact ih _ _ _ _ _ h
        · have h := ifF c3 h
          refine b_ldc2 (10) dX10_token_156 q2037 (by decide) ?_
          refine b_lload dX10_token_159 rfl ?_
          refine b_lmul dX10_token_161 ?_
          refine b_aload_n dX10_token_162 rfl ?_
          refine b_getR dX10_token_163 fk_X10_90 ly_582 gg_582_3 ?_
          refine b_iload dX10_token_166 rfl ?_
          refine b_iald dX10_token_168 ly_586 g3 ?_
          obtain ⟨g6, h⟩ := h
          refine b_i2l dX10_token_169 g6 ?_
          refine b_ladd dX10_token_170 ?_
          refine b_ldc2 (48) dX10_token_171 q2038 (by decide) ?_
          refine b_lsub dX10_token_174 ?_
          refine b_lstore (ls' := [vR 582, vI x1, vI x2, vU, vI x4, vL (((10 * x5) + (m1 586 x4)) - 48), vU, vU, vU, vU]) dX10_token_175 (Nat.le_of_ble_eq_true rfl) rfl ?_
          refine b_iinc (ls' := [vR 582, vI x1, vI x2, vU, vI (x4 + 1), vL (((10 * x5) + (m1 586 x4)) - 48), vU, vU, vU, vU]) dX10_token_177 rfl rfl ?_
          refine b_goto 128 dX10_token_180 (by decide) ?_
          exact ih _ _ _ _ _ h
theorem pl_X10_token_432 {f : Nat} {Q : Int → MM → Prop} {T : MM → Prop} (hf : 3 ≤ f) : ∀ (x1 : Int) (x3 : Int) (x7 : Int) (x8 : Int) (m : MM), P_X10_token_432 Q x1 x3 x7 x8 m → B f M_X10_token 432 [vR 582, vI x1, vU, vI x3, vU, vU, vU, vI x7, vI x8, vU] [] m Q T := by
  intro x1 x3 x7 x8 m h
  have h : ((RI x8) ∧ (if x8 = 0 then ((RI x3)) else ((RI x3) ∧ (RI x7)))) ∧ (0 ≤ (m 582 8) ∧ (m 582 8) < 420) ∧ ∀ m1 : MM, m1 = up m 589 (m 582 8) (if x8 = 0 then x3 else ((256 * x3) + x7) : Int) → (RI x8) ∧ (if x8 = 0 then Q (x1 + 1) m1 else Q (x1 + 2) m1) := h
  refine b_aload_n dX10_token_432 rfl ?_
  refine b_getR dX10_token_433 fk_X10_99 ly_582 gg_582_7 ?_
  refine b_aload_n dX10_token_436 rfl ?_
  refine b_getI dX10_token_437 fk_X10_317 ly_582 ?_
  refine b_iload dX10_token_440 rfl ?_
  obtain ⟨hs, h⟩ := h
  have K : B f M_X10_token 460 [vR 582, vI x1, vU, vI x3, vU, vU, vU, vI x7, vI x8, vU] [vL (if x8 = 0 then x3 else ((256 * x3) + x7) : Int), vI (m 582 8), vR 589] m Q T := by
    clear hs
    obtain ⟨g5, h⟩ := h
    refine b_last dX10_token_460 ly_589 g5 (fun m1 em1 => ?_)
    have h := h m1 em1
    refine b_iload_n dX10_token_461 rfl ?_
    refine b_iload dX10_token_462 rfl ?_
    obtain ⟨g6, h⟩ := h
    refine b_if_eq 471 dX10_token_464 g6 (by decide) (fun c1 => ?_) (fun c1 => ?_)
    · have h := ifT c1 h
      refine b_iconst dX10_token_471 ?_
      refine b_iadd dX10_token_472 ?_
      exact b_iret dX10_token_473 rfl h
    · have h := ifF c1 h
      refine b_iconst dX10_token_467 ?_
      refine b_goto 472 dX10_token_468 (by decide) ?_
      refine b_iadd dX10_token_472 ?_
      exact b_iret dX10_token_473 rfl h
  obtain ⟨g1, hs⟩ := hs
  refine b_if_eq 458 dX10_token_442 g1 (by decide) (fun c2 => ?_) (fun c2 => ?_)
  ·
    have hs := ifT c2 hs
    have g2 := hs
    refine b_iload_n dX10_token_458 rfl ?_
    refine b_i2l dX10_token_459 g2 ?_
    exact Eq.mp (congrArg (fun z => B f M_X10_token 460 [vR 582, vI x1, vU, vI x3, vU, vU, vU, vI x7, vI x8, vU] (vL z :: [vI (m 582 8), vR 589]) m Q T) (show (if x8 = 0 then x3 else ((256 * x3) + x7) : Int) = x3 by rw [if_pos c2])) K
  ·
    have hs := ifF c2 hs
    obtain ⟨g3, g4⟩ := hs
    refine b_ldc2 (256) dX10_token_445 q2039 (by decide) ?_
    refine b_iload_n dX10_token_448 rfl ?_
    refine b_i2l dX10_token_449 g3 ?_
    refine b_lmul dX10_token_450 ?_
    refine b_iload dX10_token_451 rfl ?_
    refine b_i2l dX10_token_453 g4 ?_
    refine b_ladd dX10_token_454 ?_
    refine b_goto 460 dX10_token_455 (by decide) ?_
    exact Eq.mp (congrArg (fun z => B f M_X10_token 460 [vR 582, vI x1, vU, vI x3, vU, vU, vU, vI x7, vI x8, vU] (vL z :: [vI (m 582 8), vR 589]) m Q T) (show (if x8 = 0 then x3 else ((256 * x3) + x7) : Int) = ((256 * x3) + x7) by rw [if_neg c2])) K
theorem pl_X10_token_422 {f : Nat} {Q : Int → MM → Prop} {T : MM → Prop} (hf : 3 ≤ f) : ∀ (x1 : Int) (x3 : Int) (x7 : Int) (x8 : Int) (m : MM), P_X10_token_422 Q x1 x3 x7 x8 m → B f M_X10_token 422 [vR 582, vI x1, vU, vI x3, vU, vU, vU, vI x7, vI x8, vU] [] m Q T := by
  intro x1 x3 x7 x8 m h
  have h : (0 ≤ (m 582 8) ∧ (m 582 8) < 420) ∧ ∀ m1 : MM, m1 = up m 587 (m 582 8) 5 → P_X10_token_432 Q x1 x3 x7 x8 m1 := h
  refine b_aload_n dX10_token_422 rfl ?_
  refine b_getR dX10_token_423 fk_X10_93 ly_582 gg_582_5 ?_
  refine b_aload_n dX10_token_426 rfl ?_
  refine b_getI dX10_token_427 fk_X10_317 ly_582 ?_
  refine b_iconst dX10_token_430 ?_
  obtain ⟨g1, h⟩ := h
  refine b_iast dX10_token_431 ly_587 g1 (fun m1 em1 => ?_)
  have h := h m1 em1
  exact pl_X10_token_432 hf _ _ _ _ _ h
theorem pl_X10_token_405 {f : Nat} {Q : Int → MM → Prop} {T : MM → Prop} (hf : 3 ≤ f) : ∀ (x1 : Int) (x3 : Int) (x7 : Int) (x8 : Int) (m : MM), P_X10_token_405 Q x1 x3 x7 x8 m → B f M_X10_token 405 [vR 582, vI x1, vU, vI x3, vU, vU, vU, vI x7, vI x8, vU] [] m Q T := by
  intro x1 x3 x7 x8 m h
  have h : (RI x8) ∧ (if x8 = 0 then (if (1 : Int) = 0 then P_X10_token_432 Q x1 x3 x7 x8 m else P_X10_token_422 Q x1 x3 x7 x8 m) else P_X10_token_422 Q x1 x3 x7 x8 m) := h
  refine b_iconst dX10_token_405 ?_
  refine b_goto 410 dX10_token_406 (by decide) ?_
  refine b_istore (ls' := [vR 582, vI x1, vU, vI x3, vU, vU, vU, vI x7, vI x8, vI 1]) dX10_token_410 (Nat.le_of_ble_eq_true rfl) rfl ?_
  refine b_iload dX10_token_412 rfl ?_
  obtain ⟨g1, h⟩ := h
  refine b_if_ne 422 dX10_token_414 g1 (by decide) (fun c1 => ?_) (fun c1 => ?_)
  · have h := ifF c1 h
    refine b_fgt [true, true, false, true, false, false, false, true, true, false] (ls' := [vR 582, vI x1, vU, vI x3, vU, vU, vU, vI x7, vI x8, vU]) rfl rfl ?_
    exact pl_X10_token_422 hf _ _ _ _ _ h
  · have h := ifT (Decidable.of_not_not c1) h
    refine b_iload dX10_token_417 rfl ?_
    refine b_if_eq 432 dX10_token_419 (by decide) (by decide) (fun c2 => ?_) (fun c2 => ?_)
    · have h := ifT c2 h
      refine b_fgt [true, true, false, true, false, false, false, true, true, false] (ls' := [vR 582, vI x1, vU, vI x3, vU, vU, vU, vI x7, vI x8, vU]) rfl rfl ?_
      exact pl_X10_token_432 hf _ _ _ _ _ h
    · have h := ifF c2 h
      refine b_fgt [true, true, false, true, false, false, false, true, true, false] (ls' := [vR 582, vI x1, vU, vI x3, vU, vU, vU, vI x7, vI x8, vU]) rfl rfl ?_
      exact pl_X10_token_422 hf _ _ _ _ _ h
theorem pl_X10_token_276 {f : Nat} {Q : Int → MM → Prop} {T : MM → Prop} (hf : 3 ≤ f) : ∀ (x1 : Int) (x3 : Int) (x7 : Int) (m : MM), P_X10_token_276 Q x1 x3 x7 m → B f M_X10_token 276 [vR 582, vI x1, vU, vI x3, vU, vU, vU, vI x7, vU, vU] [] m Q T := by
  intro x1 x3 x7 m h
  have h : ((RI x3) ∧ (if x3 = 61 then ((RI x7)) else ((if x3 = 60 then ((RI x7)) else True)))) ∧ (RI x3) ∧ (if x3 = 40 then P_X10_token_405 Q x1 x3 x7 (if x3 = 61 then (if x7 = 61 then 1 else (if x3 = 60 then (if x7 = 61 then 1 else 0 : Int) else 0 : Int) : Int) else (if x3 = 60 then (if x7 = 61 then 1 else 0 : Int) else 0 : Int) : Int) m else (if x3 = 41 then P_X10_token_405 Q x1 x3 x7 (if x3 = 61 then (if x7 = 61 then 1 else (if x3 = 60 then (if x7 = 61 then 1 else 0 : Int) else 0 : Int) : Int) else (if x3 = 60 then (if x7 = 61 then 1 else 0 : Int) else 0 : Int) : Int) m else (RI (if x3 = 61 then (if x7 = 61 then 1 else (if x3 = 60 then (if x7 = 61 then 1 else 0 : Int) else 0 : Int) : Int) else (if x3 = 60 then (if x7 = 61 then 1 else 0 : Int) else 0 : Int) : Int)) ∧ (if (if x3 = 61 then (if x7 = 61 then 1 else (if x3 = 60 then (if x7 = 61 then 1 else 0 : Int) else 0 : Int) : Int) else (if x3 = 60 then (if x7 = 61 then 1 else 0 : Int) else 0 : Int) : Int) = 0 then (RI (if x3 = 91 then 1 else (if x3 = 93 then 1 else (if x3 = 44 then 1 else (if x3 = 58 then 1 else (if x3 = 61 then 1 else (if x3 = 35 then 1 else (if x3 = 60 then 1 else (if x3 = 43 then 1 else (if x3 = 45 then 1 else (if x3 = 42 then 1 else (if x3 = 47 then 1 else (if x3 = 94 then 1 else (if x3 = 33 then 1 else (if x3 = 37 then 1 else 0 : Int) : Int) : Int) : Int) : Int) : Int) : Int) : Int) : Int) : Int) : Int) : Int) : Int) : Int)) ∧ (if (if x3 = 91 then 1 else (if x3 = 93 then 1 else (if x3 = 44 then 1 else (if x3 = 58 then 1 else (if x3 = 61 then 1 else (if x3 = 35 then 1 else (if x3 = 60 then 1 else (if x3 = 43 then 1 else (if x3 = 45 then 1 else (if x3 = 42 then 1 else (if x3 = 47 then 1 else (if x3 = 94 then 1 else (if x3 = 33 then 1 else (if x3 = 37 then 1 else 0 : Int) : Int) : Int) : Int) : Int) : Int) : Int) : Int) : Int) : Int) : Int) : Int) : Int) : Int) = 0 then P_X10_token_432 Q x1 x3 x7 (if x3 = 61 then (if x7 = 61 then 1 else (if x3 = 60 then (if x7 = 61 then 1 else 0 : Int) else 0 : Int) : Int) else (if x3 = 60 then (if x7 = 61 then 1 else 0 : Int) else 0 : Int) : Int) m else P_X10_token_422 Q x1 x3 x7 (if x3 = 61 then (if x7 = 61 then 1 else (if x3 = 60 then (if x7 = 61 then 1 else 0 : Int) else 0 : Int) : Int) else (if x3 = 60 then (if x7 = 61 then 1 else 0 : Int) else 0 : Int) : Int) m) else P_X10_token_422 Q x1 x3 x7 (if x3 = 61 then (if x7 = 61 then 1 else (if x3 = 60 then (if x7 = 61 then 1 else 0 : Int) else 0 : Int) : Int) else (if x3 = 60 then (if x7 = 61 then 1 else 0 : Int) else 0 : Int) : Int) m))) := h
  refine b_iload_n dX10_token_276 rfl ?_
  refine b_bipush dX10_token_277 (by decide) ?_
  obtain ⟨hs, h⟩ := h
  have K : B f M_X10_token 307 [vR 582, vI x1, vU, vI x3, vU, vU, vU, vI x7, vU, vU] [vI (if x3 = 61 then (if x7 = 61 then 1 else (if x3 = 60 then (if x7 = 61 then 1 else 0 : Int) else 0 : Int) : Int) else (if x3 = 60 then (if x7 = 61 then 1 else 0 : Int) else 0 : Int) : Int)] m Q T := by
    clear hs
    refine b_istore (ls' := [vR 582, vI x1, vU, vI x3, vU, vU, vU, vI x7, vI (if x3 = 61 then (if x7 = 61 then 1 else (if x3 = 60 then (if x7 = 61 then 1 else 0 : Int) else 0 : Int) : Int) else (if x3 = 60 then (if x7 = 61 then 1 else 0 : Int) else 0 : Int) : Int), vU]) dX10_token_307 (Nat.le_of_ble_eq_true rfl) rfl ?_
    refine b_iload_n dX10_token_309 rfl ?_
    refine b_bipush dX10_token_310 (by decide) ?_
    obtain ⟨g4, h⟩ := h
    refine b_icmp_eq 405 dX10_token_312 g4 (by decide) (by decide) (fun c1 => ?_) (fun c1 => ?_)
    · have h := ifT c1 h
      exact pl_X10_token_405 hf _ _ _ _ _ h
    · have h := ifF c1 h
      refine b_iload_n dX10_token_315 rfl ?_
      refine b_bipush dX10_token_316 (by decide) ?_
      refine b_icmp_eq 405 dX10_token_318 g4 (by decide) (by decide) (fun c2 => ?_) (fun c2 => ?_)
      · have h := ifT c2 h
        exact pl_X10_token_405 hf _ _ _ _ _ h
      · have h := ifF c2 h
        refine b_iload_n dX10_token_321 rfl ?_
        refine b_bipush dX10_token_322 (by decide) ?_
        have K : B f M_X10_token 410 [vR 582, vI x1, vU, vI x3, vU, vU, vU, vI x7, vI (if x3 = 61 then (if x7 = 61 then 1 else (if x3 = 60 then (if x7 = 61 then 1 else 0 : Int) else 0 : Int) : Int) else (if x3 = 60 then (if x7 = 61 then 1 else 0 : Int) else 0 : Int) : Int), vU] [vI (if x3 = 91 then 1 else (if x3 = 93 then 1 else (if x3 = 44 then 1 else (if x3 = 58 then 1 else (if x3 = 61 then 1 else (if x3 = 35 then 1 else (if x3 = 60 then 1 else (if x3 = 43 then 1 else (if x3 = 45 then 1 else (if x3 = 42 then 1 else (if x3 = 47 then 1 else (if x3 = 94 then 1 else (if x3 = 33 then 1 else (if x3 = 37 then 1 else 0 : Int) : Int) : Int) : Int) : Int) : Int) : Int) : Int) : Int) : Int) : Int) : Int) : Int) : Int)] m Q T := by
          refine b_istore (ls' := [vR 582, vI x1, vU, vI x3, vU, vU, vU, vI x7, vI (if x3 = 61 then (if x7 = 61 then 1 else (if x3 = 60 then (if x7 = 61 then 1 else 0 : Int) else 0 : Int) : Int) else (if x3 = 60 then (if x7 = 61 then 1 else 0 : Int) else 0 : Int) : Int), vI (if x3 = 91 then 1 else (if x3 = 93 then 1 else (if x3 = 44 then 1 else (if x3 = 58 then 1 else (if x3 = 61 then 1 else (if x3 = 35 then 1 else (if x3 = 60 then 1 else (if x3 = 43 then 1 else (if x3 = 45 then 1 else (if x3 = 42 then 1 else (if x3 = 47 then 1 else (if x3 = 94 then 1 else (if x3 = 33 then 1 else (if x3 = 37 then 1 else 0 : Int) : Int) : Int) : Int) : Int) : Int) : Int) : Int) : Int) : Int) : Int) : Int) : Int) : Int)]) dX10_token_410 (Nat.le_of_ble_eq_true rfl) rfl ?_
          refine b_iload dX10_token_412 rfl ?_
          obtain ⟨g5, h⟩ := h
          refine b_if_ne 422 dX10_token_414 g5 (by decide) (fun c3 => ?_) (fun c3 => ?_)
          · have h := ifF c3 h
            refine b_fgt [true, true, false, true, false, false, false, true, true, false] (ls' := [vR 582, vI x1, vU, vI x3, vU, vU, vU, vI x7, vI (if x3 = 61 then (if x7 = 61 then 1 else (if x3 = 60 then (if x7 = 61 then 1 else 0 : Int) else 0 : Int) : Int) else (if x3 = 60 then (if x7 = 61 then 1 else 0 : Int) else 0 : Int) : Int), vU]) rfl rfl ?_
            exact pl_X10_token_422 hf _ _ _ _ _ h
          · have h := ifT (Decidable.of_not_not c3) h
            refine b_iload dX10_token_417 rfl ?_
            obtain ⟨g6, h⟩ := h
            refine b_if_eq 432 dX10_token_419 g6 (by decide) (fun c4 => ?_) (fun c4 => ?_)
            · have h := ifT c4 h
              refine b_fgt [true, true, false, true, false, false, false, true, true, false] (ls' := [vR 582, vI x1, vU, vI x3, vU, vU, vU, vI x7, vI (if x3 = 61 then (if x7 = 61 then 1 else (if x3 = 60 then (if x7 = 61 then 1 else 0 : Int) else 0 : Int) : Int) else (if x3 = 60 then (if x7 = 61 then 1 else 0 : Int) else 0 : Int) : Int), vU]) rfl rfl ?_
              exact pl_X10_token_432 hf _ _ _ _ _ h
            · have h := ifF c4 h
              refine b_fgt [true, true, false, true, false, false, false, true, true, false] (ls' := [vR 582, vI x1, vU, vI x3, vU, vU, vU, vI x7, vI (if x3 = 61 then (if x7 = 61 then 1 else (if x3 = 60 then (if x7 = 61 then 1 else 0 : Int) else 0 : Int) : Int) else (if x3 = 60 then (if x7 = 61 then 1 else 0 : Int) else 0 : Int) : Int), vU]) rfl rfl ?_
              exact pl_X10_token_422 hf _ _ _ _ _ h
        refine b_icmp_eq 405 dX10_token_324 g4 (by decide) (by decide) (fun c5 => ?_) (fun c5 => ?_)
        ·
          refine b_iconst dX10_token_405 ?_
          refine b_goto 410 dX10_token_406 (by decide) ?_
          exact Eq.mp (congrArg (fun z => B f M_X10_token 410 [vR 582, vI x1, vU, vI x3, vU, vU, vU, vI x7, vI (if x3 = 61 then (if x7 = 61 then 1 else (if x3 = 60 then (if x7 = 61 then 1 else 0 : Int) else 0 : Int) : Int) else (if x3 = 60 then (if x7 = 61 then 1 else 0 : Int) else 0 : Int) : Int), vU] (vI z :: []) m Q T) (show (if x3 = 91 then 1 else (if x3 = 93 then 1 else (if x3 = 44 then 1 else (if x3 = 58 then 1 else (if x3 = 61 then 1 else (if x3 = 35 then 1 else (if x3 = 60 then 1 else (if x3 = 43 then 1 else (if x3 = 45 then 1 else (if x3 = 42 then 1 else (if x3 = 47 then 1 else (if x3 = 94 then 1 else (if x3 = 33 then 1 else (if x3 = 37 then 1 else 0 : Int) : Int) : Int) : Int) : Int) : Int) : Int) : Int) : Int) : Int) : Int) : Int) : Int) : Int) = 1 by rw [if_pos c5])) K
        ·
          refine b_iload_n dX10_token_327 rfl ?_
          refine b_bipush dX10_token_328 (by decide) ?_
          refine b_icmp_eq 405 dX10_token_330 g4 (by decide) (by decide) (fun c6 => ?_) (fun c6 => ?_)
          ·
            refine b_iconst dX10_token_405 ?_
            refine b_goto 410 dX10_token_406 (by decide) ?_
            exact Eq.mp (congrArg (fun z => B f M_X10_token 410 [vR 582, vI x1, vU, vI x3, vU, vU, vU, vI x7, vI (if x3 = 61 then (if x7 = 61 then 1 else (if x3 = 60 then (if x7 = 61 then 1 else 0 : Int) else 0 : Int) : Int) else (if x3 = 60 then (if x7 = 61 then 1 else 0 : Int) else 0 : Int) : Int), vU] (vI z :: []) m Q T) (show (if x3 = 91 then 1 else (if x3 = 93 then 1 else (if x3 = 44 then 1 else (if x3 = 58 then 1 else (if x3 = 61 then 1 else (if x3 = 35 then 1 else (if x3 = 60 then 1 else (if x3 = 43 then 1 else (if x3 = 45 then 1 else (if x3 = 42 then 1 else (if x3 = 47 then 1 else (if x3 = 94 then 1 else (if x3 = 33 then 1 else (if x3 = 37 then 1 else 0 : Int) : Int) : Int) : Int) : Int) : Int) : Int) : Int) : Int) : Int) : Int) : Int) : Int) : Int) = 1 by rw [if_neg c5, if_pos c6])) K
          ·
            refine b_iload_n dX10_token_333 rfl ?_
            refine b_bipush dX10_token_334 (by decide) ?_
            refine b_icmp_eq 405 dX10_token_336 g4 (by decide) (by decide) (fun c7 => ?_) (fun c7 => ?_)
            ·
              refine b_iconst dX10_token_405 ?_
              refine b_goto 410 dX10_token_406 (by decide) ?_
              exact Eq.mp (congrArg (fun z => B f M_X10_token 410 [vR 582, vI x1, vU, vI x3, vU, vU, vU, vI x7, vI (if x3 = 61 then (if x7 = 61 then 1 else (if x3 = 60 then (if x7 = 61 then 1 else 0 : Int) else 0 : Int) : Int) else (if x3 = 60 then (if x7 = 61 then 1 else 0 : Int) else 0 : Int) : Int), vU] (vI z :: []) m Q T) (show (if x3 = 91 then 1 else (if x3 = 93 then 1 else (if x3 = 44 then 1 else (if x3 = 58 then 1 else (if x3 = 61 then 1 else (if x3 = 35 then 1 else (if x3 = 60 then 1 else (if x3 = 43 then 1 else (if x3 = 45 then 1 else (if x3 = 42 then 1 else (if x3 = 47 then 1 else (if x3 = 94 then 1 else (if x3 = 33 then 1 else (if x3 = 37 then 1 else 0 : Int) : Int) : Int) : Int) : Int) : Int) : Int) : Int) : Int) : Int) : Int) : Int) : Int) : Int) = 1 by rw [if_neg c5, if_neg c6, if_pos c7])) K
            ·
              refine b_iload_n dX10_token_339 rfl ?_
              refine b_bipush dX10_token_340 (by decide) ?_
              refine b_icmp_eq 405 dX10_token_342 g4 (by decide) (by decide) (fun c8 => ?_) (fun c8 => ?_)
              ·
                refine b_iconst dX10_token_405 ?_
                refine b_goto 410 dX10_token_406 (by decide) ?_
                exact Eq.mp (congrArg (fun z => B f M_X10_token 410 [vR 582, vI x1, vU, vI x3, vU, vU, vU, vI x7, vI (if x3 = 61 then (if x7 = 61 then 1 else (if x3 = 60 then (if x7 = 61 then 1 else 0 : Int) else 0 : Int) : Int) else (if x3 = 60 then (if x7 = 61 then 1 else 0 : Int) else 0 : Int) : Int), vU] (vI z :: []) m Q T) (show (if x3 = 91 then 1 else (if x3 = 93 then 1 else (if x3 = 44 then 1 else (if x3 = 58 then 1 else (if x3 = 61 then 1 else (if x3 = 35 then 1 else (if x3 = 60 then 1 else (if x3 = 43 then 1 else (if x3 = 45 then 1 else (if x3 = 42 then 1 else (if x3 = 47 then 1 else (if x3 = 94 then 1 else (if x3 = 33 then 1 else (if x3 = 37 then 1 else 0 : Int) : Int) : Int) : Int) : Int) : Int) : Int) : Int) : Int) : Int) : Int) : Int) : Int) : Int) = 1 by rw [if_neg c5, if_neg c6, if_neg c7, if_pos c8])) K
              ·
                refine b_iload_n dX10_token_345 rfl ?_
                refine b_bipush dX10_token_346 (by decide) ?_
                refine b_icmp_eq 405 dX10_token_348 g4 (by decide) (by decide) (fun c9 => ?_) (fun c9 => ?_)
                ·
                  refine b_iconst dX10_token_405 ?_
                  refine b_goto 410 dX10_token_406 (by decide) ?_
                  exact Eq.mp (congrArg (fun z => B f M_X10_token 410 [vR 582, vI x1, vU, vI x3, vU, vU, vU, vI x7, vI (if x3 = 61 then (if x7 = 61 then 1 else (if x3 = 60 then (if x7 = 61 then 1 else 0 : Int) else 0 : Int) : Int) else (if x3 = 60 then (if x7 = 61 then 1 else 0 : Int) else 0 : Int) : Int), vU] (vI z :: []) m Q T) (show (if x3 = 91 then 1 else (if x3 = 93 then 1 else (if x3 = 44 then 1 else (if x3 = 58 then 1 else (if x3 = 61 then 1 else (if x3 = 35 then 1 else (if x3 = 60 then 1 else (if x3 = 43 then 1 else (if x3 = 45 then 1 else (if x3 = 42 then 1 else (if x3 = 47 then 1 else (if x3 = 94 then 1 else (if x3 = 33 then 1 else (if x3 = 37 then 1 else 0 : Int) : Int) : Int) : Int) : Int) : Int) : Int) : Int) : Int) : Int) : Int) : Int) : Int) : Int) = 1 by rw [if_neg c5, if_neg c6, if_neg c7, if_neg c8, if_pos c9])) K
                ·
                  refine b_iload_n dX10_token_351 rfl ?_
                  refine b_bipush dX10_token_352 (by decide) ?_
                  refine b_icmp_eq 405 dX10_token_354 g4 (by decide) (by decide) (fun c10 => ?_) (fun c10 => ?_)
                  ·
                    refine b_iconst dX10_token_405 ?_
                    refine b_goto 410 dX10_token_406 (by decide) ?_
                    exact Eq.mp (congrArg (fun z => B f M_X10_token 410 [vR 582, vI x1, vU, vI x3, vU, vU, vU, vI x7, vI (if x3 = 61 then (if x7 = 61 then 1 else (if x3 = 60 then (if x7 = 61 then 1 else 0 : Int) else 0 : Int) : Int) else (if x3 = 60 then (if x7 = 61 then 1 else 0 : Int) else 0 : Int) : Int), vU] (vI z :: []) m Q T) (show (if x3 = 91 then 1 else (if x3 = 93 then 1 else (if x3 = 44 then 1 else (if x3 = 58 then 1 else (if x3 = 61 then 1 else (if x3 = 35 then 1 else (if x3 = 60 then 1 else (if x3 = 43 then 1 else (if x3 = 45 then 1 else (if x3 = 42 then 1 else (if x3 = 47 then 1 else (if x3 = 94 then 1 else (if x3 = 33 then 1 else (if x3 = 37 then 1 else 0 : Int) : Int) : Int) : Int) : Int) : Int) : Int) : Int) : Int) : Int) : Int) : Int) : Int) : Int) = 1 by rw [if_neg c5, if_neg c6, if_neg c7, if_neg c8, if_neg c9, if_pos c10])) K
                  ·
                    refine b_iload_n dX10_token_357 rfl ?_
                    refine b_bipush dX10_token_358 (by decide) ?_
                    refine b_icmp_eq 405 dX10_token_360 g4 (by decide) (by decide) (fun c11 => ?_) (fun c11 => ?_)
                    ·
                      refine b_iconst dX10_token_405 ?_
                      refine b_goto 410 dX10_token_406 (by decide) ?_
                      exact Eq.mp (congrArg (fun z => B f M_X10_token 410 [vR 582, vI x1, vU, vI x3, vU, vU, vU, vI x7, vI (if x3 = 61 then (if x7 = 61 then 1 else (if x3 = 60 then (if x7 = 61 then 1 else 0 : Int) else 0 : Int) : Int) else (if x3 = 60 then (if x7 = 61 then 1 else 0 : Int) else 0 : Int) : Int), vU] (vI z :: []) m Q T) (show (if x3 = 91 then 1 else (if x3 = 93 then 1 else (if x3 = 44 then 1 else (if x3 = 58 then 1 else (if x3 = 61 then 1 else (if x3 = 35 then 1 else (if x3 = 60 then 1 else (if x3 = 43 then 1 else (if x3 = 45 then 1 else (if x3 = 42 then 1 else (if x3 = 47 then 1 else (if x3 = 94 then 1 else (if x3 = 33 then 1 else (if x3 = 37 then 1 else 0 : Int) : Int) : Int) : Int) : Int) : Int) : Int) : Int) : Int) : Int) : Int) : Int) : Int) : Int) = 1 by rw [if_neg c5, if_neg c6, if_neg c7, if_neg c8, if_neg c9, if_neg c10, if_pos c11])) K
                    ·
                      refine b_iload_n dX10_token_363 rfl ?_
                      refine b_bipush dX10_token_364 (by decide) ?_
                      refine b_icmp_eq 405 dX10_token_366 g4 (by decide) (by decide) (fun c12 => ?_) (fun c12 => ?_)
                      ·
                        refine b_iconst dX10_token_405 ?_
                        refine b_goto 410 dX10_token_406 (by decide) ?_
                        exact Eq.mp (congrArg (fun z => B f M_X10_token 410 [vR 582, vI x1, vU, vI x3, vU, vU, vU, vI x7, vI (if x3 = 61 then (if x7 = 61 then 1 else (if x3 = 60 then (if x7 = 61 then 1 else 0 : Int) else 0 : Int) : Int) else (if x3 = 60 then (if x7 = 61 then 1 else 0 : Int) else 0 : Int) : Int), vU] (vI z :: []) m Q T) (show (if x3 = 91 then 1 else (if x3 = 93 then 1 else (if x3 = 44 then 1 else (if x3 = 58 then 1 else (if x3 = 61 then 1 else (if x3 = 35 then 1 else (if x3 = 60 then 1 else (if x3 = 43 then 1 else (if x3 = 45 then 1 else (if x3 = 42 then 1 else (if x3 = 47 then 1 else (if x3 = 94 then 1 else (if x3 = 33 then 1 else (if x3 = 37 then 1 else 0 : Int) : Int) : Int) : Int) : Int) : Int) : Int) : Int) : Int) : Int) : Int) : Int) : Int) : Int) = 1 by rw [if_neg c5, if_neg c6, if_neg c7, if_neg c8, if_neg c9, if_neg c10, if_neg c11, if_pos c12])) K
                      ·
                        refine b_iload_n dX10_token_369 rfl ?_
                        refine b_bipush dX10_token_370 (by decide) ?_
                        refine b_icmp_eq 405 dX10_token_372 g4 (by decide) (by decide) (fun c13 => ?_) (fun c13 => ?_)
                        ·
                          refine b_iconst dX10_token_405 ?_
                          refine b_goto 410 dX10_token_406 (by decide) ?_
                          exact Eq.mp (congrArg (fun z => B f M_X10_token 410 [vR 582, vI x1, vU, vI x3, vU, vU, vU, vI x7, vI (if x3 = 61 then (if x7 = 61 then 1 else (if x3 = 60 then (if x7 = 61 then 1 else 0 : Int) else 0 : Int) : Int) else (if x3 = 60 then (if x7 = 61 then 1 else 0 : Int) else 0 : Int) : Int), vU] (vI z :: []) m Q T) (show (if x3 = 91 then 1 else (if x3 = 93 then 1 else (if x3 = 44 then 1 else (if x3 = 58 then 1 else (if x3 = 61 then 1 else (if x3 = 35 then 1 else (if x3 = 60 then 1 else (if x3 = 43 then 1 else (if x3 = 45 then 1 else (if x3 = 42 then 1 else (if x3 = 47 then 1 else (if x3 = 94 then 1 else (if x3 = 33 then 1 else (if x3 = 37 then 1 else 0 : Int) : Int) : Int) : Int) : Int) : Int) : Int) : Int) : Int) : Int) : Int) : Int) : Int) : Int) = 1 by rw [if_neg c5, if_neg c6, if_neg c7, if_neg c8, if_neg c9, if_neg c10, if_neg c11, if_neg c12, if_pos c13])) K
                        ·
                          refine b_iload_n dX10_token_375 rfl ?_
                          refine b_bipush dX10_token_376 (by decide) ?_
                          refine b_icmp_eq 405 dX10_token_378 g4 (by decide) (by decide) (fun c14 => ?_) (fun c14 => ?_)
                          ·
                            refine b_iconst dX10_token_405 ?_
                            refine b_goto 410 dX10_token_406 (by decide) ?_
                            exact Eq.mp (congrArg (fun z => B f M_X10_token 410 [vR 582, vI x1, vU, vI x3, vU, vU, vU, vI x7, vI (if x3 = 61 then (if x7 = 61 then 1 else (if x3 = 60 then (if x7 = 61 then 1 else 0 : Int) else 0 : Int) : Int) else (if x3 = 60 then (if x7 = 61 then 1 else 0 : Int) else 0 : Int) : Int), vU] (vI z :: []) m Q T) (show (if x3 = 91 then 1 else (if x3 = 93 then 1 else (if x3 = 44 then 1 else (if x3 = 58 then 1 else (if x3 = 61 then 1 else (if x3 = 35 then 1 else (if x3 = 60 then 1 else (if x3 = 43 then 1 else (if x3 = 45 then 1 else (if x3 = 42 then 1 else (if x3 = 47 then 1 else (if x3 = 94 then 1 else (if x3 = 33 then 1 else (if x3 = 37 then 1 else 0 : Int) : Int) : Int) : Int) : Int) : Int) : Int) : Int) : Int) : Int) : Int) : Int) : Int) : Int) = 1 by rw [if_neg c5, if_neg c6, if_neg c7, if_neg c8, if_neg c9, if_neg c10, if_neg c11, if_neg c12, if_neg c13, if_pos c14])) K
                          ·
                            refine b_iload_n dX10_token_381 rfl ?_
                            refine b_bipush dX10_token_382 (by decide) ?_
                            refine b_icmp_eq 405 dX10_token_384 g4 (by decide) (by decide) (fun c15 => ?_) (fun c15 => ?_)
                            ·
                              refine b_iconst dX10_token_405 ?_
                              refine b_goto 410 dX10_token_406 (by decide) ?_
                              exact Eq.mp (congrArg (fun z => B f M_X10_token 410 [vR 582, vI x1, vU, vI x3, vU, vU, vU, vI x7, vI (if x3 = 61 then (if x7 = 61 then 1 else (if x3 = 60 then (if x7 = 61 then 1 else 0 : Int) else 0 : Int) : Int) else (if x3 = 60 then (if x7 = 61 then 1 else 0 : Int) else 0 : Int) : Int), vU] (vI z :: []) m Q T) (show (if x3 = 91 then 1 else (if x3 = 93 then 1 else (if x3 = 44 then 1 else (if x3 = 58 then 1 else (if x3 = 61 then 1 else (if x3 = 35 then 1 else (if x3 = 60 then 1 else (if x3 = 43 then 1 else (if x3 = 45 then 1 else (if x3 = 42 then 1 else (if x3 = 47 then 1 else (if x3 = 94 then 1 else (if x3 = 33 then 1 else (if x3 = 37 then 1 else 0 : Int) : Int) : Int) : Int) : Int) : Int) : Int) : Int) : Int) : Int) : Int) : Int) : Int) : Int) = 1 by rw [if_neg c5, if_neg c6, if_neg c7, if_neg c8, if_neg c9, if_neg c10, if_neg c11, if_neg c12, if_neg c13, if_neg c14, if_pos c15])) K
                            ·
                              refine b_iload_n dX10_token_387 rfl ?_
                              refine b_bipush dX10_token_388 (by decide) ?_
                              refine b_icmp_eq 405 dX10_token_390 g4 (by decide) (by decide) (fun c16 => ?_) (fun c16 => ?_)
                              ·
                                refine b_iconst dX10_token_405 ?_
                                refine b_goto 410 dX10_token_406 (by decide) ?_
                                exact Eq.mp (congrArg (fun z => B f M_X10_token 410 [vR 582, vI x1, vU, vI x3, vU, vU, vU, vI x7, vI (if x3 = 61 then (if x7 = 61 then 1 else (if x3 = 60 then (if x7 = 61 then 1 else 0 : Int) else 0 : Int) : Int) else (if x3 = 60 then (if x7 = 61 then 1 else 0 : Int) else 0 : Int) : Int), vU] (vI z :: []) m Q T) (show (if x3 = 91 then 1 else (if x3 = 93 then 1 else (if x3 = 44 then 1 else (if x3 = 58 then 1 else (if x3 = 61 then 1 else (if x3 = 35 then 1 else (if x3 = 60 then 1 else (if x3 = 43 then 1 else (if x3 = 45 then 1 else (if x3 = 42 then 1 else (if x3 = 47 then 1 else (if x3 = 94 then 1 else (if x3 = 33 then 1 else (if x3 = 37 then 1 else 0 : Int) : Int) : Int) : Int) : Int) : Int) : Int) : Int) : Int) : Int) : Int) : Int) : Int) : Int) = 1 by rw [if_neg c5, if_neg c6, if_neg c7, if_neg c8, if_neg c9, if_neg c10, if_neg c11, if_neg c12, if_neg c13, if_neg c14, if_neg c15, if_pos c16])) K
                              ·
                                refine b_iload_n dX10_token_393 rfl ?_
                                refine b_bipush dX10_token_394 (by decide) ?_
                                refine b_icmp_eq 405 dX10_token_396 g4 (by decide) (by decide) (fun c17 => ?_) (fun c17 => ?_)
                                ·
                                  refine b_iconst dX10_token_405 ?_
                                  refine b_goto 410 dX10_token_406 (by decide) ?_
                                  exact Eq.mp (congrArg (fun z => B f M_X10_token 410 [vR 582, vI x1, vU, vI x3, vU, vU, vU, vI x7, vI (if x3 = 61 then (if x7 = 61 then 1 else (if x3 = 60 then (if x7 = 61 then 1 else 0 : Int) else 0 : Int) : Int) else (if x3 = 60 then (if x7 = 61 then 1 else 0 : Int) else 0 : Int) : Int), vU] (vI z :: []) m Q T) (show (if x3 = 91 then 1 else (if x3 = 93 then 1 else (if x3 = 44 then 1 else (if x3 = 58 then 1 else (if x3 = 61 then 1 else (if x3 = 35 then 1 else (if x3 = 60 then 1 else (if x3 = 43 then 1 else (if x3 = 45 then 1 else (if x3 = 42 then 1 else (if x3 = 47 then 1 else (if x3 = 94 then 1 else (if x3 = 33 then 1 else (if x3 = 37 then 1 else 0 : Int) : Int) : Int) : Int) : Int) : Int) : Int) : Int) : Int) : Int) : Int) : Int) : Int) : Int) = 1 by rw [if_neg c5, if_neg c6, if_neg c7, if_neg c8, if_neg c9, if_neg c10, if_neg c11, if_neg c12, if_neg c13, if_neg c14, if_neg c15, if_neg c16, if_pos c17])) K
                                ·
                                  refine b_iload_n dX10_token_399 rfl ?_
                                  refine b_bipush dX10_token_400 (by decide) ?_
                                  refine b_icmp_ne 409 dX10_token_402 g4 (by decide) (by decide) (fun c18 => ?_) (fun c18 => ?_)
                                  ·
                                    refine b_iconst dX10_token_409 ?_
                                    exact Eq.mp (congrArg (fun z => B f M_X10_token 410 [vR 582, vI x1, vU, vI x3, vU, vU, vU, vI x7, vI (if x3 = 61 then (if x7 = 61 then 1 else (if x3 = 60 then (if x7 = 61 then 1 else 0 : Int) else 0 : Int) : Int) else (if x3 = 60 then (if x7 = 61 then 1 else 0 : Int) else 0 : Int) : Int), vU] (vI z :: []) m Q T) (show (if x3 = 91 then 1 else (if x3 = 93 then 1 else (if x3 = 44 then 1 else (if x3 = 58 then 1 else (if x3 = 61 then 1 else (if x3 = 35 then 1 else (if x3 = 60 then 1 else (if x3 = 43 then 1 else (if x3 = 45 then 1 else (if x3 = 42 then 1 else (if x3 = 47 then 1 else (if x3 = 94 then 1 else (if x3 = 33 then 1 else (if x3 = 37 then 1 else 0 : Int) : Int) : Int) : Int) : Int) : Int) : Int) : Int) : Int) : Int) : Int) : Int) : Int) : Int) = 0 by rw [if_neg c5, if_neg c6, if_neg c7, if_neg c8, if_neg c9, if_neg c10, if_neg c11, if_neg c12, if_neg c13, if_neg c14, if_neg c15, if_neg c16, if_neg c17, if_neg c18])) K
                                  ·
                                    have c18 := Decidable.of_not_not c18
                                    refine b_iconst dX10_token_405 ?_
                                    refine b_goto 410 dX10_token_406 (by decide) ?_
                                    exact Eq.mp (congrArg (fun z => B f M_X10_token 410 [vR 582, vI x1, vU, vI x3, vU, vU, vU, vI x7, vI (if x3 = 61 then (if x7 = 61 then 1 else (if x3 = 60 then (if x7 = 61 then 1 else 0 : Int) else 0 : Int) : Int) else (if x3 = 60 then (if x7 = 61 then 1 else 0 : Int) else 0 : Int) : Int), vU] (vI z :: []) m Q T) (show (if x3 = 91 then 1 else (if x3 = 93 then 1 else (if x3 = 44 then 1 else (if x3 = 58 then 1 else (if x3 = 61 then 1 else (if x3 = 35 then 1 else (if x3 = 60 then 1 else (if x3 = 43 then 1 else (if x3 = 45 then 1 else (if x3 = 42 then 1 else (if x3 = 47 then 1 else (if x3 = 94 then 1 else (if x3 = 33 then 1 else (if x3 = 37 then 1 else 0 : Int) : Int) : Int) : Int) : Int) : Int) : Int) : Int) : Int) : Int) : Int) : Int) : Int) : Int) = 1 by rw [if_neg c5, if_neg c6, if_neg c7, if_neg c8, if_neg c9, if_neg c10, if_neg c11, if_neg c12, if_neg c13, if_neg c14, if_neg c15, if_neg c16, if_neg c17, if_pos c18])) K
  obtain ⟨g1, hs⟩ := hs
  refine b_icmp_ne 289 dX10_token_279 g1 (by decide) (by decide) (fun c19 => ?_) (fun c19 => ?_)
  ·
    have hs := ifF c19 hs
    refine b_iload_n dX10_token_289 rfl ?_
    refine b_bipush dX10_token_290 (by decide) ?_
    refine b_icmp_ne 306 dX10_token_292 g1 (by decide) (by decide) (fun c20 => ?_) (fun c20 => ?_)
    ·
      refine b_iconst dX10_token_306 ?_
      exact Eq.mp (congrArg (fun z => B f M_X10_token 307 [vR 582, vI x1, vU, vI x3, vU, vU, vU, vI x7, vU, vU] (vI z :: []) m Q T) (show (if x3 = 61 then (if x7 = 61 then 1 else (if x3 = 60 then (if x7 = 61 then 1 else 0 : Int) else 0 : Int) : Int) else (if x3 = 60 then (if x7 = 61 then 1 else 0 : Int) else 0 : Int) : Int) = 0 by rw [if_neg c19, if_neg c20])) K
    ·
      have c20 := Decidable.of_not_not c20
      have hs := ifT c20 hs
      have g2 := hs
      refine b_iload dX10_token_295 rfl ?_
      refine b_bipush dX10_token_297 (by decide) ?_
      refine b_icmp_ne 306 dX10_token_299 g2 (by decide) (by decide) (fun c21 => ?_) (fun c21 => ?_)
      ·
        refine b_iconst dX10_token_306 ?_
        exact Eq.mp (congrArg (fun z => B f M_X10_token 307 [vR 582, vI x1, vU, vI x3, vU, vU, vU, vI x7, vU, vU] (vI z :: []) m Q T) (show (if x3 = 61 then (if x7 = 61 then 1 else (if x3 = 60 then (if x7 = 61 then 1 else 0 : Int) else 0 : Int) : Int) else (if x3 = 60 then (if x7 = 61 then 1 else 0 : Int) else 0 : Int) : Int) = 0 by rw [if_neg c19, if_pos c20, if_neg c21])) K
      ·
        have c21 := Decidable.of_not_not c21
        refine b_iconst dX10_token_302 ?_
        refine b_goto 307 dX10_token_303 (by decide) ?_
        exact Eq.mp (congrArg (fun z => B f M_X10_token 307 [vR 582, vI x1, vU, vI x3, vU, vU, vU, vI x7, vU, vU] (vI z :: []) m Q T) (show (if x3 = 61 then (if x7 = 61 then 1 else (if x3 = 60 then (if x7 = 61 then 1 else 0 : Int) else 0 : Int) : Int) else (if x3 = 60 then (if x7 = 61 then 1 else 0 : Int) else 0 : Int) : Int) = 1 by rw [if_neg c19, if_pos c20, if_pos c21])) K
  ·
    have c19 := Decidable.of_not_not c19
    have hs := ifT c19 hs
    have g3 := hs
    refine b_iload dX10_token_282 rfl ?_
    refine b_bipush dX10_token_284 (by decide) ?_
    refine b_icmp_eq 302 dX10_token_286 g3 (by decide) (by decide) (fun c22 => ?_) (fun c22 => ?_)
    ·
      refine b_iconst dX10_token_302 ?_
      refine b_goto 307 dX10_token_303 (by decide) ?_
      exact Eq.mp (congrArg (fun z => B f M_X10_token 307 [vR 582, vI x1, vU, vI x3, vU, vU, vU, vI x7, vU, vU] (vI z :: []) m Q T) (show (if x3 = 61 then (if x7 = 61 then 1 else (if x3 = 60 then (if x7 = 61 then 1 else 0 : Int) else 0 : Int) : Int) else (if x3 = 60 then (if x7 = 61 then 1 else 0 : Int) else 0 : Int) : Int) = 1 by rw [if_pos c19, if_pos c22])) K
    ·
      refine b_iload_n dX10_token_289 rfl ?_
      refine b_bipush dX10_token_290 (by decide) ?_
      refine b_icmp_ne 306 dX10_token_292 g1 (by decide) (by decide) (fun c23 => ?_) (fun c23 => ?_)
      ·
        refine b_iconst dX10_token_306 ?_
        exact Eq.mp (congrArg (fun z => B f M_X10_token 307 [vR 582, vI x1, vU, vI x3, vU, vU, vU, vI x7, vU, vU] (vI z :: []) m Q T) (show (if x3 = 61 then (if x7 = 61 then 1 else (if x3 = 60 then (if x7 = 61 then 1 else 0 : Int) else 0 : Int) : Int) else (if x3 = 60 then (if x7 = 61 then 1 else 0 : Int) else 0 : Int) : Int) = 0 by rw [if_pos c19, if_neg c22, if_neg c23])) K
      ·
        have c23 := Decidable.of_not_not c23
        refine b_iload dX10_token_295 rfl ?_
        refine b_bipush dX10_token_297 (by decide) ?_
        refine b_icmp_ne 306 dX10_token_299 g3 (by decide) (by decide) (fun c24 => ?_) (fun c24 => ?_)
        ·
          refine b_iconst dX10_token_306 ?_
          exact Eq.mp (congrArg (fun z => B f M_X10_token 307 [vR 582, vI x1, vU, vI x3, vU, vU, vU, vI x7, vU, vU] (vI z :: []) m Q T) (show (if x3 = 61 then (if x7 = 61 then 1 else (if x3 = 60 then (if x7 = 61 then 1 else 0 : Int) else 0 : Int) : Int) else (if x3 = 60 then (if x7 = 61 then 1 else 0 : Int) else 0 : Int) : Int) = 0 by rw [if_pos c19, if_neg c22, if_pos c23, if_neg c24])) K
        ·
          have c24 := Decidable.of_not_not c24
          refine b_iconst dX10_token_302 ?_
          refine b_goto 307 dX10_token_303 (by decide) ?_
          exact Eq.mp (congrArg (fun z => B f M_X10_token 307 [vR 582, vI x1, vU, vI x3, vU, vU, vU, vI x7, vU, vU] (vI z :: []) m Q T) (show (if x3 = 61 then (if x7 = 61 then 1 else (if x3 = 60 then (if x7 = 61 then 1 else 0 : Int) else 0 : Int) : Int) else (if x3 = 60 then (if x7 = 61 then 1 else 0 : Int) else 0 : Int) : Int) = 1 by rw [if_pos c19, if_neg c22, if_pos c23, if_pos c24])) K
theorem p_X10_token {f : Nat} {Q : Int → MM → Prop} {T : MM → Prop} (hf : 3 ≤ f) (x1 : Int) (x2 : Int) (m : MM) (h : P_X10_token x1 x2 m Q) : CC f M_X10_token [vR 582, vI x1, vI x2] m Q T := by
  refine CC.of (plainFor_of_name (by decide)) (Nat.le_of_ble_eq_true rfl) (ls := [vR 582, vI x1, vI x2, vU, vU, vU, vU, vU, vU, vU]) rfl ?_
  have h : (0 ≤ x1 ∧ x1 < 400) ∧ P_X10_isLetter (m 586 x1) m (fun r1 m1 => (RI r1) ∧ (if r1 = 0 then P_X10_isDigit (m 586 x1) m1 (fun r2 m2 => (RI r2) ∧ (if r2 = 0 then ((RI (x1 + 1)) ∧ (RI x2) ∧ (if x2 ≤ (x1 + 1) then True else ((0 ≤ (x1 + 1) ∧ (x1 + 1) < 400)))) ∧ (RI (m 586 x1)) ∧ (if (m 586 x1) = 58 then ((RI (if x2 ≤ (x1 + 1) then 0 else (m2 586 (x1 + 1)) : Int))) ∧ (if (m 586 x1) = 40 then P_X10_token_405 Q x1 (m 586 x1) (if x2 ≤ (x1 + 1) then 0 else (m2 586 (x1 + 1)) : Int) (if (if x2 ≤ (x1 + 1) then 0 else (m2 586 (x1 + 1)) : Int) = 61 then 1 else (if (if x2 ≤ (x1 + 1) then 0 else (m2 586 (x1 + 1)) : Int) = 58 then 1 else (if (m 586 x1) = 61 then (if (if x2 ≤ (x1 + 1) then 0 else (m2 586 (x1 + 1)) : Int) = 61 then 1 else (if (m 586 x1) = 60 then (if (if x2 ≤ (x1 + 1) then 0 else (m2 586 (x1 + 1)) : Int) = 61 then 1 else 0 : Int) else 0 : Int) : Int) else (if (m 586 x1) = 60 then (if (if x2 ≤ (x1 + 1) then 0 else (m2 586 (x1 + 1)) : Int) = 61 then 1 else 0 : Int) else 0 : Int) : Int) : Int) : Int) m2 else (if (m 586 x1) = 41 then P_X10_token_405 Q x1 (m 586 x1) (if x2 ≤ (x1 + 1) then 0 else (m2 586 (x1 + 1)) : Int) (if (if x2 ≤ (x1 + 1) then 0 else (m2 586 (x1 + 1)) : Int) = 61 then 1 else (if (if x2 ≤ (x1 + 1) then 0 else (m2 586 (x1 + 1)) : Int) = 58 then 1 else (if (m 586 x1) = 61 then (if (if x2 ≤ (x1 + 1) then 0 else (m2 586 (x1 + 1)) : Int) = 61 then 1 else (if (m 586 x1) = 60 then (if (if x2 ≤ (x1 + 1) then 0 else (m2 586 (x1 + 1)) : Int) = 61 then 1 else 0 : Int) else 0 : Int) : Int) else (if (m 586 x1) = 60 then (if (if x2 ≤ (x1 + 1) then 0 else (m2 586 (x1 + 1)) : Int) = 61 then 1 else 0 : Int) else 0 : Int) : Int) : Int) : Int) m2 else (RI (if (if x2 ≤ (x1 + 1) then 0 else (m2 586 (x1 + 1)) : Int) = 61 then 1 else (if (if x2 ≤ (x1 + 1) then 0 else (m2 586 (x1 + 1)) : Int) = 58 then 1 else (if (m 586 x1) = 61 then (if (if x2 ≤ (x1 + 1) then 0 else (m2 586 (x1 + 1)) : Int) = 61 then 1 else (if (m 586 x1) = 60 then (if (if x2 ≤ (x1 + 1) then 0 else (m2 586 (x1 + 1)) : Int) = 61 then 1 else 0 : Int) else 0 : Int) : Int) else (if (m 586 x1) = 60 then (if (if x2 ≤ (x1 + 1) then 0 else (m2 586 (x1 + 1)) : Int) = 61 then 1 else 0 : Int) else 0 : Int) : Int) : Int) : Int)) ∧ (if (if (if x2 ≤ (x1 + 1) then 0 else (m2 586 (x1 + 1)) : Int) = 61 then 1 else (if (if x2 ≤ (x1 + 1) then 0 else (m2 586 (x1 + 1)) : Int) = 58 then 1 else (if (m 586 x1) = 61 then (if (if x2 ≤ (x1 + 1) then 0 else (m2 586 (x1 + 1)) : Int) = 61 then 1 else (if (m 586 x1) = 60 then (if (if x2 ≤ (x1 + 1) then 0 else (m2 586 (x1 + 1)) : Int) = 61 then 1 else 0 : Int) else 0 : Int) : Int) else (if (m 586 x1) = 60 then (if (if x2 ≤ (x1 + 1) then 0 else (m2 586 (x1 + 1)) : Int) = 61 then 1 else 0 : Int) else 0 : Int) : Int) : Int) : Int) = 0 then (RI (if (m 586 x1) = 91 then 1 else (if (m 586 x1) = 93 then 1 else (if (m 586 x1) = 44 then 1 else (if (m 586 x1) = 58 then 1 else (if (m 586 x1) = 61 then 1 else (if (m 586 x1) = 35 then 1 else (if (m 586 x1) = 60 then 1 else (if (m 586 x1) = 43 then 1 else (if (m 586 x1) = 45 then 1 else (if (m 586 x1) = 42 then 1 else (if (m 586 x1) = 47 then 1 else (if (m 586 x1) = 94 then 1 else (if (m 586 x1) = 33 then 1 else (if (m 586 x1) = 37 then 1 else 0 : Int) : Int) : Int) : Int) : Int) : Int) : Int) : Int) : Int) : Int) : Int) : Int) : Int) : Int)) ∧ (if (if (m 586 x1) = 91 then 1 else (if (m 586 x1) = 93 then 1 else (if (m 586 x1) = 44 then 1 else (if (m 586 x1) = 58 then 1 else (if (m 586 x1) = 61 then 1 else (if (m 586 x1) = 35 then 1 else (if (m 586 x1) = 60 then 1 else (if (m 586 x1) = 43 then 1 else (if (m 586 x1) = 45 then 1 else (if (m 586 x1) = 42 then 1 else (if (m 586 x1) = 47 then 1 else (if (m 586 x1) = 94 then 1 else (if (m 586 x1) = 33 then 1 else (if (m 586 x1) = 37 then 1 else 0 : Int) : Int) : Int) : Int) : Int) : Int) : Int) : Int) : Int) : Int) : Int) : Int) : Int) : Int) = 0 then P_X10_token_432 Q x1 (m 586 x1) (if x2 ≤ (x1 + 1) then 0 else (m2 586 (x1 + 1)) : Int) (if (if x2 ≤ (x1 + 1) then 0 else (m2 586 (x1 + 1)) : Int) = 61 then 1 else (if (if x2 ≤ (x1 + 1) then 0 else (m2 586 (x1 + 1)) : Int) = 58 then 1 else (if (m 586 x1) = 61 then (if (if x2 ≤ (x1 + 1) then 0 else (m2 586 (x1 + 1)) : Int) = 61 then 1 else (if (m 586 x1) = 60 then (if (if x2 ≤ (x1 + 1) then 0 else (m2 586 (x1 + 1)) : Int) = 61 then 1 else 0 : Int) else 0 : Int) : Int) else (if (m 586 x1) = 60 then (if (if x2 ≤ (x1 + 1) then 0 else (m2 586 (x1 + 1)) : Int) = 61 then 1 else 0 : Int) else 0 : Int) : Int) : Int) : Int) m2 else P_X10_token_422 Q x1 (m 586 x1) (if x2 ≤ (x1 + 1) then 0 else (m2 586 (x1 + 1)) : Int) (if (if x2 ≤ (x1 + 1) then 0 else (m2 586 (x1 + 1)) : Int) = 61 then 1 else (if (if x2 ≤ (x1 + 1) then 0 else (m2 586 (x1 + 1)) : Int) = 58 then 1 else (if (m 586 x1) = 61 then (if (if x2 ≤ (x1 + 1) then 0 else (m2 586 (x1 + 1)) : Int) = 61 then 1 else (if (m 586 x1) = 60 then (if (if x2 ≤ (x1 + 1) then 0 else (m2 586 (x1 + 1)) : Int) = 61 then 1 else 0 : Int) else 0 : Int) : Int) else (if (m 586 x1) = 60 then (if (if x2 ≤ (x1 + 1) then 0 else (m2 586 (x1 + 1)) : Int) = 61 then 1 else 0 : Int) else 0 : Int) : Int) : Int) : Int) m2) else P_X10_token_422 Q x1 (m 586 x1) (if x2 ≤ (x1 + 1) then 0 else (m2 586 (x1 + 1)) : Int) (if (if x2 ≤ (x1 + 1) then 0 else (m2 586 (x1 + 1)) : Int) = 61 then 1 else (if (if x2 ≤ (x1 + 1) then 0 else (m2 586 (x1 + 1)) : Int) = 58 then 1 else (if (m 586 x1) = 61 then (if (if x2 ≤ (x1 + 1) then 0 else (m2 586 (x1 + 1)) : Int) = 61 then 1 else (if (m 586 x1) = 60 then (if (if x2 ≤ (x1 + 1) then 0 else (m2 586 (x1 + 1)) : Int) = 61 then 1 else 0 : Int) else 0 : Int) : Int) else (if (m 586 x1) = 60 then (if (if x2 ≤ (x1 + 1) then 0 else (m2 586 (x1 + 1)) : Int) = 61 then 1 else 0 : Int) else 0 : Int) : Int) : Int) : Int) m2))) else P_X10_token_276 Q x1 (m 586 x1) (if x2 ≤ (x1 + 1) then 0 else (m2 586 (x1 + 1)) : Int) m2) else ∃ nn, P_X10_token_128 Q nn x1 x2 x1 0 m2)) else ∃ nn, P_X10_token_20 Q nn x1 x2 x1 0 m1)) := h
  refine b_aload_n dX10_token_0 rfl ?_
  refine b_getR dX10_token_1 fk_X10_90 ly_582 gg_582_3 ?_
  refine b_iload_n dX10_token_4 rfl ?_
  obtain ⟨g1, h⟩ := h
  refine b_iald dX10_token_5 ly_586 g1 ?_
  refine b_istore_n (ls' := [vR 582, vI x1, vI x2, vI (m 586 x1), vU, vU, vU, vU, vU, vU]) dX10_token_6 (Nat.le_of_ble_eq_true rfl) rfl ?_
  refine b_iload_n dX10_token_7 rfl ?_
  refine b_istore (ls' := [vR 582, vI x1, vI x2, vI (m 586 x1), vI x1, vU, vU, vU, vU, vU]) dX10_token_8 (Nat.le_of_ble_eq_true rfl) rfl ?_
  refine b_lconst 0 dX10_token_10 (by decide) ?_
  refine b_lstore (ls' := [vR 582, vI x1, vI x2, vI (m 586 x1), vI x1, vL 0, vU, vU, vU, vU]) dX10_token_11 (Nat.le_of_ble_eq_true rfl) rfl ?_
  refine b_iload_n dX10_token_13 rfl ?_
  refine b_cSi (as := [vI (m 586 x1)]) (st := []) dX10_token_14 mf_X10_isLetter lk_X10_327 (p_X10_isLetter (f := 1) (Nat.le_refl _) _ _ h) (by omega) rfl rfl (Nat.le_of_ble_eq_true rfl) (by decide) rfl (fun _ => rfl) (fun r1 m1 h => ?_) (fun _ h => h)
  obtain ⟨g2, h⟩ := h
  refine b_if_eq 121 dX10_token_17 g2 (by decide) (fun c1 => ?_) (fun c1 => ?_)
  · have h := ifT c1 h
    refine b_iload_n dX10_token_121 rfl ?_
    refine b_cSi (as := [vI (m 586 x1)]) (st := []) dX10_token_122 mf_X10_isDigit lk_X10_331 (p_X10_isDigit (f := 1) (Nat.le_refl _) _ _ h) (by omega) rfl rfl (Nat.le_of_ble_eq_true rfl) (by decide) rfl (fun _ => rfl) (fun r2 m2 h => ?_) (fun _ h => h)
    obtain ⟨g3, h⟩ := h
    refine b_if_eq 235 dX10_token_125 g3 (by decide) (fun c2 => ?_) (fun c2 => ?_)
    · have h := ifT c2 h
      refine b_iload_n dX10_token_235 rfl ?_
      refine b_iconst dX10_token_236 ?_
      refine b_iadd dX10_token_237 ?_
      refine b_iload_n dX10_token_238 rfl ?_
      obtain ⟨hs, h⟩ := h
      have K : B f M_X10_token 254 [vR 582, vI x1, vI x2, vI (m 586 x1), vI x1, vL 0, vU, vU, vU, vU] [vI (if x2 ≤ (x1 + 1) then 0 else (m2 586 (x1 + 1)) : Int)] m2 Q T := by
        clear hs
        refine b_istore (ls' := [vR 582, vI x1, vI x2, vI (m 586 x1), vI x1, vL 0, vU, vI (if x2 ≤ (x1 + 1) then 0 else (m2 586 (x1 + 1)) : Int), vU, vU]) dX10_token_254 (Nat.le_of_ble_eq_true rfl) rfl ?_
        refine b_iload_n dX10_token_256 rfl ?_
        refine b_bipush dX10_token_257 (by decide) ?_
        obtain ⟨g7, h⟩ := h
        refine b_icmp_ne 276 dX10_token_259 g7 (by decide) (by decide) (fun c3 => ?_) (fun c3 => ?_)
        · have h := ifF c3 h
          refine b_fgt [true, true, false, true, false, false, false, true, false, false] (ls' := [vR 582, vI x1, vU, vI (m 586 x1), vU, vU, vU, vI (if x2 ≤ (x1 + 1) then 0 else (m2 586 (x1 + 1)) : Int), vU, vU]) rfl rfl ?_
          exact pl_X10_token_276 hf _ _ _ _ h
        · have h := ifT (Decidable.of_not_not c3) h
          refine b_iload dX10_token_262 rfl ?_
          refine b_bipush dX10_token_264 (by decide) ?_
          obtain ⟨hs, h⟩ := h
          have K : B f M_X10_token 307 [vR 582, vI x1, vI x2, vI (m 586 x1), vI x1, vL 0, vU, vI (if x2 ≤ (x1 + 1) then 0 else (m2 586 (x1 + 1)) : Int), vU, vU] [vI (if (if x2 ≤ (x1 + 1) then 0 else (m2 586 (x1 + 1)) : Int) = 61 then 1 else (if (if x2 ≤ (x1 + 1) then 0 else (m2 586 (x1 + 1)) : Int) = 58 then 1 else (if (m 586 x1) = 61 then (if (if x2 ≤ (x1 + 1) then 0 else (m2 586 (x1 + 1)) : Int) = 61 then 1 else (if (m 586 x1) = 60 then (if (if x2 ≤ (x1 + 1) then 0 else (m2 586 (x1 + 1)) : Int) = 61 then 1 else 0 : Int) else 0 : Int) : Int) else (if (m 586 x1) = 60 then (if (if x2 ≤ (x1 + 1) then 0 else (m2 586 (x1 + 1)) : Int) = 61 then 1 else 0 : Int) else 0 : Int) : Int) : Int) : Int)] m2 Q T := by
            clear hs
            refine b_istore (ls' := [vR 582, vI x1, vI x2, vI (m 586 x1), vI x1, vL 0, vU, vI (if x2 ≤ (x1 + 1) then 0 else (m2 586 (x1 + 1)) : Int), vI (if (if x2 ≤ (x1 + 1) then 0 else (m2 586 (x1 + 1)) : Int) = 61 then 1 else (if (if x2 ≤ (x1 + 1) then 0 else (m2 586 (x1 + 1)) : Int) = 58 then 1 else (if (m 586 x1) = 61 then (if (if x2 ≤ (x1 + 1) then 0 else (m2 586 (x1 + 1)) : Int) = 61 then 1 else (if (m 586 x1) = 60 then (if (if x2 ≤ (x1 + 1) then 0 else (m2 586 (x1 + 1)) : Int) = 61 then 1 else 0 : Int) else 0 : Int) : Int) else (if (m 586 x1) = 60 then (if (if x2 ≤ (x1 + 1) then 0 else (m2 586 (x1 + 1)) : Int) = 61 then 1 else 0 : Int) else 0 : Int) : Int) : Int) : Int), vU]) dX10_token_307 (Nat.le_of_ble_eq_true rfl) rfl ?_
            refine b_iload_n dX10_token_309 rfl ?_
            refine b_bipush dX10_token_310 (by decide) ?_
            refine b_icmp_eq 405 dX10_token_312 g7 (by decide) (by decide) (fun c4 => ?_) (fun c4 => ?_)
            · have h := ifT c4 h
              refine b_fgt [true, true, false, true, false, false, false, true, true, false] (ls' := [vR 582, vI x1, vU, vI (m 586 x1), vU, vU, vU, vI (if x2 ≤ (x1 + 1) then 0 else (m2 586 (x1 + 1)) : Int), vI (if (if x2 ≤ (x1 + 1) then 0 else (m2 586 (x1 + 1)) : Int) = 61 then 1 else (if (if x2 ≤ (x1 + 1) then 0 else (m2 586 (x1 + 1)) : Int) = 58 then 1 else (if (m 586 x1) = 61 then (if (if x2 ≤ (x1 + 1) then 0 else (m2 586 (x1 + 1)) : Int) = 61 then 1 else (if (m 586 x1) = 60 then (if (if x2 ≤ (x1 + 1) then 0 else (m2 586 (x1 + 1)) : Int) = 61 then 1 else 0 : Int) else 0 : Int) : Int) else (if (m 586 x1) = 60 then (if (if x2 ≤ (x1 + 1) then 0 else (m2 586 (x1 + 1)) : Int) = 61 then 1 else 0 : Int) else 0 : Int) : Int) : Int) : Int), vU]) rfl rfl ?_
              exact pl_X10_token_405 hf _ _ _ _ _ h
            · have h := ifF c4 h
              refine b_iload_n dX10_token_315 rfl ?_
              refine b_bipush dX10_token_316 (by decide) ?_
              refine b_icmp_eq 405 dX10_token_318 g7 (by decide) (by decide) (fun c5 => ?_) (fun c5 => ?_)
              · have h := ifT c5 h
                refine b_fgt [true, true, false, true, false, false, false, true, true, false] (ls' := [vR 582, vI x1, vU, vI (m 586 x1), vU, vU, vU, vI (if x2 ≤ (x1 + 1) then 0 else (m2 586 (x1 + 1)) : Int), vI (if (if x2 ≤ (x1 + 1) then 0 else (m2 586 (x1 + 1)) : Int) = 61 then 1 else (if (if x2 ≤ (x1 + 1) then 0 else (m2 586 (x1 + 1)) : Int) = 58 then 1 else (if (m 586 x1) = 61 then (if (if x2 ≤ (x1 + 1) then 0 else (m2 586 (x1 + 1)) : Int) = 61 then 1 else (if (m 586 x1) = 60 then (if (if x2 ≤ (x1 + 1) then 0 else (m2 586 (x1 + 1)) : Int) = 61 then 1 else 0 : Int) else 0 : Int) : Int) else (if (m 586 x1) = 60 then (if (if x2 ≤ (x1 + 1) then 0 else (m2 586 (x1 + 1)) : Int) = 61 then 1 else 0 : Int) else 0 : Int) : Int) : Int) : Int), vU]) rfl rfl ?_
                exact pl_X10_token_405 hf _ _ _ _ _ h
              · have h := ifF c5 h
                refine b_iload_n dX10_token_321 rfl ?_
                refine b_bipush dX10_token_322 (by decide) ?_
                have K : B f M_X10_token 410 [vR 582, vI x1, vI x2, vI (m 586 x1), vI x1, vL 0, vU, vI (if x2 ≤ (x1 + 1) then 0 else (m2 586 (x1 + 1)) : Int), vI (if (if x2 ≤ (x1 + 1) then 0 else (m2 586 (x1 + 1)) : Int) = 61 then 1 else (if (if x2 ≤ (x1 + 1) then 0 else (m2 586 (x1 + 1)) : Int) = 58 then 1 else (if (m 586 x1) = 61 then (if (if x2 ≤ (x1 + 1) then 0 else (m2 586 (x1 + 1)) : Int) = 61 then 1 else (if (m 586 x1) = 60 then (if (if x2 ≤ (x1 + 1) then 0 else (m2 586 (x1 + 1)) : Int) = 61 then 1 else 0 : Int) else 0 : Int) : Int) else (if (m 586 x1) = 60 then (if (if x2 ≤ (x1 + 1) then 0 else (m2 586 (x1 + 1)) : Int) = 61 then 1 else 0 : Int) else 0 : Int) : Int) : Int) : Int), vU] [vI (if (m 586 x1) = 91 then 1 else (if (m 586 x1) = 93 then 1 else (if (m 586 x1) = 44 then 1 else (if (m 586 x1) = 58 then 1 else (if (m 586 x1) = 61 then 1 else (if (m 586 x1) = 35 then 1 else (if (m 586 x1) = 60 then 1 else (if (m 586 x1) = 43 then 1 else (if (m 586 x1) = 45 then 1 else (if (m 586 x1) = 42 then 1 else (if (m 586 x1) = 47 then 1 else (if (m 586 x1) = 94 then 1 else (if (m 586 x1) = 33 then 1 else (if (m 586 x1) = 37 then 1 else 0 : Int) : Int) : Int) : Int) : Int) : Int) : Int) : Int) : Int) : Int) : Int) : Int) : Int) : Int)] m2 Q T := by
                  refine b_istore (ls' := [vR 582, vI x1, vI x2, vI (m 586 x1), vI x1, vL 0, vU, vI (if x2 ≤ (x1 + 1) then 0 else (m2 586 (x1 + 1)) : Int), vI (if (if x2 ≤ (x1 + 1) then 0 else (m2 586 (x1 + 1)) : Int) = 61 then 1 else (if (if x2 ≤ (x1 + 1) then 0 else (m2 586 (x1 + 1)) : Int) = 58 then 1 else (if (m 586 x1) = 61 then (if (if x2 ≤ (x1 + 1) then 0 else (m2 586 (x1 + 1)) : Int) = 61 then 1 else (if (m 586 x1) = 60 then (if (if x2 ≤ (x1 + 1) then 0 else (m2 586 (x1 + 1)) : Int) = 61 then 1 else 0 : Int) else 0 : Int) : Int) else (if (m 586 x1) = 60 then (if (if x2 ≤ (x1 + 1) then 0 else (m2 586 (x1 + 1)) : Int) = 61 then 1 else 0 : Int) else 0 : Int) : Int) : Int) : Int), vI (if (m 586 x1) = 91 then 1 else (if (m 586 x1) = 93 then 1 else (if (m 586 x1) = 44 then 1 else (if (m 586 x1) = 58 then 1 else (if (m 586 x1) = 61 then 1 else (if (m 586 x1) = 35 then 1 else (if (m 586 x1) = 60 then 1 else (if (m 586 x1) = 43 then 1 else (if (m 586 x1) = 45 then 1 else (if (m 586 x1) = 42 then 1 else (if (m 586 x1) = 47 then 1 else (if (m 586 x1) = 94 then 1 else (if (m 586 x1) = 33 then 1 else (if (m 586 x1) = 37 then 1 else 0 : Int) : Int) : Int) : Int) : Int) : Int) : Int) : Int) : Int) : Int) : Int) : Int) : Int) : Int)]) dX10_token_410 (Nat.le_of_ble_eq_true rfl) rfl ?_
                  refine b_iload dX10_token_412 rfl ?_
                  obtain ⟨g9, h⟩ := h
                  refine b_if_ne 422 dX10_token_414 g9 (by decide) (fun c6 => ?_) (fun c6 => ?_)
                  · have h := ifF c6 h
                    refine b_fgt [true, true, false, true, false, false, false, true, true, false] (ls' := [vR 582, vI x1, vU, vI (m 586 x1), vU, vU, vU, vI (if x2 ≤ (x1 + 1) then 0 else (m2 586 (x1 + 1)) : Int), vI (if (if x2 ≤ (x1 + 1) then 0 else (m2 586 (x1 + 1)) : Int) = 61 then 1 else (if (if x2 ≤ (x1 + 1) then 0 else (m2 586 (x1 + 1)) : Int) = 58 then 1 else (if (m 586 x1) = 61 then (if (if x2 ≤ (x1 + 1) then 0 else (m2 586 (x1 + 1)) : Int) = 61 then 1 else (if (m 586 x1) = 60 then (if (if x2 ≤ (x1 + 1) then 0 else (m2 586 (x1 + 1)) : Int) = 61 then 1 else 0 : Int) else 0 : Int) : Int) else (if (m 586 x1) = 60 then (if (if x2 ≤ (x1 + 1) then 0 else (m2 586 (x1 + 1)) : Int) = 61 then 1 else 0 : Int) else 0 : Int) : Int) : Int) : Int), vU]) rfl rfl ?_
                    exact pl_X10_token_422 hf _ _ _ _ _ h
                  · have h := ifT (Decidable.of_not_not c6) h
                    refine b_iload dX10_token_417 rfl ?_
                    obtain ⟨g10, h⟩ := h
                    refine b_if_eq 432 dX10_token_419 g10 (by decide) (fun c7 => ?_) (fun c7 => ?_)
                    · have h := ifT c7 h
                      refine b_fgt [true, true, false, true, false, false, false, true, true, false] (ls' := [vR 582, vI x1, vU, vI (m 586 x1), vU, vU, vU, vI (if x2 ≤ (x1 + 1) then 0 else (m2 586 (x1 + 1)) : Int), vI (if (if x2 ≤ (x1 + 1) then 0 else (m2 586 (x1 + 1)) : Int) = 61 then 1 else (if (if x2 ≤ (x1 + 1) then 0 else (m2 586 (x1 + 1)) : Int) = 58 then 1 else (if (m 586 x1) = 61 then (if (if x2 ≤ (x1 + 1) then 0 else (m2 586 (x1 + 1)) : Int) = 61 then 1 else (if (m 586 x1) = 60 then (if (if x2 ≤ (x1 + 1) then 0 else (m2 586 (x1 + 1)) : Int) = 61 then 1 else 0 : Int) else 0 : Int) : Int) else (if (m 586 x1) = 60 then (if (if x2 ≤ (x1 + 1) then 0 else (m2 586 (x1 + 1)) : Int) = 61 then 1 else 0 : Int) else 0 : Int) : Int) : Int) : Int), vU]) rfl rfl ?_
                      exact pl_X10_token_432 hf _ _ _ _ _ h
                    · have h := ifF c7 h
                      refine b_fgt [true, true, false, true, false, false, false, true, true, false] (ls' := [vR 582, vI x1, vU, vI (m 586 x1), vU, vU, vU, vI (if x2 ≤ (x1 + 1) then 0 else (m2 586 (x1 + 1)) : Int), vI (if (if x2 ≤ (x1 + 1) then 0 else (m2 586 (x1 + 1)) : Int) = 61 then 1 else (if (if x2 ≤ (x1 + 1) then 0 else (m2 586 (x1 + 1)) : Int) = 58 then 1 else (if (m 586 x1) = 61 then (if (if x2 ≤ (x1 + 1) then 0 else (m2 586 (x1 + 1)) : Int) = 61 then 1 else (if (m 586 x1) = 60 then (if (if x2 ≤ (x1 + 1) then 0 else (m2 586 (x1 + 1)) : Int) = 61 then 1 else 0 : Int) else 0 : Int) : Int) else (if (m 586 x1) = 60 then (if (if x2 ≤ (x1 + 1) then 0 else (m2 586 (x1 + 1)) : Int) = 61 then 1 else 0 : Int) else 0 : Int) : Int) : Int) : Int), vU]) rfl rfl ?_
                      exact pl_X10_token_422 hf _ _ _ _ _ h
                refine b_icmp_eq 405 dX10_token_324 g7 (by decide) (by decide) (fun c8 => ?_) (fun c8 => ?_)
                ·
                  refine b_iconst dX10_token_405 ?_
                  refine b_goto 410 dX10_token_406 (by decide) ?_
                  exact Eq.mp (congrArg (fun z => B f M_X10_token 410 [vR 582, vI x1, vI x2, vI (m 586 x1), vI x1, vL 0, vU, vI (if x2 ≤ (x1 + 1) then 0 else (m2 586 (x1 + 1)) : Int), vI (if (if x2 ≤ (x1 + 1) then 0 else (m2 586 (x1 + 1)) : Int) = 61 then 1 else (if (if x2 ≤ (x1 + 1) then 0 else (m2 586 (x1 + 1)) : Int) = 58 then 1 else (if (m 586 x1) = 61 then (if (if x2 ≤ (x1 + 1) then 0 else (m2 586 (x1 + 1)) : Int) = 61 then 1 else (if (m 586 x1) = 60 then (if (if x2 ≤ (x1 + 1) then 0 else (m2 586 (x1 + 1)) : Int) = 61 then 1 else 0 : Int) else 0 : Int) : Int) else (if (m 586 x1) = 60 then (if (if x2 ≤ (x1 + 1) then 0 else (m2 586 (x1 + 1)) : Int) = 61 then 1 else 0 : Int) else 0 : Int) : Int) : Int) : Int), vU] (vI z :: []) m2 Q T) (show (if (m 586 x1) = 91 then 1 else (if (m 586 x1) = 93 then 1 else (if (m 586 x1) = 44 then 1 else (if (m 586 x1) = 58 then 1 else (if (m 586 x1) = 61 then 1 else (if (m 586 x1) = 35 then 1 else (if (m 586 x1) = 60 then 1 else (if (m 586 x1) = 43 then 1 else (if (m 586 x1) = 45 then 1 else (if (m 586 x1) = 42 then 1 else (if (m 586 x1) = 47 then 1 else (if (m 586 x1) = 94 then 1 else (if (m 586 x1) = 33 then 1 else (if (m 586 x1) = 37 then 1 else 0 : Int) : Int) : Int) : Int) : Int) : Int) : Int) : Int) : Int) : Int) : Int) : Int) : Int) : Int) = 1 by rw [if_pos c8])) K
                ·
                  refine b_iload_n dX10_token_327 rfl ?_
                  refine b_bipush dX10_token_328 (by decide) ?_
                  refine b_icmp_eq 405 dX10_token_330 g7 (by decide) (by decide) (fun c9 => ?_) (fun c9 => ?_)
                  ·
                    refine b_iconst dX10_token_405 ?_
                    refine b_goto 410 dX10_token_406 (by decide) ?_
                    exact Eq.mp (congrArg (fun z => B f M_X10_token 410 [vR 582, vI x1, vI x2, vI (m 586 x1), vI x1, vL 0, vU, vI (if x2 ≤ (x1 + 1) then 0 else (m2 586 (x1 + 1)) : Int), vI (if (if x2 ≤ (x1 + 1) then 0 else (m2 586 (x1 + 1)) : Int) = 61 then 1 else (if (if x2 ≤ (x1 + 1) then 0 else (m2 586 (x1 + 1)) : Int) = 58 then 1 else (if (m 586 x1) = 61 then (if (if x2 ≤ (x1 + 1) then 0 else (m2 586 (x1 + 1)) : Int) = 61 then 1 else (if (m 586 x1) = 60 then (if (if x2 ≤ (x1 + 1) then 0 else (m2 586 (x1 + 1)) : Int) = 61 then 1 else 0 : Int) else 0 : Int) : Int) else (if (m 586 x1) = 60 then (if (if x2 ≤ (x1 + 1) then 0 else (m2 586 (x1 + 1)) : Int) = 61 then 1 else 0 : Int) else 0 : Int) : Int) : Int) : Int), vU] (vI z :: []) m2 Q T) (show (if (m 586 x1) = 91 then 1 else (if (m 586 x1) = 93 then 1 else (if (m 586 x1) = 44 then 1 else (if (m 586 x1) = 58 then 1 else (if (m 586 x1) = 61 then 1 else (if (m 586 x1) = 35 then 1 else (if (m 586 x1) = 60 then 1 else (if (m 586 x1) = 43 then 1 else (if (m 586 x1) = 45 then 1 else (if (m 586 x1) = 42 then 1 else (if (m 586 x1) = 47 then 1 else (if (m 586 x1) = 94 then 1 else (if (m 586 x1) = 33 then 1 else (if (m 586 x1) = 37 then 1 else 0 : Int) : Int) : Int) : Int) : Int) : Int) : Int) : Int) : Int) : Int) : Int) : Int) : Int) : Int) = 1 by rw [if_neg c8, if_pos c9])) K
                  ·
                    refine b_iload_n dX10_token_333 rfl ?_
                    refine b_bipush dX10_token_334 (by decide) ?_
                    refine b_icmp_eq 405 dX10_token_336 g7 (by decide) (by decide) (fun c10 => ?_) (fun c10 => ?_)
                    ·
                      refine b_iconst dX10_token_405 ?_
                      refine b_goto 410 dX10_token_406 (by decide) ?_
                      exact Eq.mp (congrArg (fun z => B f M_X10_token 410 [vR 582, vI x1, vI x2, vI (m 586 x1), vI x1, vL 0, vU, vI (if x2 ≤ (x1 + 1) then 0 else (m2 586 (x1 + 1)) : Int), vI (if (if x2 ≤ (x1 + 1) then 0 else (m2 586 (x1 + 1)) : Int) = 61 then 1 else (if (if x2 ≤ (x1 + 1) then 0 else (m2 586 (x1 + 1)) : Int) = 58 then 1 else (if (m 586 x1) = 61 then (if (if x2 ≤ (x1 + 1) then 0 else (m2 586 (x1 + 1)) : Int) = 61 then 1 else (if (m 586 x1) = 60 then (if (if x2 ≤ (x1 + 1) then 0 else (m2 586 (x1 + 1)) : Int) = 61 then 1 else 0 : Int) else 0 : Int) : Int) else (if (m 586 x1) = 60 then (if (if x2 ≤ (x1 + 1) then 0 else (m2 586 (x1 + 1)) : Int) = 61 then 1 else 0 : Int) else 0 : Int) : Int) : Int) : Int), vU] (vI z :: []) m2 Q T) (show (if (m 586 x1) = 91 then 1 else (if (m 586 x1) = 93 then 1 else (if (m 586 x1) = 44 then 1 else (if (m 586 x1) = 58 then 1 else (if (m 586 x1) = 61 then 1 else (if (m 586 x1) = 35 then 1 else (if (m 586 x1) = 60 then 1 else (if (m 586 x1) = 43 then 1 else (if (m 586 x1) = 45 then 1 else (if (m 586 x1) = 42 then 1 else (if (m 586 x1) = 47 then 1 else (if (m 586 x1) = 94 then 1 else (if (m 586 x1) = 33 then 1 else (if (m 586 x1) = 37 then 1 else 0 : Int) : Int) : Int) : Int) : Int) : Int) : Int) : Int) : Int) : Int) : Int) : Int) : Int) : Int) = 1 by rw [if_neg c8, if_neg c9, if_pos c10])) K
                    ·
                      refine b_iload_n dX10_token_339 rfl ?_
                      refine b_bipush dX10_token_340 (by decide) ?_
                      refine b_icmp_eq 405 dX10_token_342 g7 (by decide) (by decide) (fun c11 => ?_) (fun c11 => ?_)
                      ·
                        refine b_iconst dX10_token_405 ?_
                        refine b_goto 410 dX10_token_406 (by decide) ?_
                        exact Eq.mp (congrArg (fun z => B f M_X10_token 410 [vR 582, vI x1, vI x2, vI (m 586 x1), vI x1, vL 0, vU, vI (if x2 ≤ (x1 + 1) then 0 else (m2 586 (x1 + 1)) : Int), vI (if (if x2 ≤ (x1 + 1) then 0 else (m2 586 (x1 + 1)) : Int) = 61 then 1 else (if (if x2 ≤ (x1 + 1) then 0 else (m2 586 (x1 + 1)) : Int) = 58 then 1 else (if (m 586 x1) = 61 then (if (if x2 ≤ (x1 + 1) then 0 else (m2 586 (x1 + 1)) : Int) = 61 then 1 else (if (m 586 x1) = 60 then (if (if x2 ≤ (x1 + 1) then 0 else (m2 586 (x1 + 1)) : Int) = 61 then 1 else 0 : Int) else 0 : Int) : Int) else (if (m 586 x1) = 60 then (if (if x2 ≤ (x1 + 1) then 0 else (m2 586 (x1 + 1)) : Int) = 61 then 1 else 0 : Int) else 0 : Int) : Int) : Int) : Int), vU] (vI z :: []) m2 Q T) (show (if (m 586 x1) = 91 then 1 else (if (m 586 x1) = 93 then 1 else (if (m 586 x1) = 44 then 1 else (if (m 586 x1) = 58 then 1 else (if (m 586 x1) = 61 then 1 else (if (m 586 x1) = 35 then 1 else (if (m 586 x1) = 60 then 1 else (if (m 586 x1) = 43 then 1 else (if (m 586 x1) = 45 then 1 else (if (m 586 x1) = 42 then 1 else (if (m 586 x1) = 47 then 1 else (if (m 586 x1) = 94 then 1 else (if (m 586 x1) = 33 then 1 else (if (m 586 x1) = 37 then 1 else 0 : Int) : Int) : Int) : Int) : Int) : Int) : Int) : Int) : Int) : Int) : Int) : Int) : Int) : Int) = 1 by rw [if_neg c8, if_neg c9, if_neg c10, if_pos c11])) K
                      ·
                        refine b_iload_n dX10_token_345 rfl ?_
                        refine b_bipush dX10_token_346 (by decide) ?_
                        refine b_icmp_eq 405 dX10_token_348 g7 (by decide) (by decide) (fun c12 => ?_) (fun c12 => ?_)
                        ·
                          refine b_iconst dX10_token_405 ?_
                          refine b_goto 410 dX10_token_406 (by decide) ?_
                          exact Eq.mp (congrArg (fun z => B f M_X10_token 410 [vR 582, vI x1, vI x2, vI (m 586 x1), vI x1, vL 0, vU, vI (if x2 ≤ (x1 + 1) then 0 else (m2 586 (x1 + 1)) : Int), vI (if (if x2 ≤ (x1 + 1) then 0 else (m2 586 (x1 + 1)) : Int) = 61 then 1 else (if (if x2 ≤ (x1 + 1) then 0 else (m2 586 (x1 + 1)) : Int) = 58 then 1 else (if (m 586 x1) = 61 then (if (if x2 ≤ (x1 + 1) then 0 else (m2 586 (x1 + 1)) : Int) = 61 then 1 else (if (m 586 x1) = 60 then (if (if x2 ≤ (x1 + 1) then 0 else (m2 586 (x1 + 1)) : Int) = 61 then 1 else 0 : Int) else 0 : Int) : Int) else (if (m 586 x1) = 60 then (if (if x2 ≤ (x1 + 1) then 0 else (m2 586 (x1 + 1)) : Int) = 61 then 1 else 0 : Int) else 0 : Int) : Int) : Int) : Int), vU] (vI z :: []) m2 Q T) (show (if (m 586 x1) = 91 then 1 else (if (m 586 x1) = 93 then 1 else (if (m 586 x1) = 44 then 1 else (if (m 586 x1) = 58 then 1 else (if (m 586 x1) = 61 then 1 else (if (m 586 x1) = 35 then 1 else (if (m 586 x1) = 60 then 1 else (if (m 586 x1) = 43 then 1 else (if (m 586 x1) = 45 then 1 else (if (m 586 x1) = 42 then 1 else (if (m 586 x1) = 47 then 1 else (if (m 586 x1) = 94 then 1 else (if (m 586 x1) = 33 then 1 else (if (m 586 x1) = 37 then 1 else 0 : Int) : Int) : Int) : Int) : Int) : Int) : Int) : Int) : Int) : Int) : Int) : Int) : Int) : Int) = 1 by rw [if_neg c8, if_neg c9, if_neg c10, if_neg c11, if_pos c12])) K
                        ·
                          refine b_iload_n dX10_token_351 rfl ?_
                          refine b_bipush dX10_token_352 (by decide) ?_
                          refine b_icmp_eq 405 dX10_token_354 g7 (by decide) (by decide) (fun c13 => ?_) (fun c13 => ?_)
                          ·
                            refine b_iconst dX10_token_405 ?_
                            refine b_goto 410 dX10_token_406 (by decide) ?_
                            exact Eq.mp (congrArg (fun z => B f M_X10_token 410 [vR 582, vI x1, vI x2, vI (m 586 x1), vI x1, vL 0, vU, vI (if x2 ≤ (x1 + 1) then 0 else (m2 586 (x1 + 1)) : Int), vI (if (if x2 ≤ (x1 + 1) then 0 else (m2 586 (x1 + 1)) : Int) = 61 then 1 else (if (if x2 ≤ (x1 + 1) then 0 else (m2 586 (x1 + 1)) : Int) = 58 then 1 else (if (m 586 x1) = 61 then (if (if x2 ≤ (x1 + 1) then 0 else (m2 586 (x1 + 1)) : Int) = 61 then 1 else (if (m 586 x1) = 60 then (if (if x2 ≤ (x1 + 1) then 0 else (m2 586 (x1 + 1)) : Int) = 61 then 1 else 0 : Int) else 0 : Int) : Int) else (if (m 586 x1) = 60 then (if (if x2 ≤ (x1 + 1) then 0 else (m2 586 (x1 + 1)) : Int) = 61 then 1 else 0 : Int) else 0 : Int) : Int) : Int) : Int), vU] (vI z :: []) m2 Q T) (show (if (m 586 x1) = 91 then 1 else (if (m 586 x1) = 93 then 1 else (if (m 586 x1) = 44 then 1 else (if (m 586 x1) = 58 then 1 else (if (m 586 x1) = 61 then 1 else (if (m 586 x1) = 35 then 1 else (if (m 586 x1) = 60 then 1 else (if (m 586 x1) = 43 then 1 else (if (m 586 x1) = 45 then 1 else (if (m 586 x1) = 42 then 1 else (if (m 586 x1) = 47 then 1 else (if (m 586 x1) = 94 then 1 else (if (m 586 x1) = 33 then 1 else (if (m 586 x1) = 37 then 1 else 0 : Int) : Int) : Int) : Int) : Int) : Int) : Int) : Int) : Int) : Int) : Int) : Int) : Int) : Int) = 1 by rw [if_neg c8, if_neg c9, if_neg c10, if_neg c11, if_neg c12, if_pos c13])) K
                          ·
                            refine b_iload_n dX10_token_357 rfl ?_
                            refine b_bipush dX10_token_358 (by decide) ?_
                            refine b_icmp_eq 405 dX10_token_360 g7 (by decide) (by decide) (fun c14 => ?_) (fun c14 => ?_)
                            ·
                              refine b_iconst dX10_token_405 ?_
                              refine b_goto 410 dX10_token_406 (by decide) ?_
                              exact Eq.mp (congrArg (fun z => B f M_X10_token 410 [vR 582, vI x1, vI x2, vI (m 586 x1), vI x1, vL 0, vU, vI (if x2 ≤ (x1 + 1) then 0 else (m2 586 (x1 + 1)) : Int), vI (if (if x2 ≤ (x1 + 1) then 0 else (m2 586 (x1 + 1)) : Int) = 61 then 1 else (if (if x2 ≤ (x1 + 1) then 0 else (m2 586 (x1 + 1)) : Int) = 58 then 1 else (if (m 586 x1) = 61 then (if (if x2 ≤ (x1 + 1) then 0 else (m2 586 (x1 + 1)) : Int) = 61 then 1 else (if (m 586 x1) = 60 then (if (if x2 ≤ (x1 + 1) then 0 else (m2 586 (x1 + 1)) : Int) = 61 then 1 else 0 : Int) else 0 : Int) : Int) else (if (m 586 x1) = 60 then (if (if x2 ≤ (x1 + 1) then 0 else (m2 586 (x1 + 1)) : Int) = 61 then 1 else 0 : Int) else 0 : Int) : Int) : Int) : Int), vU] (vI z :: []) m2 Q T) (show (if (m 586 x1) = 91 then 1 else (if (m 586 x1) = 93 then 1 else (if (m 586 x1) = 44 then 1 else (if (m 586 x1) = 58 then 1 else (if (m 586 x1) = 61 then 1 else (if (m 586 x1) = 35 then 1 else (if (m 586 x1) = 60 then 1 else (if (m 586 x1) = 43 then 1 else (if (m 586 x1) = 45 then 1 else (if (m 586 x1) = 42 then 1 else (if (m 586 x1) = 47 then 1 else (if (m 586 x1) = 94 then 1 else (if (m 586 x1) = 33 then 1 else (if (m 586 x1) = 37 then 1 else 0 : Int) : Int) : Int) : Int) : Int) : Int) : Int) : Int) : Int) : Int) : Int) : Int) : Int) : Int) = 1 by rw [if_neg c8, if_neg c9, if_neg c10, if_neg c11, if_neg c12, if_neg c13, if_pos c14])) K
                            ·
                              refine b_iload_n dX10_token_363 rfl ?_
                              refine b_bipush dX10_token_364 (by decide) ?_
                              refine b_icmp_eq 405 dX10_token_366 g7 (by decide) (by decide) (fun c15 => ?_) (fun c15 => ?_)
                              ·
                                refine b_iconst dX10_token_405 ?_
                                refine b_goto 410 dX10_token_406 (by decide) ?_
                                exact Eq.mp (congrArg (fun z => B f M_X10_token 410 [vR 582, vI x1, vI x2, vI (m 586 x1), vI x1, vL 0, vU, vI (if x2 ≤ (x1 + 1) then 0 else (m2 586 (x1 + 1)) : Int), vI (if (if x2 ≤ (x1 + 1) then 0 else (m2 586 (x1 + 1)) : Int) = 61 then 1 else (if (if x2 ≤ (x1 + 1) then 0 else (m2 586 (x1 + 1)) : Int) = 58 then 1 else (if (m 586 x1) = 61 then (if (if x2 ≤ (x1 + 1) then 0 else (m2 586 (x1 + 1)) : Int) = 61 then 1 else (if (m 586 x1) = 60 then (if (if x2 ≤ (x1 + 1) then 0 else (m2 586 (x1 + 1)) : Int) = 61 then 1 else 0 : Int) else 0 : Int) : Int) else (if (m 586 x1) = 60 then (if (if x2 ≤ (x1 + 1) then 0 else (m2 586 (x1 + 1)) : Int) = 61 then 1 else 0 : Int) else 0 : Int) : Int) : Int) : Int), vU] (vI z :: []) m2 Q T) (show (if (m 586 x1) = 91 then 1 else (if (m 586 x1) = 93 then 1 else (if (m 586 x1) = 44 then 1 else (if (m 586 x1) = 58 then 1 else (if (m 586 x1) = 61 then 1 else (if (m 586 x1) = 35 then 1 else (if (m 586 x1) = 60 then 1 else (if (m 586 x1) = 43 then 1 else (if (m 586 x1) = 45 then 1 else (if (m 586 x1) = 42 then 1 else (if (m 586 x1) = 47 then 1 else (if (m 586 x1) = 94 then 1 else (if (m 586 x1) = 33 then 1 else (if (m 586 x1) = 37 then 1 else 0 : Int) : Int) : Int) : Int) : Int) : Int) : Int) : Int) : Int) : Int) : Int) : Int) : Int) : Int) = 1 by rw [if_neg c8, if_neg c9, if_neg c10, if_neg c11, if_neg c12, if_neg c13, if_neg c14, if_pos c15])) K
                              ·
                                refine b_iload_n dX10_token_369 rfl ?_
                                refine b_bipush dX10_token_370 (by decide) ?_
                                refine b_icmp_eq 405 dX10_token_372 g7 (by decide) (by decide) (fun c16 => ?_) (fun c16 => ?_)
                                ·
                                  refine b_iconst dX10_token_405 ?_
                                  refine b_goto 410 dX10_token_406 (by decide) ?_
                                  exact Eq.mp (congrArg (fun z => B f M_X10_token 410 [vR 582, vI x1, vI x2, vI (m 586 x1), vI x1, vL 0, vU, vI (if x2 ≤ (x1 + 1) then 0 else (m2 586 (x1 + 1)) : Int), vI (if (if x2 ≤ (x1 + 1) then 0 else (m2 586 (x1 + 1)) : Int) = 61 then 1 else (if (if x2 ≤ (x1 + 1) then 0 else (m2 586 (x1 + 1)) : Int) = 58 then 1 else (if (m 586 x1) = 61 then (if (if x2 ≤ (x1 + 1) then 0 else (m2 586 (x1 + 1)) : Int) = 61 then 1 else (if (m 586 x1) = 60 then (if (if x2 ≤ (x1 + 1) then 0 else (m2 586 (x1 + 1)) : Int) = 61 then 1 else 0 : Int) else 0 : Int) : Int) else (if (m 586 x1) = 60 then (if (if x2 ≤ (x1 + 1) then 0 else (m2 586 (x1 + 1)) : Int) = 61 then 1 else 0 : Int) else 0 : Int) : Int) : Int) : Int), vU] (vI z :: []) m2 Q T) (show (if (m 586 x1) = 91 then 1 else (if (m 586 x1) = 93 then 1 else (if (m 586 x1) = 44 then 1 else (if (m 586 x1) = 58 then 1 else (if (m 586 x1) = 61 then 1 else (if (m 586 x1) = 35 then 1 else (if (m 586 x1) = 60 then 1 else (if (m 586 x1) = 43 then 1 else (if (m 586 x1) = 45 then 1 else (if (m 586 x1) = 42 then 1 else (if (m 586 x1) = 47 then 1 else (if (m 586 x1) = 94 then 1 else (if (m 586 x1) = 33 then 1 else (if (m 586 x1) = 37 then 1 else 0 : Int) : Int) : Int) : Int) : Int) : Int) : Int) : Int) : Int) : Int) : Int) : Int) : Int) : Int) = 1 by rw [if_neg c8, if_neg c9, if_neg c10, if_neg c11, if_neg c12, if_neg c13, if_neg c14, if_neg c15, if_pos c16])) K
                                ·
                                  refine b_iload_n dX10_token_375 rfl ?_
                                  refine b_bipush dX10_token_376 (by decide) ?_
                                  refine b_icmp_eq 405 dX10_token_378 g7 (by decide) (by decide) (fun c17 => ?_) (fun c17 => ?_)
                                  ·
                                    refine b_iconst dX10_token_405 ?_
                                    refine b_goto 410 dX10_token_406 (by decide) ?_
                                    exact Eq.mp (congrArg (fun z => B f M_X10_token 410 [vR 582, vI x1, vI x2, vI (m 586 x1), vI x1, vL 0, vU, vI (if x2 ≤ (x1 + 1) then 0 else (m2 586 (x1 + 1)) : Int), vI (if (if x2 ≤ (x1 + 1) then 0 else (m2 586 (x1 + 1)) : Int) = 61 then 1 else (if (if x2 ≤ (x1 + 1) then 0 else (m2 586 (x1 + 1)) : Int) = 58 then 1 else (if (m 586 x1) = 61 then (if (if x2 ≤ (x1 + 1) then 0 else (m2 586 (x1 + 1)) : Int) = 61 then 1 else (if (m 586 x1) = 60 then (if (if x2 ≤ (x1 + 1) then 0 else (m2 586 (x1 + 1)) : Int) = 61 then 1 else 0 : Int) else 0 : Int) : Int) else (if (m 586 x1) = 60 then (if (if x2 ≤ (x1 + 1) then 0 else (m2 586 (x1 + 1)) : Int) = 61 then 1 else 0 : Int) else 0 : Int) : Int) : Int) : Int), vU] (vI z :: []) m2 Q T) (show (if (m 586 x1) = 91 then 1 else (if (m 586 x1) = 93 then 1 else (if (m 586 x1) = 44 then 1 else (if (m 586 x1) = 58 then 1 else (if (m 586 x1) = 61 then 1 else (if (m 586 x1) = 35 then 1 else (if (m 586 x1) = 60 then 1 else (if (m 586 x1) = 43 then 1 else (if (m 586 x1) = 45 then 1 else (if (m 586 x1) = 42 then 1 else (if (m 586 x1) = 47 then 1 else (if (m 586 x1) = 94 then 1 else (if (m 586 x1) = 33 then 1 else (if (m 586 x1) = 37 then 1 else 0 : Int) : Int) : Int) : Int) : Int) : Int) : Int) : Int) : Int) : Int) : Int) : Int) : Int) : Int) = 1 by rw [if_neg c8, if_neg c9, if_neg c10, if_neg c11, if_neg c12, if_neg c13, if_neg c14, if_neg c15, if_neg c16, if_pos c17])) K
                                  ·
                                    refine b_iload_n dX10_token_381 rfl ?_
                                    refine b_bipush dX10_token_382 (by decide) ?_
                                    refine b_icmp_eq 405 dX10_token_384 g7 (by decide) (by decide) (fun c18 => ?_) (fun c18 => ?_)
                                    ·
                                      refine b_iconst dX10_token_405 ?_
                                      refine b_goto 410 dX10_token_406 (by decide) ?_
                                      exact Eq.mp (congrArg (fun z => B f M_X10_token 410 [vR 582, vI x1, vI x2, vI (m 586 x1), vI x1, vL 0, vU, vI (if x2 ≤ (x1 + 1) then 0 else (m2 586 (x1 + 1)) : Int), vI (if (if x2 ≤ (x1 + 1) then 0 else (m2 586 (x1 + 1)) : Int) = 61 then 1 else (if (if x2 ≤ (x1 + 1) then 0 else (m2 586 (x1 + 1)) : Int) = 58 then 1 else (if (m 586 x1) = 61 then (if (if x2 ≤ (x1 + 1) then 0 else (m2 586 (x1 + 1)) : Int) = 61 then 1 else (if (m 586 x1) = 60 then (if (if x2 ≤ (x1 + 1) then 0 else (m2 586 (x1 + 1)) : Int) = 61 then 1 else 0 : Int) else 0 : Int) : Int) else (if (m 586 x1) = 60 then (if (if x2 ≤ (x1 + 1) then 0 else (m2 586 (x1 + 1)) : Int) = 61 then 1 else 0 : Int) else 0 : Int) : Int) : Int) : Int), vU] (vI z :: []) m2 Q T) (show (if (m 586 x1) = 91 then 1 else (if (m 586 x1) = 93 then 1 else (if (m 586 x1) = 44 then 1 else (if (m 586 x1) = 58 then 1 else (if (m 586 x1) = 61 then 1 else (if (m 586 x1) = 35 then 1 else (if (m 586 x1) = 60 then 1 else (if (m 586 x1) = 43 then 1 else (if (m 586 x1) = 45 then 1 else (if (m 586 x1) = 42 then 1 else (if (m 586 x1) = 47 then 1 else (if (m 586 x1) = 94 then 1 else (if (m 586 x1) = 33 then 1 else (if (m 586 x1) = 37 then 1 else 0 : Int) : Int) : Int) : Int) : Int) : Int) : Int) : Int) : Int) : Int) : Int) : Int) : Int) : Int) = 1 by rw [if_neg c8, if_neg c9, if_neg c10, if_neg c11, if_neg c12, if_neg c13, if_neg c14, if_neg c15, if_neg c16, if_neg c17, if_pos c18])) K
                                    ·
                                      refine b_iload_n dX10_token_387 rfl ?_
                                      refine b_bipush dX10_token_388 (by decide) ?_
                                      refine b_icmp_eq 405 dX10_token_390 g7 (by decide) (by decide) (fun c19 => ?_) (fun c19 => ?_)
                                      ·
                                        refine b_iconst dX10_token_405 ?_
                                        refine b_goto 410 dX10_token_406 (by decide) ?_
                                        exact Eq.mp (congrArg (fun z => B f M_X10_token 410 [vR 582, vI x1, vI x2, vI (m 586 x1), vI x1, vL 0, vU, vI (if x2 ≤ (x1 + 1) then 0 else (m2 586 (x1 + 1)) : Int), vI (if (if x2 ≤ (x1 + 1) then 0 else (m2 586 (x1 + 1)) : Int) = 61 then 1 else (if (if x2 ≤ (x1 + 1) then 0 else (m2 586 (x1 + 1)) : Int) = 58 then 1 else (if (m 586 x1) = 61 then (if (if x2 ≤ (x1 + 1) then 0 else (m2 586 (x1 + 1)) : Int) = 61 then 1 else (if (m 586 x1) = 60 then (if (if x2 ≤ (x1 + 1) then 0 else (m2 586 (x1 + 1)) : Int) = 61 then 1 else 0 : Int) else 0 : Int) : Int) else (if (m 586 x1) = 60 then (if (if x2 ≤ (x1 + 1) then 0 else (m2 586 (x1 + 1)) : Int) = 61 then 1 else 0 : Int) else 0 : Int) : Int) : Int) : Int), vU] (vI z :: []) m2 Q T) (show (if (m 586 x1) = 91 then 1 else (if (m 586 x1) = 93 then 1 else (if (m 586 x1) = 44 then 1 else (if (m 586 x1) = 58 then 1 else (if (m 586 x1) = 61 then 1 else (if (m 586 x1) = 35 then 1 else (if (m 586 x1) = 60 then 1 else (if (m 586 x1) = 43 then 1 else (if (m 586 x1) = 45 then 1 else (if (m 586 x1) = 42 then 1 else (if (m 586 x1) = 47 then 1 else (if (m 586 x1) = 94 then 1 else (if (m 586 x1) = 33 then 1 else (if (m 586 x1) = 37 then 1 else 0 : Int) : Int) : Int) : Int) : Int) : Int) : Int) : Int) : Int) : Int) : Int) : Int) : Int) : Int) = 1 by rw [if_neg c8, if_neg c9, if_neg c10, if_neg c11, if_neg c12, if_neg c13, if_neg c14, if_neg c15, if_neg c16, if_neg c17, if_neg c18, if_pos c19])) K
                                      ·
                                        refine b_iload_n dX10_token_393 rfl ?_
                                        refine b_bipush dX10_token_394 (by decide) ?_
                                        refine b_icmp_eq 405 dX10_token_396 g7 (by decide) (by decide) (fun c20 => ?_) (fun c20 => ?_)
                                        ·
                                          refine b_iconst dX10_token_405 ?_
                                          refine b_goto 410 dX10_token_406 (by decide) ?_
                                          exact Eq.mp (congrArg (fun z => B f M_X10_token 410 [vR 582, vI x1, vI x2, vI (m 586 x1), vI x1, vL 0, vU, vI (if x2 ≤ (x1 + 1) then 0 else (m2 586 (x1 + 1)) : Int), vI (if (if x2 ≤ (x1 + 1) then 0 else (m2 586 (x1 + 1)) : Int) = 61 then 1 else (if (if x2 ≤ (x1 + 1) then 0 else (m2 586 (x1 + 1)) : Int) = 58 then 1 else (if (m 586 x1) = 61 then (if (if x2 ≤ (x1 + 1) then 0 else (m2 586 (x1 + 1)) : Int) = 61 then 1 else (if (m 586 x1) = 60 then (if (if x2 ≤ (x1 + 1) then 0 else (m2 586 (x1 + 1)) : Int) = 61 then 1 else 0 : Int) else 0 : Int) : Int) else (if (m 586 x1) = 60 then (if (if x2 ≤ (x1 + 1) then 0 else (m2 586 (x1 + 1)) : Int) = 61 then 1 else 0 : Int) else 0 : Int) : Int) : Int) : Int), vU] (vI z :: []) m2 Q T) (show (if (m 586 x1) = 91 then 1 else (if (m 586 x1) = 93 then 1 else (if (m 586 x1) = 44 then 1 else (if (m 586 x1) = 58 then 1 else (if (m 586 x1) = 61 then 1 else (if (m 586 x1) = 35 then 1 else (if (m 586 x1) = 60 then 1 else (if (m 586 x1) = 43 then 1 else (if (m 586 x1) = 45 then 1 else (if (m 586 x1) = 42 then 1 else (if (m 586 x1) = 47 then 1 else (if (m 586 x1) = 94 then 1 else (if (m 586 x1) = 33 then 1 else (if (m 586 x1) = 37 then 1 else 0 : Int) : Int) : Int) : Int) : Int) : Int) : Int) : Int) : Int) : Int) : Int) : Int) : Int) : Int) = 1 by rw [if_neg c8, if_neg c9, if_neg c10, if_neg c11, if_neg c12, if_neg c13, if_neg c14, if_neg c15, if_neg c16, if_neg c17, if_neg c18, if_neg c19, if_pos c20])) K
                                        ·
                                          refine b_iload_n dX10_token_399 rfl ?_
                                          refine b_bipush dX10_token_400 (by decide) ?_
                                          refine b_icmp_ne 409 dX10_token_402 g7 (by decide) (by decide) (fun c21 => ?_) (fun c21 => ?_)
                                          ·
                                            refine b_iconst dX10_token_409 ?_
                                            exact Eq.mp (congrArg (fun z => B f M_X10_token 410 [vR 582, vI x1, vI x2, vI (m 586 x1), vI x1, vL 0, vU, vI (if x2 ≤ (x1 + 1) then 0 else (m2 586 (x1 + 1)) : Int), vI (if (if x2 ≤ (x1 + 1) then 0 else (m2 586 (x1 + 1)) : Int) = 61 then 1 else (if (if x2 ≤ (x1 + 1) then 0 else (m2 586 (x1 + 1)) : Int) = 58 then 1 else (if (m 586 x1) = 61 then (if (if x2 ≤ (x1 + 1) then 0 else (m2 586 (x1 + 1)) : Int) = 61 then 1 else (if (m 586 x1) = 60 then (if (if x2 ≤ (x1 + 1) then 0 else (m2 586 (x1 + 1)) : Int) = 61 then 1 else 0 : Int) else 0 : Int) : Int) else (if (m 586 x1) = 60 then (if (if x2 ≤ (x1 + 1) then 0 else (m2 586 (x1 + 1)) : Int) = 61 then 1 else 0 : Int) else 0 : Int) : Int) : Int) : Int), vU] (vI z :: []) m2 Q T) (show (if (m 586 x1) = 91 then 1 else (if (m 586 x1) = 93 then 1 else (if (m 586 x1) = 44 then 1 else (if (m 586 x1) = 58 then 1 else (if (m 586 x1) = 61 then 1 else (if (m 586 x1) = 35 then 1 else (if (m 586 x1) = 60 then 1 else (if (m 586 x1) = 43 then 1 else (if (m 586 x1) = 45 then 1 else (if (m 586 x1) = 42 then 1 else (if (m 586 x1) = 47 then 1 else (if (m 586 x1) = 94 then 1 else (if (m 586 x1) = 33 then 1 else (if (m 586 x1) = 37 then 1 else 0 : Int) : Int) : Int) : Int) : Int) : Int) : Int) : Int) : Int) : Int) : Int) : Int) : Int) : Int) = 0 by rw [if_neg c8, if_neg c9, if_neg c10, if_neg c11, if_neg c12, if_neg c13, if_neg c14, if_neg c15, if_neg c16, if_neg c17, if_neg c18, if_neg c19, if_neg c20, if_neg c21])) K
                                          ·
                                            have c21 := Decidable.of_not_not c21
                                            refine b_iconst dX10_token_405 ?_
                                            refine b_goto 410 dX10_token_406 (by decide) ?_
                                            exact Eq.mp (congrArg (fun z => B f M_X10_token 410 [vR 582, vI x1, vI x2, vI (m 586 x1), vI x1, vL 0, vU, vI (if x2 ≤ (x1 + 1) then 0 else (m2 586 (x1 + 1)) : Int), vI (if (if x2 ≤ (x1 + 1) then 0 else (m2 586 (x1 + 1)) : Int) = 61 then 1 else (if (if x2 ≤ (x1 + 1) then 0 else (m2 586 (x1 + 1)) : Int) = 58 then 1 else (if (m 586 x1) = 61 then (if (if x2 ≤ (x1 + 1) then 0 else (m2 586 (x1 + 1)) : Int) = 61 then 1 else (if (m 586 x1) = 60 then (if (if x2 ≤ (x1 + 1) then 0 else (m2 586 (x1 + 1)) : Int) = 61 then 1 else 0 : Int) else 0 : Int) : Int) else (if (m 586 x1) = 60 then (if (if x2 ≤ (x1 + 1) then 0 else (m2 586 (x1 + 1)) : Int) = 61 then 1 else 0 : Int) else 0 : Int) : Int) : Int) : Int), vU] (vI z :: []) m2 Q T) (show (if (m 586 x1) = 91 then 1 else (if (m 586 x1) = 93 then 1 else (if (m 586 x1) = 44 then 1 else (if (m 586 x1) = 58 then 1 else (if (m 586 x1) = 61 then 1 else (if (m 586 x1) = 35 then 1 else (if (m 586 x1) = 60 then 1 else (if (m 586 x1) = 43 then 1 else (if (m 586 x1) = 45 then 1 else (if (m 586 x1) = 42 then 1 else (if (m 586 x1) = 47 then 1 else (if (m 586 x1) = 94 then 1 else (if (m 586 x1) = 33 then 1 else (if (m 586 x1) = 37 then 1 else 0 : Int) : Int) : Int) : Int) : Int) : Int) : Int) : Int) : Int) : Int) : Int) : Int) : Int) : Int) = 1 by rw [if_neg c8, if_neg c9, if_neg c10, if_neg c11, if_neg c12, if_neg c13, if_neg c14, if_neg c15, if_neg c16, if_neg c17, if_neg c18, if_neg c19, if_neg c20, if_pos c21])) K
          have g8 := hs
          refine b_icmp_eq 302 dX10_token_266 g8 (by decide) (by decide) (fun c22 => ?_) (fun c22 => ?_)
          ·
            refine b_iconst dX10_token_302 ?_
            refine b_goto 307 dX10_token_303 (by decide) ?_
            exact Eq.mp (congrArg (fun z => B f M_X10_token 307 [vR 582, vI x1, vI x2, vI (m 586 x1), vI x1, vL 0, vU, vI (if x2 ≤ (x1 + 1) then 0 else (m2 586 (x1 + 1)) : Int), vU, vU] (vI z :: []) m2 Q T) (show (if (if x2 ≤ (x1 + 1) then 0 else (m2 586 (x1 + 1)) : Int) = 61 then 1 else (if (if x2 ≤ (x1 + 1) then 0 else (m2 586 (x1 + 1)) : Int) = 58 then 1 else (if (m 586 x1) = 61 then (if (if x2 ≤ (x1 + 1) then 0 else (m2 586 (x1 + 1)) : Int) = 61 then 1 else (if (m 586 x1) = 60 then (if (if x2 ≤ (x1 + 1) then 0 else (m2 586 (x1 + 1)) : Int) = 61 then 1 else 0 : Int) else 0 : Int) : Int) else (if (m 586 x1) = 60 then (if (if x2 ≤ (x1 + 1) then 0 else (m2 586 (x1 + 1)) : Int) = 61 then 1 else 0 : Int) else 0 : Int) : Int) : Int) : Int) = 1 by rw [if_pos c22])) K
          ·
            refine b_iload dX10_token_269 rfl ?_
            refine b_bipush dX10_token_271 (by decide) ?_
            refine b_icmp_eq 302 dX10_token_273 g8 (by decide) (by decide) (fun c23 => ?_) (fun c23 => ?_)
            ·
              refine b_iconst dX10_token_302 ?_
              refine b_goto 307 dX10_token_303 (by decide) ?_
              exact Eq.mp (congrArg (fun z => B f M_X10_token 307 [vR 582, vI x1, vI x2, vI (m 586 x1), vI x1, vL 0, vU, vI (if x2 ≤ (x1 + 1) then 0 else (m2 586 (x1 + 1)) : Int), vU, vU] (vI z :: []) m2 Q T) (show (if (if x2 ≤ (x1 + 1) then 0 else (m2 586 (x1 + 1)) : Int) = 61 then 1 else (if (if x2 ≤ (x1 + 1) then 0 else (m2 586 (x1 + 1)) : Int) = 58 then 1 else (if (m 586 x1) = 61 then (if (if x2 ≤ (x1 + 1) then 0 else (m2 586 (x1 + 1)) : Int) = 61 then 1 else (if (m 586 x1) = 60 then (if (if x2 ≤ (x1 + 1) then 0 else (m2 586 (x1 + 1)) : Int) = 61 then 1 else 0 : Int) else 0 : Int) : Int) else (if (m 586 x1) = 60 then (if (if x2 ≤ (x1 + 1) then 0 else (m2 586 (x1 + 1)) : Int) = 61 then 1 else 0 : Int) else 0 : Int) : Int) : Int) : Int) = 1 by rw [if_neg c22, if_pos c23])) K
            ·
              refine b_iload_n dX10_token_276 rfl ?_
              refine b_bipush dX10_token_277 (by decide) ?_
              refine b_icmp_ne 289 dX10_token_279 g7 (by decide) (by decide) (fun c24 => ?_) (fun c24 => ?_)
              ·
                refine b_iload_n dX10_token_289 rfl ?_
                refine b_bipush dX10_token_290 (by decide) ?_
                refine b_icmp_ne 306 dX10_token_292 g7 (by decide) (by decide) (fun c25 => ?_) (fun c25 => ?_)
                ·
                  refine b_iconst dX10_token_306 ?_
                  exact Eq.mp (congrArg (fun z => B f M_X10_token 307 [vR 582, vI x1, vI x2, vI (m 586 x1), vI x1, vL 0, vU, vI (if x2 ≤ (x1 + 1) then 0 else (m2 586 (x1 + 1)) : Int), vU, vU] (vI z :: []) m2 Q T) (show (if (if x2 ≤ (x1 + 1) then 0 else (m2 586 (x1 + 1)) : Int) = 61 then 1 else (if (if x2 ≤ (x1 + 1) then 0 else (m2 586 (x1 + 1)) : Int) = 58 then 1 else (if (m 586 x1) = 61 then (if (if x2 ≤ (x1 + 1) then 0 else (m2 586 (x1 + 1)) : Int) = 61 then 1 else (if (m 586 x1) = 60 then (if (if x2 ≤ (x1 + 1) then 0 else (m2 586 (x1 + 1)) : Int) = 61 then 1 else 0 : Int) else 0 : Int) : Int) else (if (m 586 x1) = 60 then (if (if x2 ≤ (x1 + 1) then 0 else (m2 586 (x1 + 1)) : Int) = 61 then 1 else 0 : Int) else 0 : Int) : Int) : Int) : Int) = 0 by rw [if_neg c22, if_neg c23, if_neg c24, if_neg c25])) K
                ·
                  have c25 := Decidable.of_not_not c25
                  refine b_iload dX10_token_295 rfl ?_
                  refine b_bipush dX10_token_297 (by decide) ?_
                  refine b_icmp_ne 306 dX10_token_299 g8 (by decide) (by decide) (fun c26 => ?_) (fun c26 => ?_)
                  ·
                    refine b_iconst dX10_token_306 ?_
                    exact Eq.mp (congrArg (fun z => B f M_X10_token 307 [vR 582, vI x1, vI x2, vI (m 586 x1), vI x1, vL 0, vU, vI (if x2 ≤ (x1 + 1) then 0 else (m2 586 (x1 + 1)) : Int), vU, vU] (vI z :: []) m2 Q T) (show (if (if x2 ≤ (x1 + 1) then 0 else (m2 586 (x1 + 1)) : Int) = 61 then 1 else (if (if x2 ≤ (x1 + 1) then 0 else (m2 586 (x1 + 1)) : Int) = 58 then 1 else (if (m 586 x1) = 61 then (if (if x2 ≤ (x1 + 1) then 0 else (m2 586 (x1 + 1)) : Int) = 61 then 1 else (if (m 586 x1) = 60 then (if (if x2 ≤ (x1 + 1) then 0 else (m2 586 (x1 + 1)) : Int) = 61 then 1 else 0 : Int) else 0 : Int) : Int) else (if (m 586 x1) = 60 then (if (if x2 ≤ (x1 + 1) then 0 else (m2 586 (x1 + 1)) : Int) = 61 then 1 else 0 : Int) else 0 : Int) : Int) : Int) : Int) = 0 by rw [if_neg c22, if_neg c23, if_neg c24, if_pos c25, if_neg c26])) K
                  ·
                    have c26 := Decidable.of_not_not c26
                    refine b_iconst dX10_token_302 ?_
                    refine b_goto 307 dX10_token_303 (by decide) ?_
                    exact Eq.mp (congrArg (fun z => B f M_X10_token 307 [vR 582, vI x1, vI x2, vI (m 586 x1), vI x1, vL 0, vU, vI (if x2 ≤ (x1 + 1) then 0 else (m2 586 (x1 + 1)) : Int), vU, vU] (vI z :: []) m2 Q T) (show (if (if x2 ≤ (x1 + 1) then 0 else (m2 586 (x1 + 1)) : Int) = 61 then 1 else (if (if x2 ≤ (x1 + 1) then 0 else (m2 586 (x1 + 1)) : Int) = 58 then 1 else (if (m 586 x1) = 61 then (if (if x2 ≤ (x1 + 1) then 0 else (m2 586 (x1 + 1)) : Int) = 61 then 1 else (if (m 586 x1) = 60 then (if (if x2 ≤ (x1 + 1) then 0 else (m2 586 (x1 + 1)) : Int) = 61 then 1 else 0 : Int) else 0 : Int) : Int) else (if (m 586 x1) = 60 then (if (if x2 ≤ (x1 + 1) then 0 else (m2 586 (x1 + 1)) : Int) = 61 then 1 else 0 : Int) else 0 : Int) : Int) : Int) : Int) = 1 by rw [if_neg c22, if_neg c23, if_neg c24, if_pos c25, if_pos c26])) K
              ·
                have c24 := Decidable.of_not_not c24
                refine b_iload dX10_token_282 rfl ?_
                refine b_bipush dX10_token_284 (by decide) ?_
                refine b_icmp_eq 302 dX10_token_286 g8 (by decide) (by decide) (fun c27 => ?_) (fun c27 => ?_)
                ·
                  refine b_iconst dX10_token_302 ?_
                  refine b_goto 307 dX10_token_303 (by decide) ?_
                  exact Eq.mp (congrArg (fun z => B f M_X10_token 307 [vR 582, vI x1, vI x2, vI (m 586 x1), vI x1, vL 0, vU, vI (if x2 ≤ (x1 + 1) then 0 else (m2 586 (x1 + 1)) : Int), vU, vU] (vI z :: []) m2 Q T) (show (if (if x2 ≤ (x1 + 1) then 0 else (m2 586 (x1 + 1)) : Int) = 61 then 1 else (if (if x2 ≤ (x1 + 1) then 0 else (m2 586 (x1 + 1)) : Int) = 58 then 1 else (if (m 586 x1) = 61 then (if (if x2 ≤ (x1 + 1) then 0 else (m2 586 (x1 + 1)) : Int) = 61 then 1 else (if (m 586 x1) = 60 then (if (if x2 ≤ (x1 + 1) then 0 else (m2 586 (x1 + 1)) : Int) = 61 then 1 else 0 : Int) else 0 : Int) : Int) else (if (m 586 x1) = 60 then (if (if x2 ≤ (x1 + 1) then 0 else (m2 586 (x1 + 1)) : Int) = 61 then 1 else 0 : Int) else 0 : Int) : Int) : Int) : Int) = 1 by rw [if_neg c22, if_neg c23, if_pos c24, if_pos c27])) K
                ·
                  refine b_iload_n dX10_token_289 rfl ?_
                  refine b_bipush dX10_token_290 (by decide) ?_
                  refine b_icmp_ne 306 dX10_token_292 g7 (by decide) (by decide) (fun c28 => ?_) (fun c28 => ?_)
                  ·
                    refine b_iconst dX10_token_306 ?_
                    exact Eq.mp (congrArg (fun z => B f M_X10_token 307 [vR 582, vI x1, vI x2, vI (m 586 x1), vI x1, vL 0, vU, vI (if x2 ≤ (x1 + 1) then 0 else (m2 586 (x1 + 1)) : Int), vU, vU] (vI z :: []) m2 Q T) (show (if (if x2 ≤ (x1 + 1) then 0 else (m2 586 (x1 + 1)) : Int) = 61 then 1 else (if (if x2 ≤ (x1 + 1) then 0 else (m2 586 (x1 + 1)) : Int) = 58 then 1 else (if (m 586 x1) = 61 then (if (if x2 ≤ (x1 + 1) then 0 else (m2 586 (x1 + 1)) : Int) = 61 then 1 else (if (m 586 x1) = 60 then (if (if x2 ≤ (x1 + 1) then 0 else (m2 586 (x1 + 1)) : Int) = 61 then 1 else 0 : Int) else 0 : Int) : Int) else (if (m 586 x1) = 60 then (if (if x2 ≤ (x1 + 1) then 0 else (m2 586 (x1 + 1)) : Int) = 61 then 1 else 0 : Int) else 0 : Int) : Int) : Int) : Int) = 0 by rw [if_neg c22, if_neg c23, if_pos c24, if_neg c27, if_neg c28])) K
                  ·
                    have c28 := Decidable.of_not_not c28
                    refine b_iload dX10_token_295 rfl ?_
                    refine b_bipush dX10_token_297 (by decide) ?_
                    refine b_icmp_ne 306 dX10_token_299 g8 (by decide) (by decide) (fun c29 => ?_) (fun c29 => ?_)
                    ·
                      refine b_iconst dX10_token_306 ?_
                      exact Eq.mp (congrArg (fun z => B f M_X10_token 307 [vR 582, vI x1, vI x2, vI (m 586 x1), vI x1, vL 0, vU, vI (if x2 ≤ (x1 + 1) then 0 else (m2 586 (x1 + 1)) : Int), vU, vU] (vI z :: []) m2 Q T) (show (if (if x2 ≤ (x1 + 1) then 0 else (m2 586 (x1 + 1)) : Int) = 61 then 1 else (if (if x2 ≤ (x1 + 1) then 0 else (m2 586 (x1 + 1)) : Int) = 58 then 1 else (if (m 586 x1) = 61 then (if (if x2 ≤ (x1 + 1) then 0 else (m2 586 (x1 + 1)) : Int) = 61 then 1 else (if (m 586 x1) = 60 then (if (if x2 ≤ (x1 + 1) then 0 else (m2 586 (x1 + 1)) : Int) = 61 then 1 else 0 : Int) else 0 : Int) : Int) else (if (m 586 x1) = 60 then (if (if x2 ≤ (x1 + 1) then 0 else (m2 586 (x1 + 1)) : Int) = 61 then 1 else 0 : Int) else 0 : Int) : Int) : Int) : Int) = 0 by rw [if_neg c22, if_neg c23, if_pos c24, if_neg c27, if_pos c28, if_neg c29])) K
                    ·
                      have c29 := Decidable.of_not_not c29
                      refine b_iconst dX10_token_302 ?_
                      refine b_goto 307 dX10_token_303 (by decide) ?_
                      exact Eq.mp (congrArg (fun z => B f M_X10_token 307 [vR 582, vI x1, vI x2, vI (m 586 x1), vI x1, vL 0, vU, vI (if x2 ≤ (x1 + 1) then 0 else (m2 586 (x1 + 1)) : Int), vU, vU] (vI z :: []) m2 Q T) (show (if (if x2 ≤ (x1 + 1) then 0 else (m2 586 (x1 + 1)) : Int) = 61 then 1 else (if (if x2 ≤ (x1 + 1) then 0 else (m2 586 (x1 + 1)) : Int) = 58 then 1 else (if (m 586 x1) = 61 then (if (if x2 ≤ (x1 + 1) then 0 else (m2 586 (x1 + 1)) : Int) = 61 then 1 else (if (m 586 x1) = 60 then (if (if x2 ≤ (x1 + 1) then 0 else (m2 586 (x1 + 1)) : Int) = 61 then 1 else 0 : Int) else 0 : Int) : Int) else (if (m 586 x1) = 60 then (if (if x2 ≤ (x1 + 1) then 0 else (m2 586 (x1 + 1)) : Int) = 61 then 1 else 0 : Int) else 0 : Int) : Int) : Int) : Int) = 1 by rw [if_neg c22, if_neg c23, if_pos c24, if_neg c27, if_pos c28, if_pos c29])) K
      obtain ⟨g4, g5, hs⟩ := hs
      refine b_icmp_ge 253 dX10_token_239 g4 g5 (by decide) (fun c30 => ?_) (fun c30 => ?_)
      ·
        refine b_iconst dX10_token_253 ?_
        exact Eq.mp (congrArg (fun z => B f M_X10_token 254 [vR 582, vI x1, vI x2, vI (m 586 x1), vI x1, vL 0, vU, vU, vU, vU] (vI z :: []) m2 Q T) (show (if x2 ≤ (x1 + 1) then 0 else (m2 586 (x1 + 1)) : Int) = 0 by rw [if_pos c30])) K
      ·
        have hs := ifF c30 hs
        have g6 := hs
        refine b_aload_n dX10_token_242 rfl ?_
        refine b_getR dX10_token_243 fk_X10_90 ly_582 gg_582_3 ?_
        refine b_iload_n dX10_token_246 rfl ?_
        refine b_iconst dX10_token_247 ?_
        refine b_iadd dX10_token_248 ?_
        refine b_iald dX10_token_249 ly_586 g6 ?_
        refine b_goto 254 dX10_token_250 (by decide) ?_
        exact Eq.mp (congrArg (fun z => B f M_X10_token 254 [vR 582, vI x1, vI x2, vI (m 586 x1), vI x1, vL 0, vU, vU, vU, vU] (vI z :: []) m2 Q T) (show (if x2 ≤ (x1 + 1) then 0 else (m2 586 (x1 + 1)) : Int) = (m2 586 (x1 + 1)) by rw [if_neg c30])) K
    · have h := ifF c2 h
      refine b_fgt [true, true, true, false, true, true, false, false, false, false] (ls' := [vR 582, vI x1, vI x2, vU, vI x1, vL 0, vU, vU, vU, vU]) rfl rfl ?_
      obtain ⟨nn, h⟩ := h
      exact pl_X10_token_128 hf nn _ _ _ _ _ h
  · have h := ifF c1 h
    refine b_fgt [true, true, true, false, true, true, false, false, false, false] (ls' := [vR 582, vI x1, vI x2, vU, vI x1, vL 0, vU, vU, vU, vU]) rfl rfl ?_
    obtain ⟨nn, h⟩ := h
    exact pl_X10_token_20 hf nn _ _ _ _ _ h
theorem dX10_scan_0 : decode cX10_scan 0 = .ok (.aload_n 0, 1) := by decide +kernel
theorem dX10_scan_1 : decode cX10_scan 1 = .ok (.iconst 0, 1) := by decide +kernel
theorem dX10_scan_2 : decode cX10_scan 2 = .ok (.putfield 317, 3) := by decide +kernel
theorem dX10_scan_5 : decode cX10_scan 5 = .ok (.iconst 0, 1) := by decide +kernel
theorem dX10_scan_6 : decode cX10_scan 6 = .ok (.istore_n 2, 1) := by decide +kernel
theorem dX10_scan_7 : decode cX10_scan 7 = .ok (.iconst 1, 1) := by decide +kernel
theorem dX10_scan_8 : decode cX10_scan 8 = .ok (.istore_n 3, 1) := by decide +kernel
theorem dX10_scan_9 : decode cX10_scan 9 = .ok (.iload_n 3, 1) := by decide +kernel
theorem dX10_scan_10 : decode cX10_scan 10 = .ok (.ifCond .eq 122, 3) := by decide +kernel
theorem dX10_scan_13 : decode cX10_scan 13 = .ok (.iload_n 2, 1) := by decide +kernel
theorem dX10_scan_14 : decode cX10_scan 14 = .ok (.iload_n 1, 1) := by decide +kernel
theorem dX10_scan_15 : decode cX10_scan 15 = .ok (.if_icmp .ge 20, 3) := by decide +kernel
theorem dX10_scan_18 : decode cX10_scan 18 = .ok (.aload_n 0, 1) := by decide +kernel
theorem dX10_scan_19 : decode cX10_scan 19 = .ok (.getfield 90, 3) := by decide +kernel
theorem dX10_scan_22 : decode cX10_scan 22 = .ok (.iload_n 2, 1) := by decide +kernel
theorem dX10_scan_23 : decode cX10_scan 23 = .ok (.iaload, 1) := by decide +kernel
theorem dX10_scan_24 : decode cX10_scan 24 = .ok (.bipush 32, 2) := by decide +kernel
theorem dX10_scan_26 : decode cX10_scan 26 = .ok (.if_icmp .ne 9, 3) := by decide +kernel
theorem dX10_scan_29 : decode cX10_scan 29 = .ok (.iinc 2 1, 3) := by decide +kernel
theorem dX10_scan_32 : decode cX10_scan 32 = .ok (.goto (-19), 3) := by decide +kernel
theorem dX10_scan_35 : decode cX10_scan 35 = .ok (.aload_n 0, 1) := by decide +kernel
theorem dX10_scan_36 : decode cX10_scan 36 = .ok (.getfield 96, 3) := by decide +kernel
theorem dX10_scan_39 : decode cX10_scan 39 = .ok (.aload_n 0, 1) := by decide +kernel
theorem dX10_scan_40 : decode cX10_scan 40 = .ok (.getfield 317, 3) := by decide +kernel
theorem dX10_scan_43 : decode cX10_scan 43 = .ok (.iload_n 2, 1) := by decide +kernel
theorem dX10_scan_44 : decode cX10_scan 44 = .ok (.iastore, 1) := by decide +kernel
theorem dX10_scan_45 : decode cX10_scan 45 = .ok (.aload_n 0, 1) := by decide +kernel
theorem dX10_scan_46 : decode cX10_scan 46 = .ok (.getfield 99, 3) := by decide +kernel
theorem dX10_scan_49 : decode cX10_scan 49 = .ok (.aload_n 0, 1) := by decide +kernel
theorem dX10_scan_50 : decode cX10_scan 50 = .ok (.getfield 317, 3) := by decide +kernel
theorem dX10_scan_53 : decode cX10_scan 53 = .ok (.lconst 0, 1) := by decide +kernel
theorem dX10_scan_54 : decode cX10_scan 54 = .ok (.lastore, 1) := by decide +kernel
theorem dX10_scan_55 : decode cX10_scan 55 = .ok (.aload_n 0, 1) := by decide +kernel
theorem dX10_scan_56 : decode cX10_scan 56 = .ok (.getfield 93, 3) := by decide +kernel
theorem dX10_scan_59 : decode cX10_scan 59 = .ok (.aload_n 0, 1) := by decide +kernel
theorem dX10_scan_60 : decode cX10_scan 60 = .ok (.getfield 317, 3) := by decide +kernel
theorem dX10_scan_63 : decode cX10_scan 63 = .ok (.iload_n 2, 1) := by decide +kernel
theorem dX10_scan_64 : decode cX10_scan 64 = .ok (.iload_n 1, 1) := by decide +kernel
theorem dX10_scan_65 : decode cX10_scan 65 = .ok (.if_icmp .ne 7, 3) := by decide +kernel
theorem dX10_scan_68 : decode cX10_scan 68 = .ok (.iconst 0, 1) := by decide +kernel
theorem dX10_scan_69 : decode cX10_scan 69 = .ok (.goto 5, 3) := by decide +kernel
theorem dX10_scan_72 : decode cX10_scan 72 = .ok (.bipush 6, 2) := by decide +kernel
theorem dX10_scan_74 : decode cX10_scan 74 = .ok (.iastore, 1) := by decide +kernel
theorem dX10_scan_75 : decode cX10_scan 75 = .ok (.iload_n 2, 1) := by decide +kernel
theorem dX10_scan_76 : decode cX10_scan 76 = .ok (.iload_n 1, 1) := by decide +kernel
theorem dX10_scan_77 : decode cX10_scan 77 = .ok (.if_icmp .ge 10, 3) := by decide +kernel
theorem dX10_scan_80 : decode cX10_scan 80 = .ok (.aload_n 0, 1) := by decide +kernel
theorem dX10_scan_81 : decode cX10_scan 81 = .ok (.iload_n 2, 1) := by decide +kernel
theorem dX10_scan_82 : decode cX10_scan 82 = .ok (.iload_n 1, 1) := by decide +kernel
theorem dX10_scan_83 : decode cX10_scan 83 = .ok (.invokevirtual 320, 3) := by decide +kernel
theorem dX10_scan_86 : decode cX10_scan 86 = .ok (.istore_n 2, 1) := by decide +kernel
theorem dX10_scan_87 : decode cX10_scan 87 = .ok (.aload_n 0, 1) := by decide +kernel
theorem dX10_scan_88 : decode cX10_scan 88 = .ok (.getfield 93, 3) := by decide +kernel
theorem dX10_scan_91 : decode cX10_scan 91 = .ok (.aload_n 0, 1) := by decide +kernel
theorem dX10_scan_92 : decode cX10_scan 92 = .ok (.getfield 317, 3) := by decide +kernel
theorem dX10_scan_95 : decode cX10_scan 95 = .ok (.iaload, 1) := by decide +kernel
theorem dX10_scan_96 : decode cX10_scan 96 = .ok (.ifCond .eq 21, 3) := by decide +kernel
theorem dX10_scan_99 : decode cX10_scan 99 = .ok (.aload_n 0, 1) := by decide +kernel
theorem dX10_scan_100 : decode cX10_scan 100 = .ok (.getfield 93, 3) := by decide +kernel
theorem dX10_scan_103 : decode cX10_scan 103 = .ok (.aload_n 0, 1) := by decide +kernel
theorem dX10_scan_104 : decode cX10_scan 104 = .ok (.getfield 317, 3) := by decide +kernel
theorem dX10_scan_107 : decode cX10_scan 107 = .ok (.iaload, 1) := by decide +kernel
theorem dX10_scan_108 : decode cX10_scan 108 = .ok (.bipush 6, 2) := by decide +kernel
theorem dX10_scan_110 : decode cX10_scan 110 = .ok (.if_icmp .eq 7, 3) := by decide +kernel
theorem dX10_scan_113 : decode cX10_scan 113 = .ok (.iconst 1, 1) := by decide +kernel
theorem dX10_scan_114 : decode cX10_scan 114 = .ok (.goto 4, 3) := by decide +kernel
theorem dX10_scan_117 : decode cX10_scan 117 = .ok (.iconst 0, 1) := by decide +kernel
theorem dX10_scan_118 : decode cX10_scan 118 = .ok (.istore_n 3, 1) := by decide +kernel
theorem dX10_scan_119 : decode cX10_scan 119 = .ok (.aload_n 0, 1) := by decide +kernel
theorem dX10_scan_120 : decode cX10_scan 120 = .ok (.dup, 1) := by decide +kernel
theorem dX10_scan_121 : decode cX10_scan 121 = .ok (.getfield 317, 3) := by decide +kernel
theorem dX10_scan_124 : decode cX10_scan 124 = .ok (.iconst 1, 1) := by decide +kernel
theorem dX10_scan_125 : decode cX10_scan 125 = .ok (.iadd, 1) := by decide +kernel
theorem dX10_scan_126 : decode cX10_scan 126 = .ok (.putfield 317, 3) := by decide +kernel
theorem dX10_scan_129 : decode cX10_scan 129 = .ok (.goto (-120), 3) := by decide +kernel
theorem dX10_scan_132 : decode cX10_scan 132 = .ok (.iconst 0, 1) := by decide +kernel
theorem dX10_scan_133 : decode cX10_scan 133 = .ok (.istore 4, 2) := by decide +kernel
theorem dX10_scan_135 : decode cX10_scan 135 = .ok (.iload 4, 2) := by decide +kernel
theorem dX10_scan_137 : decode cX10_scan 137 = .ok (.iconst 4, 1) := by decide +kernel
theorem dX10_scan_138 : decode cX10_scan 138 = .ok (.if_icmp .ge 23, 3) := by decide +kernel
theorem dX10_scan_141 : decode cX10_scan 141 = .ok (.aload_n 0, 1) := by decide +kernel
theorem dX10_scan_142 : decode cX10_scan 142 = .ok (.getfield 93, 3) := by decide +kernel
theorem dX10_scan_145 : decode cX10_scan 145 = .ok (.aload_n 0, 1) := by decide +kernel
theorem dX10_scan_146 : decode cX10_scan 146 = .ok (.getfield 317, 3) := by decide +kernel
theorem dX10_scan_149 : decode cX10_scan 149 = .ok (.iload 4, 2) := by decide +kernel
theorem dX10_scan_151 : decode cX10_scan 151 = .ok (.iadd, 1) := by decide +kernel
theorem dX10_scan_152 : decode cX10_scan 152 = .ok (.bipush 6, 2) := by decide +kernel
theorem dX10_scan_154 : decode cX10_scan 154 = .ok (.iastore, 1) := by decide +kernel
theorem dX10_scan_155 : decode cX10_scan 155 = .ok (.iinc 4 1, 3) := by decide +kernel
theorem dX10_scan_158 : decode cX10_scan 158 = .ok (.goto (-23), 3) := by decide +kernel
theorem dX10_scan_161 : decode cX10_scan 161 = .ok (.aload_n 0, 1) := by decide +kernel
theorem dX10_scan_162 : decode cX10_scan 162 = .ok (.iconst 0, 1) := by decide +kernel
theorem dX10_scan_163 : decode cX10_scan 163 = .ok (.putfield 324, 3) := by decide +kernel
theorem dX10_scan_166 : decode cX10_scan 166 = .ok (.return_, 1) := by decide +kernel
/-! AlgebraHouseModel.scan(I)V -/
def P_X10_scan_87 (Q : Int → MM → Prop) (K9 : Int → Int → Int → MM → Prop) (x1 : Int) (x2 : Int) (m : MM) : Prop := (0 ≤ (m 582 8) ∧ (m 582 8) < 420) ∧ ((RI (m 587 (m 582 8)))) ∧ ∀ m1 : MM, m1 = up m 582 8 ((m 582 8) + 1) → K9 x1 x2 (if (m 587 (m 582 8)) = 0 then 0 else (if (m 587 (m 582 8)) = 6 then 0 else 1 : Int) : Int) m1
def P_X10_scan_35 (Q : Int → MM → Prop) (K9 : Int → Int → Int → MM → Prop) (x1 : Int) (x2 : Int) (m : MM) : Prop := (0 ≤ (m 582 8) ∧ (m 582 8) < 420) ∧ ∀ m1 : MM, m1 = up m 588 (m 582 8) x2 → (0 ≤ (m1 582 8) ∧ (m1 582 8) < 420) ∧ ∀ m2 : MM, m2 = up m1 589 (m1 582 8) 0 → ((RI x2) ∧ (RI x1)) ∧ (0 ≤ (m2 582 8) ∧ (m2 582 8) < 420) ∧ ∀ m3 : MM, m3 = up m2 587 (m2 582 8) (if x2 = x1 then 0 else 6 : Int) → (RI x2) ∧ (RI x1) ∧ (if x1 ≤ x2 then P_X10_scan_87 Q K9 x1 x2 m3 else P_X10_token x2 x1 m3 (fun r1 m4 => P_X10_scan_87 Q K9 x1 r1 m4))
def P_X10_scan_13 (Q : Int → MM → Prop) (K9 : Int → Int → Int → MM → Prop) : Nat → Int → Int → MM → Prop
  | 0, _, _, _ => False
  | n + 1, x1, x2, m => (RI x2) ∧ (RI x1) ∧ (if x1 ≤ x2 then P_X10_scan_35 Q K9 x1 x2 m else (0 ≤ x2 ∧ x2 < 400) ∧ (RI (m 586 x2)) ∧ (if (m 586 x2) = 32 then P_X10_scan_13 Q K9 n x1 (x2 + 1) m else P_X10_scan_35 Q K9 x1 x2 m))
def P_X10_scan_135 (Q : Int → MM → Prop) : Nat → Int → MM → Prop
  | 0, _, _ => False
  | n + 1, x4, m => (RI x4) ∧ (if 4 ≤ x4 then ∀ m1 : MM, m1 = up m 582 9 0 → Q 0 m1 else (0 ≤ ((m 582 8) + x4) ∧ ((m 582 8) + x4) < 420) ∧ ∀ m2 : MM, m2 = up m 587 ((m 582 8) + x4) 6 → P_X10_scan_135 Q n (x4 + 1) m2)
def P_X10_scan_9 (Q : Int → MM → Prop) : Nat → Int → Int → Int → MM → Prop
  | 0, _, _, _, _ => False
  | n + 1, x1, x2, x3, m => (RI x3) ∧ (if x3 = 0 then ∃ nn, P_X10_scan_135 Q nn 0 m else ∃ nn, P_X10_scan_13 Q (fun z0 z1 z2 z3 => P_X10_scan_9 Q n z0 z1 z2 z3) nn x1 x2 m)
def P_X10_scan (x1 : Int) (m : MM) (Q : Int → MM → Prop) : Prop := ∀ m1 : MM, m1 = up m 582 8 0 → ∃ nn, P_X10_scan_9 Q nn x1 0 1 m1
theorem pl_X10_scan_87 {f : Nat} {Q : Int → MM → Prop} {T : MM → Prop} (hf : 4 ≤ f) {K9 : Int → Int → Int → MM → Prop} (hK9 : ∀ (x1 : Int) (x2 : Int) (x3 : Int) (m : MM), K9 x1 x2 x3 m → B f M_X10_scan 9 [vR 582, vI x1, vI x2, vI x3, vU] [] m Q T) : ∀ (x1 : Int) (x2 : Int) (m : MM), P_X10_scan_87 Q K9 x1 x2 m → B f M_X10_scan 87 [vR 582, vI x1, vI x2, vU, vU] [] m Q T := by
  intro x1 x2 m h
  have h : (0 ≤ (m 582 8) ∧ (m 582 8) < 420) ∧ ((RI (m 587 (m 582 8)))) ∧ ∀ m1 : MM, m1 = up m 582 8 ((m 582 8) + 1) → K9 x1 x2 (if (m 587 (m 582 8)) = 0 then 0 else (if (m 587 (m 582 8)) = 6 then 0 else 1 : Int) : Int) m1 := h
  refine b_aload_n dX10_scan_87 rfl ?_
  refine b_getR dX10_scan_88 fk_X10_93 ly_582 gg_582_5 ?_
  refine b_aload_n dX10_scan_91 rfl ?_
  refine b_getI dX10_scan_92 fk_X10_317 ly_582 ?_
  obtain ⟨g1, h⟩ := h
  refine b_iald dX10_scan_95 ly_587 g1 ?_
  obtain ⟨hs, h⟩ := h
  have K : B f M_X10_scan 118 [vR 582, vI x1, vI x2, vU, vU] [vI (if (m 587 (m 582 8)) = 0 then 0 else (if (m 587 (m 582 8)) = 6 then 0 else 1 : Int) : Int)] m Q T := by
    clear hs
    refine b_istore_n (ls' := [vR 582, vI x1, vI x2, vI (if (m 587 (m 582 8)) = 0 then 0 else (if (m 587 (m 582 8)) = 6 then 0 else 1 : Int) : Int), vU]) dX10_scan_118 (Nat.le_of_ble_eq_true rfl) rfl ?_
    refine b_aload_n dX10_scan_119 rfl ?_
    refine b_dup dX10_scan_120 rfl ?_
    refine b_getI dX10_scan_121 fk_X10_317 ly_582 ?_
    refine b_iconst dX10_scan_124 ?_
    refine b_iadd dX10_scan_125 ?_
    refine b_putI dX10_scan_126 fk_X10_317 ly_582 (fun m1 em1 => ?_)
    have h := h m1 em1
    refine b_goto 9 dX10_scan_129 (by decide) ?_
    exact hK9 _ _ _ _ h
  have g2 := hs
  refine b_if_eq 117 dX10_scan_96 g2 (by decide) (fun c1 => ?_) (fun c1 => ?_)
  ·
    refine b_iconst dX10_scan_117 ?_
    exact Eq.mp (congrArg (fun z => B f M_X10_scan 118 [vR 582, vI x1, vI x2, vU, vU] (vI z :: []) m Q T) (show (if (m 587 (m 582 8)) = 0 then 0 else (if (m 587 (m 582 8)) = 6 then 0 else 1 : Int) : Int) = 0 by rw [if_pos c1])) K
  ·
    refine b_aload_n dX10_scan_99 rfl ?_
    refine b_getR dX10_scan_100 fk_X10_93 ly_582 gg_582_5 ?_
    refine b_aload_n dX10_scan_103 rfl ?_
    refine b_getI dX10_scan_104 fk_X10_317 ly_582 ?_
    refine b_iald dX10_scan_107 ly_587 g1 ?_
    refine b_bipush dX10_scan_108 (by decide) ?_
    refine b_icmp_eq 117 dX10_scan_110 g2 (by decide) (by decide) (fun c2 => ?_) (fun c2 => ?_)
    ·
      refine b_iconst dX10_scan_117 ?_
      exact Eq.mp (congrArg (fun z => B f M_X10_scan 118 [vR 582, vI x1, vI x2, vU, vU] (vI z :: []) m Q T) (show (if (m 587 (m 582 8)) = 0 then 0 else (if (m 587 (m 582 8)) = 6 then 0 else 1 : Int) : Int) = 0 by rw [if_neg c1, if_pos c2])) K
    ·
      refine b_iconst dX10_scan_113 ?_
      refine b_goto 118 dX10_scan_114 (by decide) ?_
      exact Eq.mp (congrArg (fun z => B f M_X10_scan 118 [vR 582, vI x1, vI x2, vU, vU] (vI z :: []) m Q T) (show (if (m 587 (m 582 8)) = 0 then 0 else (if (m 587 (m 582 8)) = 6 then 0 else 1 : Int) : Int) = 1 by rw [if_neg c1, if_neg c2])) K
theorem pl_X10_scan_35 {f : Nat} {Q : Int → MM → Prop} {T : MM → Prop} (hf : 4 ≤ f) {K9 : Int → Int → Int → MM → Prop} (hK9 : ∀ (x1 : Int) (x2 : Int) (x3 : Int) (m : MM), K9 x1 x2 x3 m → B f M_X10_scan 9 [vR 582, vI x1, vI x2, vI x3, vU] [] m Q T) : ∀ (x1 : Int) (x2 : Int) (m : MM), P_X10_scan_35 Q K9 x1 x2 m → B f M_X10_scan 35 [vR 582, vI x1, vI x2, vU, vU] [] m Q T := by
  intro x1 x2 m h
  have h : (0 ≤ (m 582 8) ∧ (m 582 8) < 420) ∧ ∀ m1 : MM, m1 = up m 588 (m 582 8) x2 → (0 ≤ (m1 582 8) ∧ (m1 582 8) < 420) ∧ ∀ m2 : MM, m2 = up m1 589 (m1 582 8) 0 → ((RI x2) ∧ (RI x1)) ∧ (0 ≤ (m2 582 8) ∧ (m2 582 8) < 420) ∧ ∀ m3 : MM, m3 = up m2 587 (m2 582 8) (if x2 = x1 then 0 else 6 : Int) → (RI x2) ∧ (RI x1) ∧ (if x1 ≤ x2 then P_X10_scan_87 Q K9 x1 x2 m3 else P_X10_token x2 x1 m3 (fun r1 m4 => P_X10_scan_87 Q K9 x1 r1 m4)) := h
  refine b_aload_n dX10_scan_35 rfl ?_
  refine b_getR dX10_scan_36 fk_X10_96 ly_582 gg_582_6 ?_
  refine b_aload_n dX10_scan_39 rfl ?_
  refine b_getI dX10_scan_40 fk_X10_317 ly_582 ?_
  refine b_iload_n dX10_scan_43 rfl ?_
  obtain ⟨g1, h⟩ := h
  refine b_iast dX10_scan_44 ly_588 g1 (fun m1 em1 => ?_)
  have h := h m1 em1
  refine b_aload_n dX10_scan_45 rfl ?_
  refine b_getR dX10_scan_46 fk_X10_99 ly_582 gg_582_7 ?_
  refine b_aload_n dX10_scan_49 rfl ?_
  refine b_getI dX10_scan_50 fk_X10_317 ly_582 ?_
  refine b_lconst 0 dX10_scan_53 (by decide) ?_
  obtain ⟨g2, h⟩ := h
  refine b_last dX10_scan_54 ly_589 g2 (fun m2 em2 => ?_)
  have h := h m2 em2
  refine b_aload_n dX10_scan_55 rfl ?_
  refine b_getR dX10_scan_56 fk_X10_93 ly_582 gg_582_5 ?_
  refine b_aload_n dX10_scan_59 rfl ?_
  refine b_getI dX10_scan_60 fk_X10_317 ly_582 ?_
  refine b_iload_n dX10_scan_63 rfl ?_
  refine b_iload_n dX10_scan_64 rfl ?_
  obtain ⟨hs, h⟩ := h
  have K : B f M_X10_scan 74 [vR 582, vI x1, vI x2, vU, vU] [vI (if x2 = x1 then 0 else 6 : Int), vI (m2 582 8), vR 587] m2 Q T := by
    clear hs
    obtain ⟨g5, h⟩ := h
    refine b_iast dX10_scan_74 ly_587 g5 (fun m3 em3 => ?_)
    have h := h m3 em3
    refine b_iload_n dX10_scan_75 rfl ?_
    refine b_iload_n dX10_scan_76 rfl ?_
    obtain ⟨g6, h⟩ := h
    obtain ⟨g7, h⟩ := h
    refine b_icmp_ge 87 dX10_scan_77 g6 g7 (by decide) (fun c1 => ?_) (fun c1 => ?_)
    · have h := ifT c1 h
      exact pl_X10_scan_87 hf hK9 _ _ _ h
    · have h := ifF c1 h
      refine b_aload_n dX10_scan_80 rfl ?_
      refine b_iload_n dX10_scan_81 rfl ?_
      refine b_iload_n dX10_scan_82 rfl ?_
      refine b_cVi (as := [vI x2, vI x1]) (st := []) dX10_scan_83 mf_X10_token qs95 lk_X10_320 ly_582 rfl (p_X10_token (f := 3) (Nat.le_refl _) _ _ _ h) (by omega) rfl rfl (Nat.le_of_ble_eq_true rfl) (by decide) rfl (fun _ => rfl) (fun r1 m4 h => ?_) (fun _ h => h)
      refine b_istore_n (ls' := [vR 582, vI x1, vI r1, vU, vU]) dX10_scan_86 (Nat.le_of_ble_eq_true rfl) rfl ?_
      exact pl_X10_scan_87 hf hK9 _ _ _ h
  obtain ⟨g3, g4⟩ := hs
  refine b_icmp_ne 72 dX10_scan_65 g3 g4 (by decide) (fun c2 => ?_) (fun c2 => ?_)
  ·
    refine b_bipush dX10_scan_72 (by decide) ?_
    exact Eq.mp (congrArg (fun z => B f M_X10_scan 74 [vR 582, vI x1, vI x2, vU, vU] (vI z :: [vI (m2 582 8), vR 587]) m2 Q T) (show (if x2 = x1 then 0 else 6 : Int) = 6 by rw [if_neg c2])) K
  ·
    have c2 := Decidable.of_not_not c2
    refine b_iconst dX10_scan_68 ?_
    refine b_goto 74 dX10_scan_69 (by decide) ?_
    exact Eq.mp (congrArg (fun z => B f M_X10_scan 74 [vR 582, vI x1, vI x2, vU, vU] (vI z :: [vI (m2 582 8), vR 587]) m2 Q T) (show (if x2 = x1 then 0 else 6 : Int) = 0 by rw [if_pos c2])) K
theorem pl_X10_scan_13 {f : Nat} {Q : Int → MM → Prop} {T : MM → Prop} (hf : 4 ≤ f) {K9 : Int → Int → Int → MM → Prop} (hK9 : ∀ (x1 : Int) (x2 : Int) (x3 : Int) (m : MM), K9 x1 x2 x3 m → B f M_X10_scan 9 [vR 582, vI x1, vI x2, vI x3, vU] [] m Q T) : ∀ (n : Nat) (x1 : Int) (x2 : Int) (m : MM), P_X10_scan_13 Q K9 n x1 x2 m → B f M_X10_scan 13 [vR 582, vI x1, vI x2, vU, vU] [] m Q T := by
  intro n
  induction n with
  | zero => intro x1 x2 m h; exact h.elim
  | succ n ih =>
    intro x1 x2 m h
    have h : (RI x2) ∧ (RI x1) ∧ (if x1 ≤ x2 then P_X10_scan_35 Q K9 x1 x2 m else (0 ≤ x2 ∧ x2 < 400) ∧ (RI (m 586 x2)) ∧ (if (m 586 x2) = 32 then P_X10_scan_13 Q K9 n x1 (x2 + 1) m else P_X10_scan_35 Q K9 x1 x2 m)) := h
    refine b_iload_n dX10_scan_13 rfl ?_
    refine b_iload_n dX10_scan_14 rfl ?_
    obtain ⟨g1, h⟩ := h
    obtain ⟨g2, h⟩ := h
    refine b_icmp_ge 35 dX10_scan_15 g1 g2 (by decide) (fun c1 => ?_) (fun c1 => ?_)
    · have h := ifT c1 h
      exact pl_X10_scan_35 hf hK9 _ _ _ h
    · have h := ifF c1 h
      refine b_aload_n dX10_scan_18 rfl ?_
      refine b_getR dX10_scan_19 fk_X10_90 ly_582 gg_582_3 ?_
      refine b_iload_n dX10_scan_22 rfl ?_
      obtain ⟨g3, h⟩ := h
      refine b_iald dX10_scan_23 ly_586 g3 ?_
      refine b_bipush dX10_scan_24 (by decide) ?_
      obtain ⟨g4, h⟩ := h
      refine b_icmp_ne 35 dX10_scan_26 g4 (by decide) (by decide) (fun c2 => ?_) (fun c2 => ?_)
      · have h := ifF c2 h
        exact pl_X10_scan_35 hf hK9 _ _ _ h
      · have h := ifT (Decidable.of_not_not c2) h
        refine b_iinc (ls' := [vR 582, vI x1, vI (x2 + 1), vU, vU]) dX10_scan_29 rfl rfl ?_
        refine b_goto 13 dX10_scan_32 (by decide) ?_
        exact ih _ _ _ h
theorem pl_X10_scan_135 {f : Nat} {Q : Int → MM → Prop} {T : MM → Prop} (hf : 4 ≤ f) : ∀ (n : Nat) (x4 : Int) (m : MM), P_X10_scan_135 Q n x4 m → B f M_X10_scan 135 [vR 582, vU, vU, vU, vI x4] [] m Q T := by
  intro n
  induction n with
  | zero => intro x4 m h; exact h.elim
  | succ n ih =>
    intro x4 m h
    have h : (RI x4) ∧ (if 4 ≤ x4 then ∀ m1 : MM, m1 = up m 582 9 0 → Q 0 m1 else (0 ≤ ((m 582 8) + x4) ∧ ((m 582 8) + x4) < 420) ∧ ∀ m2 : MM, m2 = up m 587 ((m 582 8) + x4) 6 → P_X10_scan_135 Q n (x4 + 1) m2) := h
    refine b_iload dX10_scan_135 rfl ?_
    refine b_iconst dX10_scan_137 ?_
    obtain ⟨g1, h⟩ := h
    refine b_icmp_ge 161 dX10_scan_138 g1 (by decide) (by decide) (fun c1 => ?_) (fun c1 => ?_)
    · have h := ifT c1 h
      refine b_aload_n dX10_scan_161 rfl ?_
      refine b_iconst dX10_scan_162 ?_
      refine b_putI dX10_scan_163 fk_X10_324 ly_582 (fun m1 em1 => ?_)
      have h := h m1 em1
      exact b_vret dX10_scan_166 rfl h
    · have h := ifF c1 h
      refine b_aload_n dX10_scan_141 rfl ?_
      refine b_getR dX10_scan_142 fk_X10_93 ly_582 gg_582_5 ?_
      refine b_aload_n dX10_scan_145 rfl ?_
      refine b_getI dX10_scan_146 fk_X10_317 ly_582 ?_
      refine b_iload dX10_scan_149 rfl ?_
      refine b_iadd dX10_scan_151 ?_
      refine b_bipush dX10_scan_152 (by decide) ?_
      obtain ⟨g2, h⟩ := h
      refine b_iast dX10_scan_154 ly_587 g2 (fun m2 em2 => ?_)
      have h := h m2 em2
      refine b_iinc (ls' := [vR 582, vU, vU, vU, vI (x4 + 1)]) dX10_scan_155 rfl rfl ?_
      refine b_goto 135 dX10_scan_158 (by decide) ?_
      exact ih _ _ h
theorem pl_X10_scan_9 {f : Nat} {Q : Int → MM → Prop} {T : MM → Prop} (hf : 4 ≤ f) : ∀ (n : Nat) (x1 : Int) (x2 : Int) (x3 : Int) (m : MM), P_X10_scan_9 Q n x1 x2 x3 m → B f M_X10_scan 9 [vR 582, vI x1, vI x2, vI x3, vU] [] m Q T := by
  intro n
  induction n with
  | zero => intro x1 x2 x3 m h; exact h.elim
  | succ n ih =>
    intro x1 x2 x3 m h
    have h : (RI x3) ∧ (if x3 = 0 then ∃ nn, P_X10_scan_135 Q nn 0 m else ∃ nn, P_X10_scan_13 Q (fun z0 z1 z2 z3 => P_X10_scan_9 Q n z0 z1 z2 z3) nn x1 x2 m) := h
    refine b_iload_n dX10_scan_9 rfl ?_
    obtain ⟨g1, h⟩ := h
    refine b_if_eq 132 dX10_scan_10 g1 (by decide) (fun c1 => ?_) (fun c1 => ?_)
    · have h := ifT c1 h
      refine b_iconst dX10_scan_132 ?_
      refine b_istore (ls' := [vR 582, vI x1, vI x2, vI x3, vI 0]) dX10_scan_133 (Nat.le_of_ble_eq_true rfl) rfl ?_
      refine b_fgt [true, false, false, false, true] (ls' := [vR 582, vU, vU, vU, vI 0]) rfl rfl ?_
      obtain ⟨nn, h⟩ := h
      exact pl_X10_scan_135 hf nn _ _ h
    · have h := ifF c1 h
      refine b_fgt [true, true, true, false, false] (ls' := [vR 582, vI x1, vI x2, vU, vU]) rfl rfl ?_
      obtain ⟨nn, h⟩ := h
      exact pl_X10_scan_13 hf (fun _ _ _ _ h => ih _ _ _ _ h) nn _ _ _ h
theorem p_X10_scan {f : Nat} {Q : Int → MM → Prop} {T : MM → Prop} (hf : 4 ≤ f) (x1 : Int) (m : MM) (h : P_X10_scan x1 m Q) : CC f M_X10_scan [vR 582, vI x1] m Q T := by
  refine CC.of (plainFor_of_name (by decide)) (Nat.le_of_ble_eq_true rfl) (ls := [vR 582, vI x1, vU, vU, vU]) rfl ?_
  have h : ∀ m1 : MM, m1 = up m 582 8 0 → ∃ nn, P_X10_scan_9 Q nn x1 0 1 m1 := h
  refine b_aload_n dX10_scan_0 rfl ?_
  refine b_iconst dX10_scan_1 ?_
  refine b_putI dX10_scan_2 fk_X10_317 ly_582 (fun m1 em1 => ?_)
  have h := h m1 em1
  refine b_iconst dX10_scan_5 ?_
  refine b_istore_n (ls' := [vR 582, vI x1, vI 0, vU, vU]) dX10_scan_6 (Nat.le_of_ble_eq_true rfl) rfl ?_
  refine b_iconst dX10_scan_7 ?_
  refine b_istore_n (ls' := [vR 582, vI x1, vI 0, vI 1, vU]) dX10_scan_8 (Nat.le_of_ble_eq_true rfl) rfl ?_
  obtain ⟨nn, h⟩ := h
  exact pl_X10_scan_9 hf nn _ _ _ _ h
theorem dX10_line_0 : decode cX10_line 0 = .ok (.iload_n 1, 1) := by decide +kernel
theorem dX10_line_1 : decode cX10_line 1 = .ok (.ifCond .lt 11, 3) := by decide +kernel
theorem dX10_line_4 : decode cX10_line 4 = .ok (.iload_n 1, 1) := by decide +kernel
theorem dX10_line_5 : decode cX10_line 5 = .ok (.aload_n 0, 1) := by decide +kernel
theorem dX10_line_6 : decode cX10_line 6 = .ok (.getfield 310, 3) := by decide +kernel
theorem dX10_line_9 : decode cX10_line 9 = .ok (.if_icmp .le 6, 3) := by decide +kernel
theorem dX10_line_12 : decode cX10_line 12 = .ok (.bipush (-100), 2) := by decide +kernel
theorem dX10_line_14 : decode cX10_line 14 = .ok (.ireturn, 1) := by decide +kernel
theorem dX10_line_15 : decode cX10_line 15 = .ok (.iconst 0, 1) := by decide +kernel
theorem dX10_line_16 : decode cX10_line 16 = .ok (.istore_n 2, 1) := by decide +kernel
theorem dX10_line_17 : decode cX10_line 17 = .ok (.iload_n 2, 1) := by decide +kernel
theorem dX10_line_18 : decode cX10_line 18 = .ok (.iload_n 1, 1) := by decide +kernel
theorem dX10_line_19 : decode cX10_line 19 = .ok (.if_icmp .ge 21, 3) := by decide +kernel
theorem dX10_line_22 : decode cX10_line 22 = .ok (.aload_n 0, 1) := by decide +kernel
theorem dX10_line_23 : decode cX10_line 23 = .ok (.getfield 90, 3) := by decide +kernel
theorem dX10_line_26 : decode cX10_line 26 = .ok (.iload_n 2, 1) := by decide +kernel
theorem dX10_line_27 : decode cX10_line 27 = .ok (.aload_n 0, 1) := by decide +kernel
theorem dX10_line_28 : decode cX10_line 28 = .ok (.getfield 86, 3) := by decide +kernel
theorem dX10_line_31 : decode cX10_line 31 = .ok (.iload_n 2, 1) := by decide +kernel
theorem dX10_line_32 : decode cX10_line 32 = .ok (.iaload, 1) := by decide +kernel
theorem dX10_line_33 : decode cX10_line 33 = .ok (.iastore, 1) := by decide +kernel
theorem dX10_line_34 : decode cX10_line 34 = .ok (.iinc 2 1, 3) := by decide +kernel
theorem dX10_line_37 : decode cX10_line 37 = .ok (.goto (-20), 3) := by decide +kernel
theorem dX10_line_40 : decode cX10_line 40 = .ok (.aload_n 0, 1) := by decide +kernel
theorem dX10_line_41 : decode cX10_line 41 = .ok (.iconst 0, 1) := by decide +kernel
theorem dX10_line_42 : decode cX10_line 42 = .ok (.putfield 310, 3) := by decide +kernel
theorem dX10_line_45 : decode cX10_line 45 = .ok (.aload_n 0, 1) := by decide +kernel
theorem dX10_line_46 : decode cX10_line 46 = .ok (.iload_n 1, 1) := by decide +kernel
theorem dX10_line_47 : decode cX10_line 47 = .ok (.invokevirtual 896, 3) := by decide +kernel
theorem dX10_line_50 : decode cX10_line 50 = .ok (.aload_n 0, 1) := by decide +kernel
theorem dX10_line_51 : decode cX10_line 51 = .ok (.iconst 0, 1) := by decide +kernel
theorem dX10_line_52 : decode cX10_line 52 = .ok (.putfield 347, 3) := by decide +kernel
theorem dX10_line_55 : decode cX10_line 55 = .ok (.aload_n 0, 1) := by decide +kernel
theorem dX10_line_56 : decode cX10_line 56 = .ok (.iconst (-1), 1) := by decide +kernel
theorem dX10_line_57 : decode cX10_line 57 = .ok (.putfield 102, 3) := by decide +kernel
theorem dX10_line_60 : decode cX10_line 60 = .ok (.aload_n 0, 1) := by decide +kernel
theorem dX10_line_61 : decode cX10_line 61 = .ok (.iconst 0, 1) := by decide +kernel
theorem dX10_line_62 : decode cX10_line 62 = .ok (.putfield 369, 3) := by decide +kernel
theorem dX10_line_65 : decode cX10_line 65 = .ok (.aload_n 0, 1) := by decide +kernel
theorem dX10_line_66 : decode cX10_line 66 = .ok (.iconst 0, 1) := by decide +kernel
theorem dX10_line_67 : decode cX10_line 67 = .ok (.putfield 353, 3) := by decide +kernel
theorem dX10_line_70 : decode cX10_line 70 = .ok (.aload_n 0, 1) := by decide +kernel
theorem dX10_line_71 : decode cX10_line 71 = .ok (.iconst (-1), 1) := by decide +kernel
theorem dX10_line_72 : decode cX10_line 72 = .ok (.putfield 350, 3) := by decide +kernel
theorem dX10_line_75 : decode cX10_line 75 = .ok (.aload_n 0, 1) := by decide +kernel
theorem dX10_line_76 : decode cX10_line 76 = .ok (.iconst 0, 1) := by decide +kernel
theorem dX10_line_77 : decode cX10_line 77 = .ok (.putfield 601, 3) := by decide +kernel
theorem dX10_line_80 : decode cX10_line 80 = .ok (.aload_n 0, 1) := by decide +kernel
theorem dX10_line_81 : decode cX10_line 81 = .ok (.iconst 0, 1) := by decide +kernel
theorem dX10_line_82 : decode cX10_line 82 = .ok (.putfield 704, 3) := by decide +kernel
theorem dX10_line_85 : decode cX10_line 85 = .ok (.aload_n 0, 1) := by decide +kernel
theorem dX10_line_86 : decode cX10_line 86 = .ok (.iconst 0, 1) := by decide +kernel
theorem dX10_line_87 : decode cX10_line 87 = .ok (.putfield 814, 3) := by decide +kernel
theorem dX10_line_90 : decode cX10_line 90 = .ok (.aload_n 0, 1) := by decide +kernel
theorem dX10_line_91 : decode cX10_line 91 = .ok (.iconst 0, 1) := by decide +kernel
theorem dX10_line_92 : decode cX10_line 92 = .ok (.putfield 817, 3) := by decide +kernel
theorem dX10_line_95 : decode cX10_line 95 = .ok (.aload_n 0, 1) := by decide +kernel
theorem dX10_line_96 : decode cX10_line 96 = .ok (.iconst (-1), 1) := by decide +kernel
theorem dX10_line_97 : decode cX10_line 97 = .ok (.putfield 301, 3) := by decide +kernel
theorem dX10_line_100 : decode cX10_line 100 = .ok (.aload_n 0, 1) := by decide +kernel
theorem dX10_line_101 : decode cX10_line 101 = .ok (.iconst 0, 1) := by decide +kernel
theorem dX10_line_102 : decode cX10_line 102 = .ok (.putfield 460, 3) := by decide +kernel
theorem dX10_line_105 : decode cX10_line 105 = .ok (.aload_n 0, 1) := by decide +kernel
theorem dX10_line_106 : decode cX10_line 106 = .ok (.iconst 0, 1) := by decide +kernel
theorem dX10_line_107 : decode cX10_line 107 = .ok (.putfield 718, 3) := by decide +kernel
theorem dX10_line_110 : decode cX10_line 110 = .ok (.aload_n 0, 1) := by decide +kernel
theorem dX10_line_111 : decode cX10_line 111 = .ok (.iconst (-1), 1) := by decide +kernel
theorem dX10_line_112 : decode cX10_line 112 = .ok (.putfield 231, 3) := by decide +kernel
theorem dX10_line_115 : decode cX10_line 115 = .ok (.aload_n 0, 1) := by decide +kernel
theorem dX10_line_116 : decode cX10_line 116 = .ok (.bipush (-9), 2) := by decide +kernel
theorem dX10_line_118 : decode cX10_line 118 = .ok (.putfield 234, 3) := by decide +kernel
theorem dX10_line_121 : decode cX10_line 121 = .ok (.aload_n 0, 1) := by decide +kernel
theorem dX10_line_122 : decode cX10_line 122 = .ok (.getfield 378, 3) := by decide +kernel
theorem dX10_line_125 : decode cX10_line 125 = .ok (.istore_n 2, 1) := by decide +kernel
theorem dX10_line_126 : decode cX10_line 126 = .ok (.aload_n 0, 1) := by decide +kernel
theorem dX10_line_127 : decode cX10_line 127 = .ok (.aload_n 0, 1) := by decide +kernel
theorem dX10_line_128 : decode cX10_line 128 = .ok (.getfield 93, 3) := by decide +kernel
theorem dX10_line_131 : decode cX10_line 131 = .ok (.iconst 0, 1) := by decide +kernel
theorem dX10_line_132 : decode cX10_line 132 = .ok (.iaload, 1) := by decide +kernel
theorem dX10_line_133 : decode cX10_line 133 = .ok (.iconst 1, 1) := by decide +kernel
theorem dX10_line_134 : decode cX10_line 134 = .ok (.if_icmp .ne 63, 3) := by decide +kernel
theorem dX10_line_137 : decode cX10_line 137 = .ok (.aload_n 0, 1) := by decide +kernel
theorem dX10_line_138 : decode cX10_line 138 = .ok (.getfield 93, 3) := by decide +kernel
theorem dX10_line_141 : decode cX10_line 141 = .ok (.iconst 1, 1) := by decide +kernel
theorem dX10_line_142 : decode cX10_line 142 = .ok (.iaload, 1) := by decide +kernel
theorem dX10_line_143 : decode cX10_line 143 = .ok (.iconst 5, 1) := by decide +kernel
theorem dX10_line_144 : decode cX10_line 144 = .ok (.if_icmp .ne 53, 3) := by decide +kernel
theorem dX10_line_147 : decode cX10_line 147 = .ok (.aload_n 0, 1) := by decide +kernel
theorem dX10_line_148 : decode cX10_line 148 = .ok (.getfield 99, 3) := by decide +kernel
theorem dX10_line_151 : decode cX10_line 151 = .ok (.iconst 1, 1) := by decide +kernel
theorem dX10_line_152 : decode cX10_line 152 = .ok (.laload, 1) := by decide +kernel
theorem dX10_line_153 : decode cX10_line 153 = .ok (.ldc2_w 899, 3) := by decide +kernel
theorem dX10_line_156 : decode cX10_line 156 = .ok (.lcmp, 1) := by decide +kernel
theorem dX10_line_157 : decode cX10_line 157 = .ok (.ifCond .ne 40, 3) := by decide +kernel
theorem dX10_line_160 : decode cX10_line 160 = .ok (.aload_n 0, 1) := by decide +kernel
theorem dX10_line_161 : decode cX10_line 161 = .ok (.getfield 93, 3) := by decide +kernel
theorem dX10_line_164 : decode cX10_line 164 = .ok (.iconst 2, 1) := by decide +kernel
theorem dX10_line_165 : decode cX10_line 165 = .ok (.iaload, 1) := by decide +kernel
theorem dX10_line_166 : decode cX10_line 166 = .ok (.iconst 1, 1) := by decide +kernel
theorem dX10_line_167 : decode cX10_line 167 = .ok (.if_icmp .ne 30, 3) := by decide +kernel
theorem dX10_line_170 : decode cX10_line 170 = .ok (.aload_n 0, 1) := by decide +kernel
theorem dX10_line_171 : decode cX10_line 171 = .ok (.getfield 93, 3) := by decide +kernel
theorem dX10_line_174 : decode cX10_line 174 = .ok (.iconst 3, 1) := by decide +kernel
theorem dX10_line_175 : decode cX10_line 175 = .ok (.iaload, 1) := by decide +kernel
theorem dX10_line_176 : decode cX10_line 176 = .ok (.iconst 5, 1) := by decide +kernel
theorem dX10_line_177 : decode cX10_line 177 = .ok (.if_icmp .ne 20, 3) := by decide +kernel
theorem dX10_line_180 : decode cX10_line 180 = .ok (.aload_n 0, 1) := by decide +kernel
theorem dX10_line_181 : decode cX10_line 181 = .ok (.getfield 99, 3) := by decide +kernel
theorem dX10_line_184 : decode cX10_line 184 = .ok (.iconst 3, 1) := by decide +kernel
theorem dX10_line_185 : decode cX10_line 185 = .ok (.laload, 1) := by decide +kernel
theorem dX10_line_186 : decode cX10_line 186 = .ok (.ldc2_w 901, 3) := by decide +kernel
theorem dX10_line_189 : decode cX10_line 189 = .ok (.lcmp, 1) := by decide +kernel
theorem dX10_line_190 : decode cX10_line 190 = .ok (.ifCond .ne 7, 3) := by decide +kernel
theorem dX10_line_193 : decode cX10_line 193 = .ok (.iconst 1, 1) := by decide +kernel
theorem dX10_line_194 : decode cX10_line 194 = .ok (.goto 4, 3) := by decide +kernel
theorem dX10_line_197 : decode cX10_line 197 = .ok (.iconst 0, 1) := by decide +kernel
theorem dX10_line_198 : decode cX10_line 198 = .ok (.putfield 903, 3) := by decide +kernel
theorem dX10_line_201 : decode cX10_line 201 = .ok (.aload_n 0, 1) := by decide +kernel
theorem dX10_line_202 : decode cX10_line 202 = .ok (.getfield 93, 3) := by decide +kernel
theorem dX10_line_205 : decode cX10_line 205 = .ok (.iconst 0, 1) := by decide +kernel
theorem dX10_line_206 : decode cX10_line 206 = .ok (.iaload, 1) := by decide +kernel
theorem dX10_line_207 : decode cX10_line 207 = .ok (.iconst 1, 1) := by decide +kernel
theorem dX10_line_208 : decode cX10_line 208 = .ok (.if_icmp .ne 30, 3) := by decide +kernel
theorem dX10_line_211 : decode cX10_line 211 = .ok (.aload_n 0, 1) := by decide +kernel
theorem dX10_line_212 : decode cX10_line 212 = .ok (.getfield 93, 3) := by decide +kernel
theorem dX10_line_215 : decode cX10_line 215 = .ok (.iconst 1, 1) := by decide +kernel
theorem dX10_line_216 : decode cX10_line 216 = .ok (.iaload, 1) := by decide +kernel
theorem dX10_line_217 : decode cX10_line 217 = .ok (.iconst 5, 1) := by decide +kernel
theorem dX10_line_218 : decode cX10_line 218 = .ok (.if_icmp .ne 20, 3) := by decide +kernel
theorem dX10_line_221 : decode cX10_line 221 = .ok (.aload_n 0, 1) := by decide +kernel
theorem dX10_line_222 : decode cX10_line 222 = .ok (.getfield 99, 3) := by decide +kernel
theorem dX10_line_225 : decode cX10_line 225 = .ok (.iconst 1, 1) := by decide +kernel
theorem dX10_line_226 : decode cX10_line 226 = .ok (.laload, 1) := by decide +kernel
theorem dX10_line_227 : decode cX10_line 227 = .ok (.ldc2_w 907, 3) := by decide +kernel
theorem dX10_line_230 : decode cX10_line 230 = .ok (.lcmp, 1) := by decide +kernel
theorem dX10_line_231 : decode cX10_line 231 = .ok (.ifCond .ne 7, 3) := by decide +kernel
theorem dX10_line_234 : decode cX10_line 234 = .ok (.iconst 1, 1) := by decide +kernel
theorem dX10_line_235 : decode cX10_line 235 = .ok (.goto 4, 3) := by decide +kernel
theorem dX10_line_238 : decode cX10_line 238 = .ok (.iconst 0, 1) := by decide +kernel
theorem dX10_line_239 : decode cX10_line 239 = .ok (.istore_n 3, 1) := by decide +kernel
theorem dX10_line_240 : decode cX10_line 240 = .ok (.aload_n 0, 1) := by decide +kernel
theorem dX10_line_241 : decode cX10_line 241 = .ok (.getfield 903, 3) := by decide +kernel
theorem dX10_line_244 : decode cX10_line 244 = .ok (.ifCond .eq 10, 3) := by decide +kernel
theorem dX10_line_247 : decode cX10_line 247 = .ok (.aload_n 0, 1) := by decide +kernel
theorem dX10_line_248 : decode cX10_line 248 = .ok (.invokevirtual 909, 3) := by decide +kernel
theorem dX10_line_251 : decode cX10_line 251 = .ok (.goto 8, 3) := by decide +kernel
theorem dX10_line_254 : decode cX10_line 254 = .ok (.aload_n 0, 1) := by decide +kernel
theorem dX10_line_255 : decode cX10_line 255 = .ok (.iload_n 3, 1) := by decide +kernel
theorem dX10_line_256 : decode cX10_line 256 = .ok (.invokevirtual 912, 3) := by decide +kernel
theorem dX10_line_259 : decode cX10_line 259 = .ok (.istore 4, 2) := by decide +kernel
theorem dX10_line_261 : decode cX10_line 261 = .ok (.aload_n 0, 1) := by decide +kernel
theorem dX10_line_262 : decode cX10_line 262 = .ok (.getfield 347, 3) := by decide +kernel
theorem dX10_line_265 : decode cX10_line 265 = .ok (.ifCond .ne 20, 3) := by decide +kernel
theorem dX10_line_268 : decode cX10_line 268 = .ok (.aload_n 0, 1) := by decide +kernel
theorem dX10_line_269 : decode cX10_line 269 = .ok (.getfield 93, 3) := by decide +kernel
theorem dX10_line_272 : decode cX10_line 272 = .ok (.aload_n 0, 1) := by decide +kernel
theorem dX10_line_273 : decode cX10_line 273 = .ok (.getfield 324, 3) := by decide +kernel
theorem dX10_line_276 : decode cX10_line 276 = .ok (.iaload, 1) := by decide +kernel
theorem dX10_line_277 : decode cX10_line 277 = .ok (.ifCond .eq 8, 3) := by decide +kernel
theorem dX10_line_280 : decode cX10_line 280 = .ok (.aload_n 0, 1) := by decide +kernel
theorem dX10_line_281 : decode cX10_line 281 = .ok (.iconst 1, 1) := by decide +kernel
theorem dX10_line_282 : decode cX10_line 282 = .ok (.invokevirtual 356, 3) := by decide +kernel
theorem dX10_line_285 : decode cX10_line 285 = .ok (.aload_n 0, 1) := by decide +kernel
theorem dX10_line_286 : decode cX10_line 286 = .ok (.getfield 347, 3) := by decide +kernel
theorem dX10_line_289 : decode cX10_line 289 = .ok (.ifCond .ne 25, 3) := by decide +kernel
theorem dX10_line_292 : decode cX10_line 292 = .ok (.aload_n 0, 1) := by decide +kernel
theorem dX10_line_293 : decode cX10_line 293 = .ok (.getfield 903, 3) := by decide +kernel
theorem dX10_line_296 : decode cX10_line 296 = .ok (.ifCond .eq 12, 3) := by decide +kernel
theorem dX10_line_299 : decode cX10_line 299 = .ok (.aload_n 0, 1) := by decide +kernel
theorem dX10_line_300 : decode cX10_line 300 = .ok (.iload 4, 2) := by decide +kernel
theorem dX10_line_302 : decode cX10_line 302 = .ok (.invokevirtual 916, 3) := by decide +kernel
theorem dX10_line_305 : decode cX10_line 305 = .ok (.goto 9, 3) := by decide +kernel
theorem dX10_line_308 : decode cX10_line 308 = .ok (.aload_n 0, 1) := by decide +kernel
theorem dX10_line_309 : decode cX10_line 309 = .ok (.iload 4, 2) := by decide +kernel
theorem dX10_line_311 : decode cX10_line 311 = .ok (.invokevirtual 476, 3) := by decide +kernel
theorem dX10_line_314 : decode cX10_line 314 = .ok (.aload_n 0, 1) := by decide +kernel
theorem dX10_line_315 : decode cX10_line 315 = .ok (.getfield 347, 3) := by decide +kernel
theorem dX10_line_318 : decode cX10_line 318 = .ok (.ifCond .ne 26, 3) := by decide +kernel
theorem dX10_line_321 : decode cX10_line 321 = .ok (.aload_n 0, 1) := by decide +kernel
theorem dX10_line_322 : decode cX10_line 322 = .ok (.getfield 353, 3) := by decide +kernel
theorem dX10_line_325 : decode cX10_line 325 = .ok (.ifCond .le 19, 3) := by decide +kernel
theorem dX10_line_328 : decode cX10_line 328 = .ok (.aload_n 0, 1) := by decide +kernel
theorem dX10_line_329 : decode cX10_line 329 = .ok (.aload_n 0, 1) := by decide +kernel
theorem dX10_line_330 : decode cX10_line 330 = .ok (.getfield 353, 3) := by decide +kernel
theorem dX10_line_333 : decode cX10_line 333 = .ok (.putfield 347, 3) := by decide +kernel
theorem dX10_line_336 : decode cX10_line 336 = .ok (.aload_n 0, 1) := by decide +kernel
theorem dX10_line_337 : decode cX10_line 337 = .ok (.aload_n 0, 1) := by decide +kernel
theorem dX10_line_338 : decode cX10_line 338 = .ok (.getfield 350, 3) := by decide +kernel
theorem dX10_line_341 : decode cX10_line 341 = .ok (.putfield 102, 3) := by decide +kernel
theorem dX10_line_344 : decode cX10_line 344 = .ok (.iload_n 3, 1) := by decide +kernel
theorem dX10_line_345 : decode cX10_line 345 = .ok (.ifCond .eq 23, 3) := by decide +kernel
theorem dX10_line_348 : decode cX10_line 348 = .ok (.aload_n 0, 1) := by decide +kernel
theorem dX10_line_349 : decode cX10_line 349 = .ok (.getfield 347, 3) := by decide +kernel
theorem dX10_line_352 : decode cX10_line 352 = .ok (.ifCond .ne 16, 3) := by decide +kernel
theorem dX10_line_355 : decode cX10_line 355 = .ok (.aload_n 0, 1) := by decide +kernel
theorem dX10_line_356 : decode cX10_line 356 = .ok (.aload_n 0, 1) := by decide +kernel
theorem dX10_line_357 : decode cX10_line 357 = .ok (.getfield 99, 3) := by decide +kernel
theorem dX10_line_360 : decode cX10_line 360 = .ok (.iconst 0, 1) := by decide +kernel
theorem dX10_line_361 : decode cX10_line 361 = .ok (.laload, 1) := by decide +kernel
theorem dX10_line_362 : decode cX10_line 362 = .ok (.invokevirtual 551, 3) := by decide +kernel
theorem dX10_line_365 : decode cX10_line 365 = .ok (.goto 4, 3) := by decide +kernel
theorem dX10_line_368 : decode cX10_line 368 = .ok (.iconst (-1), 1) := by decide +kernel
theorem dX10_line_369 : decode cX10_line 369 = .ok (.istore 5, 2) := by decide +kernel
theorem dX10_line_371 : decode cX10_line 371 = .ok (.aload_n 0, 1) := by decide +kernel
theorem dX10_line_372 : decode cX10_line 372 = .ok (.getfield 347, 3) := by decide +kernel
theorem dX10_line_375 : decode cX10_line 375 = .ok (.ifCond .ne 61, 3) := by decide +kernel
theorem dX10_line_378 : decode cX10_line 378 = .ok (.aload_n 0, 1) := by decide +kernel
theorem dX10_line_379 : decode cX10_line 379 = .ok (.getfield 903, 3) := by decide +kernel
theorem dX10_line_382 : decode cX10_line 382 = .ok (.ifCond .eq 15, 3) := by decide +kernel
theorem dX10_line_385 : decode cX10_line 385 = .ok (.aload_n 0, 1) := by decide +kernel
theorem dX10_line_386 : decode cX10_line 386 = .ok (.getfield 591, 3) := by decide +kernel
theorem dX10_line_389 : decode cX10_line 389 = .ok (.bipush 20, 2) := by decide +kernel
theorem dX10_line_391 : decode cX10_line 391 = .ok (.if_icmp .ne 45, 3) := by decide +kernel
theorem dX10_line_394 : decode cX10_line 394 = .ok (.goto 31, 3) := by decide +kernel
theorem dX10_line_397 : decode cX10_line 397 = .ok (.aload_n 0, 1) := by decide +kernel
theorem dX10_line_398 : decode cX10_line 398 = .ok (.getfield 523, 3) := by decide +kernel
theorem dX10_line_401 : decode cX10_line 401 = .ok (.sipush 200, 3) := by decide +kernel
theorem dX10_line_404 : decode cX10_line 404 = .ok (.if_icmp .eq 21, 3) := by decide +kernel
theorem dX10_line_407 : decode cX10_line 407 = .ok (.iload_n 3, 1) := by decide +kernel
theorem dX10_line_408 : decode cX10_line 408 = .ok (.ifCond .eq 28, 3) := by decide +kernel
theorem dX10_line_411 : decode cX10_line 411 = .ok (.iload 5, 2) := by decide +kernel
theorem dX10_line_413 : decode cX10_line 413 = .ok (.ifCond .ge 23, 3) := by decide +kernel
theorem dX10_line_416 : decode cX10_line 416 = .ok (.aload_n 0, 1) := by decide +kernel
theorem dX10_line_417 : decode cX10_line 417 = .ok (.getfield 554, 3) := by decide +kernel
theorem dX10_line_420 : decode cX10_line 420 = .ok (.bipush 20, 2) := by decide +kernel
theorem dX10_line_422 : decode cX10_line 422 = .ok (.if_icmp .ne 14, 3) := by decide +kernel
theorem dX10_line_425 : decode cX10_line 425 = .ok (.aload_n 0, 1) := by decide +kernel
theorem dX10_line_426 : decode cX10_line 426 = .ok (.bipush 6, 2) := by decide +kernel
theorem dX10_line_428 : decode cX10_line 428 = .ok (.putfield 347, 3) := by decide +kernel
theorem dX10_line_431 : decode cX10_line 431 = .ok (.aload_n 0, 1) := by decide +kernel
theorem dX10_line_432 : decode cX10_line 432 = .ok (.iconst 0, 1) := by decide +kernel
theorem dX10_line_433 : decode cX10_line 433 = .ok (.putfield 102, 3) := by decide +kernel
theorem dX10_line_436 : decode cX10_line 436 = .ok (.aload_n 0, 1) := by decide +kernel
theorem dX10_line_437 : decode cX10_line 437 = .ok (.getfield 347, 3) := by decide +kernel
theorem dX10_line_440 : decode cX10_line 440 = .ok (.ifCond .ne 33, 3) := by decide +kernel
theorem dX10_line_443 : decode cX10_line 443 = .ok (.aload_n 0, 1) := by decide +kernel
theorem dX10_line_444 : decode cX10_line 444 = .ok (.getfield 903, 3) := by decide +kernel
theorem dX10_line_447 : decode cX10_line 447 = .ok (.ifCond .eq 26, 3) := by decide +kernel
theorem dX10_line_450 : decode cX10_line 450 = .ok (.aload_n 0, 1) := by decide +kernel
theorem dX10_line_451 : decode cX10_line 451 = .ok (.getfield 167, 3) := by decide +kernel
theorem dX10_line_454 : decode cX10_line 454 = .ok (.aload_n 0, 1) := by decide +kernel
theorem dX10_line_455 : decode cX10_line 455 = .ok (.getfield 591, 3) := by decide +kernel
theorem dX10_line_458 : decode cX10_line 458 = .ok (.iload 4, 2) := by decide +kernel
theorem dX10_line_460 : decode cX10_line 460 = .ok (.iastore, 1) := by decide +kernel
theorem dX10_line_461 : decode cX10_line 461 = .ok (.aload_n 0, 1) := by decide +kernel
theorem dX10_line_462 : decode cX10_line 462 = .ok (.dup, 1) := by decide +kernel
theorem dX10_line_463 : decode cX10_line 463 = .ok (.getfield 591, 3) := by decide +kernel
theorem dX10_line_466 : decode cX10_line 466 = .ok (.iconst 1, 1) := by decide +kernel
theorem dX10_line_467 : decode cX10_line 467 = .ok (.iadd, 1) := by decide +kernel
theorem dX10_line_468 : decode cX10_line 468 = .ok (.putfield 591, 3) := by decide +kernel
theorem dX10_line_471 : decode cX10_line 471 = .ok (.iconst 2, 1) := by decide +kernel
theorem dX10_line_472 : decode cX10_line 472 = .ok (.ireturn, 1) := by decide +kernel
theorem dX10_line_473 : decode cX10_line 473 = .ok (.aload_n 0, 1) := by decide +kernel
theorem dX10_line_474 : decode cX10_line 474 = .ok (.getfield 347, 3) := by decide +kernel
theorem dX10_line_477 : decode cX10_line 477 = .ok (.ifCond .le 10, 3) := by decide +kernel
theorem dX10_line_480 : decode cX10_line 480 = .ok (.aload_n 0, 1) := by decide +kernel
theorem dX10_line_481 : decode cX10_line 481 = .ok (.iload_n 2, 1) := by decide +kernel
theorem dX10_line_482 : decode cX10_line 482 = .ok (.putfield 378, 3) := by decide +kernel
theorem dX10_line_485 : decode cX10_line 485 = .ok (.iconst 0, 1) := by decide +kernel
theorem dX10_line_486 : decode cX10_line 486 = .ok (.ireturn, 1) := by decide +kernel
theorem dX10_line_487 : decode cX10_line 487 = .ok (.aload_n 0, 1) := by decide +kernel
theorem dX10_line_488 : decode cX10_line 488 = .ok (.iconst (-1), 1) := by decide +kernel
theorem dX10_line_489 : decode cX10_line 489 = .ok (.putfield 231, 3) := by decide +kernel
theorem dX10_line_492 : decode cX10_line 492 = .ok (.aload_n 0, 1) := by decide +kernel
theorem dX10_line_493 : decode cX10_line 493 = .ok (.bipush (-9), 2) := by decide +kernel
theorem dX10_line_495 : decode cX10_line 495 = .ok (.putfield 234, 3) := by decide +kernel
theorem dX10_line_498 : decode cX10_line 498 = .ok (.aload_n 0, 1) := by decide +kernel
theorem dX10_line_499 : decode cX10_line 499 = .ok (.iload 4, 2) := by decide +kernel
theorem dX10_line_501 : decode cX10_line 501 = .ok (.invokevirtual 919, 3) := by decide +kernel
theorem dX10_line_504 : decode cX10_line 504 = .ok (.aload_n 0, 1) := by decide +kernel
theorem dX10_line_505 : decode cX10_line 505 = .ok (.getfield 601, 3) := by decide +kernel
theorem dX10_line_508 : decode cX10_line 508 = .ok (.ifCond .ne 12, 3) := by decide +kernel
theorem dX10_line_511 : decode cX10_line 511 = .ok (.aload_n 0, 1) := by decide +kernel
theorem dX10_line_512 : decode cX10_line 512 = .ok (.iload 4, 2) := by decide +kernel
theorem dX10_line_514 : decode cX10_line 514 = .ok (.iload_n 3, 1) := by decide +kernel
theorem dX10_line_515 : decode cX10_line 515 = .ok (.iload 5, 2) := by decide +kernel
theorem dX10_line_517 : decode cX10_line 517 = .ok (.invokevirtual 922, 3) := by decide +kernel
theorem dX10_line_520 : decode cX10_line 520 = .ok (.aload_n 0, 1) := by decide +kernel
theorem dX10_line_521 : decode cX10_line 521 = .ok (.iload_n 2, 1) := by decide +kernel
theorem dX10_line_522 : decode cX10_line 522 = .ok (.putfield 378, 3) := by decide +kernel
theorem dX10_line_525 : decode cX10_line 525 = .ok (.aload_n 0, 1) := by decide +kernel
theorem dX10_line_526 : decode cX10_line 526 = .ok (.getfield 601, 3) := by decide +kernel
theorem dX10_line_529 : decode cX10_line 529 = .ok (.ifCond .le 11, 3) := by decide +kernel
theorem dX10_line_532 : decode cX10_line 532 = .ok (.aload_n 0, 1) := by decide +kernel
theorem dX10_line_533 : decode cX10_line 533 = .ok (.getfield 601, 3) := by decide +kernel
theorem dX10_line_536 : decode cX10_line 536 = .ok (.ineg, 1) := by decide +kernel
theorem dX10_line_537 : decode cX10_line 537 = .ok (.goto 4, 3) := by decide +kernel
theorem dX10_line_540 : decode cX10_line 540 = .ok (.iconst 1, 1) := by decide +kernel
theorem dX10_line_541 : decode cX10_line 541 = .ok (.ireturn, 1) := by decide +kernel
/-! AlgebraHouseModel.line(I)I -/
def P_X10_line_520 (Q : Int → MM → Prop) (x2 : Int) (m : MM) : Prop := ∀ m1 : MM, m1 = up m 582 15 x2 → (RI (m1 582 84)) ∧ (if (m1 582 84) ≤ 0 then Q 1 m1 else Q (-(m1 582 84)) m1)
def P_X10_line_473 (Q : Int → MM → Prop) (x2 : Int) (x3 : Int) (x4 : Int) (x5 : Int) (m : MM) : Prop := (RI (m 582 10)) ∧ (if (m 582 10) ≤ 0 then ∀ m1 : MM, m1 = up m 582 61 (-1) → ∀ m2 : MM, m2 = up m1 582 62 (-9) → P_X10_eval x4 m2 (fun r1 m3 => (RI (m3 582 84)) ∧ (if (m3 582 84) = 0 then P_X10_keep x4 x3 x5 m3 (fun r2 m4 => P_X10_line_520 Q x2 m4) else P_X10_line_520 Q x2 m3)) else ∀ m5 : MM, m5 = up m 582 15 x2 → Q 0 m5)
def P_X10_line_436 (Q : Int → MM → Prop) (x2 : Int) (x3 : Int) (x4 : Int) (x5 : Int) (m : MM) : Prop := (RI (m 582 10)) ∧ (if (m 582 10) = 0 then (RI (m 582 60)) ∧ (if (m 582 60) = 0 then P_X10_line_473 Q x2 x3 x4 x5 m else (0 ≤ (m 582 32) ∧ (m 582 32) < 21) ∧ ∀ m1 : MM, m1 = up m 610 (m 582 32) x4 → ∀ m2 : MM, m2 = up m1 582 32 ((m1 582 32) + 1) → Q 2 m2) else P_X10_line_473 Q x2 x3 x4 x5 m)
def P_X10_line_425 (Q : Int → MM → Prop) (x2 : Int) (x3 : Int) (x4 : Int) (x5 : Int) (m : MM) : Prop := ∀ m1 : MM, m1 = up m 582 10 6 → ∀ m2 : MM, m2 = up m1 582 11 0 → P_X10_line_436 Q x2 x3 x4 x5 m2
def P_X10_line_369 (Q : Int → MM → Prop) (x2 : Int) (x3 : Int) (x4 : Int) (s0 : Int) (m : MM) : Prop := (RI (m 582 10)) ∧ (if (m 582 10) = 0 then (RI (m 582 60)) ∧ (if (m 582 60) = 0 then (RI (m 582 34)) ∧ (if (m 582 34) = 200 then P_X10_line_425 Q x2 x3 x4 s0 m else (RI x3) ∧ (if x3 = 0 then P_X10_line_436 Q x2 x3 x4 s0 m else (RI s0) ∧ (if 0 ≤ s0 then P_X10_line_436 Q x2 x3 x4 s0 m else (RI (m 582 33)) ∧ (if (m 582 33) = 20 then P_X10_line_425 Q x2 x3 x4 s0 m else P_X10_line_436 Q x2 x3 x4 s0 m)))) else (RI (m 582 32)) ∧ (if (m 582 32) = 20 then P_X10_line_425 Q x2 x3 x4 s0 m else P_X10_line_436 Q x2 x3 x4 s0 m)) else P_X10_line_436 Q x2 x3 x4 s0 m)
def P_X10_line_368 (Q : Int → MM → Prop) (x2 : Int) (x3 : Int) (x4 : Int) (m : MM) : Prop := P_X10_line_369 Q x2 x3 x4 (-1) m
def P_X10_line_344 (Q : Int → MM → Prop) (x2 : Int) (x3 : Int) (x4 : Int) (m : MM) : Prop := (RI x3) ∧ (if x3 = 0 then P_X10_line_368 Q x2 x3 x4 m else (RI (m 582 10)) ∧ (if (m 582 10) = 0 then P_X10_variableOf (m 589 0) m (fun r1 m1 => P_X10_line_369 Q x2 x3 x4 r1 m1) else P_X10_line_368 Q x2 x3 x4 m))
def P_X10_line_314 (Q : Int → MM → Prop) (x2 : Int) (x3 : Int) (x4 : Int) (m : MM) : Prop := (RI (m 582 10)) ∧ (if (m 582 10) = 0 then (RI (m 582 13)) ∧ (if (m 582 13) ≤ 0 then P_X10_line_344 Q x2 x3 x4 m else ∀ m1 : MM, m1 = up m 582 10 (m 582 13) → ∀ m2 : MM, m2 = up m1 582 11 (m1 582 14) → P_X10_line_344 Q x2 x3 x4 m2) else P_X10_line_344 Q x2 x3 x4 m)
def P_X10_line_285 (Q : Int → MM → Prop) (x2 : Int) (x3 : Int) (x4 : Int) (m : MM) : Prop := (RI (m 582 10)) ∧ (if (m 582 10) = 0 then (RI (m 582 60)) ∧ (if (m 582 60) = 0 then R_X10_judge 300 0 [x4] m (fun r1 m1 => P_X10_line_314 Q x2 x3 x4 m1) (fun _ => False) else P_X10_judgeDefinition x4 m (fun r2 m2 => P_X10_line_314 Q x2 x3 x4 m2)) else P_X10_line_314 Q x2 x3 x4 m)
def P_X10_line_259 (Q : Int → MM → Prop) (x2 : Int) (x3 : Int) (s0 : Int) (m : MM) : Prop := (RI (m 582 10)) ∧ (if (m 582 10) = 0 then (0 ≤ (m 582 9) ∧ (m 582 9) < 420) ∧ (RI (m 587 (m 582 9))) ∧ (if (m 587 (m 582 9)) = 0 then P_X10_line_285 Q x2 x3 s0 m else P_X10_fail 1 m (fun r1 m1 => P_X10_line_285 Q x2 x3 s0 m1)) else P_X10_line_285 Q x2 x3 s0 m)
def P_X10_line_40 (Q : Int → MM → Prop) (x1 : Int) (m : MM) : Prop := ∀ m1 : MM, m1 = up m 582 4 0 → P_X10_scan x1 m1 (fun r1 m2 => ∀ m3 : MM, m3 = up m2 582 10 0 → ∀ m4 : MM, m4 = up m3 582 11 (-1) → ∀ m5 : MM, m5 = up m4 582 12 0 → ∀ m6 : MM, m6 = up m5 582 13 0 → ∀ m7 : MM, m7 = up m6 582 14 (-1) → ∀ m8 : MM, m8 = up m7 582 84 0 → ∀ m9 : MM, m9 = up m8 582 90 0 → ∀ m10 : MM, m10 = up m9 582 91 0 → ∀ m11 : MM, m11 = up m10 582 92 0 → ∀ m12 : MM, m12 = up m11 582 111 (-1) → ∀ m13 : MM, m13 = up m12 582 68 0 → ∀ m14 : MM, m14 = up m13 582 86 0 → ∀ m15 : MM, m15 = up m14 582 61 (-1) → ∀ m16 : MM, m16 = up m15 582 62 (-9) → ((RI (m16 587 0)) ∧ (if (m16 587 0) = 1 then ((RI (m16 587 1)) ∧ (if (m16 587 1) = 5 then ((RL (m16 589 1)) ∧ (if (m16 589 1) = 40 then ((RI (m16 587 2)) ∧ (if (m16 587 2) = 1 then ((RI (m16 587 3)) ∧ (if (m16 587 3) = 5 then ((RL (m16 589 3))) else True)) else True)) else True)) else True)) else True)) ∧ ((if (m16 587 0) = 1 then (if (m16 587 1) = 5 then (if (m16 589 1) = 40 then (if (m16 587 2) = 1 then (if (m16 587 3) = 5 then (if (m16 589 3) = 58 then 1 else 0 : Int) else 0 : Int) else 0 : Int) else 0 : Int) else 0 : Int) else 0 : Int) = 0 ∨ (if (m16 587 0) = 1 then (if (m16 587 1) = 5 then (if (m16 589 1) = 40 then (if (m16 587 2) = 1 then (if (m16 587 3) = 5 then (if (m16 589 3) = 58 then 1 else 0 : Int) else 0 : Int) else 0 : Int) else 0 : Int) else 0 : Int) else 0 : Int) = 1) ∧ ∀ m17 : MM, m17 = up m16 582 60 (if (m16 587 0) = 1 then (if (m16 587 1) = 5 then (if (m16 589 1) = 40 then (if (m16 587 2) = 1 then (if (m16 587 3) = 5 then (if (m16 589 3) = 58 then 1 else 0 : Int) else 0 : Int) else 0 : Int) else 0 : Int) else 0 : Int) else 0 : Int) → ((RI (m17 587 0)) ∧ (if (m17 587 0) = 1 then ((RI (m17 587 1)) ∧ (if (m17 587 1) = 5 then ((RL (m17 589 1))) else True)) else True)) ∧ (RI (m17 582 60)) ∧ (if (m17 582 60) = 0 then P_X10_readLine (if (m17 587 0) = 1 then (if (m17 587 1) = 5 then (if (m17 589 1) = 14909 then 1 else 0 : Int) else 0 : Int) else 0 : Int) m17 (fun r2 m18 => P_X10_line_259 Q (m16 582 15) (if (m17 587 0) = 1 then (if (m17 587 1) = 5 then (if (m17 589 1) = 14909 then 1 else 0 : Int) else 0 : Int) else 0 : Int) r2 m18) else P_X10_readDefinition m17 (fun r3 m19 => P_X10_line_259 Q (m16 582 15) (if (m17 587 0) = 1 then (if (m17 587 1) = 5 then (if (m17 589 1) = 14909 then 1 else 0 : Int) else 0 : Int) else 0 : Int) r3 m19)))
def P_X10_line_17 (Q : Int → MM → Prop) : Nat → Int → Int → MM → Prop
  | 0, _, _, _ => False
  | n + 1, x1, x2, m => (RI x2) ∧ (RI x1) ∧ (if x1 ≤ x2 then P_X10_line_40 Q x1 m else (0 ≤ x2 ∧ x2 < 400) ∧ ∀ m1 : MM, m1 = up m 586 x2 (m 585 x2) → P_X10_line_17 Q n x1 (x2 + 1) m1)
def P_X10_line (x1 : Int) (m : MM) (Q : Int → MM → Prop) : Prop := (RI x1) ∧ (if x1 < 0 then Q (-100) m else (RI (m 582 4)) ∧ (if x1 ≤ (m 582 4) then ∃ nn, P_X10_line_17 Q nn x1 0 m else Q (-100) m))
theorem pl_X10_line_520 {f : Nat} {Q : Int → MM → Prop} {T : MM → Prop} (hf : 330 ≤ f) : ∀ (x2 : Int) (m : MM), P_X10_line_520 Q x2 m → B f M_X10_line 520 [vR 582, vU, vI x2, vU, vU, vU] [] m Q T := by
  intro x2 m h
  have h : ∀ m1 : MM, m1 = up m 582 15 x2 → (RI (m1 582 84)) ∧ (if (m1 582 84) ≤ 0 then Q 1 m1 else Q (-(m1 582 84)) m1) := h
  refine b_aload_n dX10_line_520 rfl ?_
  refine b_iload_n dX10_line_521 rfl ?_
  refine b_putI dX10_line_522 fk_X10_378 ly_582 (fun m1 em1 => ?_)
  have h := h m1 em1
  refine b_aload_n dX10_line_525 rfl ?_
  refine b_getI dX10_line_526 fk_X10_601 ly_582 ?_
  obtain ⟨g1, h⟩ := h
  refine b_if_le 540 dX10_line_529 g1 (by decide) (fun c1 => ?_) (fun c1 => ?_)
  · have h := ifT c1 h
    refine b_iconst dX10_line_540 ?_
    exact b_iret dX10_line_541 rfl h
  · have h := ifF c1 h
    refine b_aload_n dX10_line_532 rfl ?_
    refine b_getI dX10_line_533 fk_X10_601 ly_582 ?_
    refine b_ineg dX10_line_536 ?_
    refine b_goto 541 dX10_line_537 (by decide) ?_
    exact b_iret dX10_line_541 rfl h
theorem pl_X10_line_473 {f : Nat} {Q : Int → MM → Prop} {T : MM → Prop} (hf : 330 ≤ f) : ∀ (x2 : Int) (x3 : Int) (x4 : Int) (x5 : Int) (m : MM), P_X10_line_473 Q x2 x3 x4 x5 m → B f M_X10_line 473 [vR 582, vU, vI x2, vI x3, vI x4, vI x5] [] m Q T := by
  intro x2 x3 x4 x5 m h
  have h : (RI (m 582 10)) ∧ (if (m 582 10) ≤ 0 then ∀ m1 : MM, m1 = up m 582 61 (-1) → ∀ m2 : MM, m2 = up m1 582 62 (-9) → P_X10_eval x4 m2 (fun r1 m3 => (RI (m3 582 84)) ∧ (if (m3 582 84) = 0 then P_X10_keep x4 x3 x5 m3 (fun r2 m4 => P_X10_line_520 Q x2 m4) else P_X10_line_520 Q x2 m3)) else ∀ m5 : MM, m5 = up m 582 15 x2 → Q 0 m5) := h
  refine b_aload_n dX10_line_473 rfl ?_
  refine b_getI dX10_line_474 fk_X10_347 ly_582 ?_
  obtain ⟨g1, h⟩ := h
  refine b_if_le 487 dX10_line_477 g1 (by decide) (fun c1 => ?_) (fun c1 => ?_)
  · have h := ifT c1 h
    refine b_aload_n dX10_line_487 rfl ?_
    refine b_iconst dX10_line_488 ?_
    refine b_putI dX10_line_489 fk_X10_231 ly_582 (fun m1 em1 => ?_)
    have h := h m1 em1
    refine b_aload_n dX10_line_492 rfl ?_
    refine b_bipush dX10_line_493 (by decide) ?_
    refine b_putI dX10_line_495 fk_X10_234 ly_582 (fun m2 em2 => ?_)
    have h := h m2 em2
    refine b_aload_n dX10_line_498 rfl ?_
    refine b_iload dX10_line_499 rfl ?_
    refine b_cVv (as := [vI x4]) (st := []) dX10_line_501 mf_X10_eval qs153 lk_X10_919 ly_582 rfl (p_X10_eval (f := 329) (Nat.le_refl _) _ _ h) (by omega) rfl rfl (Nat.le_of_ble_eq_true rfl) (by decide) rfl (fun _ => rfl) (fun r1 m3 h => ?_) (fun _ h => h)
    refine b_aload_n dX10_line_504 rfl ?_
    refine b_getI dX10_line_505 fk_X10_601 ly_582 ?_
    obtain ⟨g2, h⟩ := h
    refine b_if_ne 520 dX10_line_508 g2 (by decide) (fun c2 => ?_) (fun c2 => ?_)
    · have h := ifF c2 h
      refine b_fgt [true, false, true, false, false, false] (ls' := [vR 582, vU, vI x2, vU, vU, vU]) rfl rfl ?_
      exact pl_X10_line_520 hf _ _ h
    · have h := ifT (Decidable.of_not_not c2) h
      refine b_aload_n dX10_line_511 rfl ?_
      refine b_iload dX10_line_512 rfl ?_
      refine b_iload_n dX10_line_514 rfl ?_
      refine b_iload dX10_line_515 rfl ?_
      refine b_cVv (as := [vI x4, vI x3, vI x5]) (st := []) dX10_line_517 mf_X10_keep qs215 lk_X10_922 ly_582 rfl (p_X10_keep (f := 1) (Nat.le_refl _) _ _ _ _ h) (by omega) rfl rfl (Nat.le_of_ble_eq_true rfl) (by decide) rfl (fun _ => rfl) (fun r2 m4 h => ?_) (fun _ h => h)
      refine b_fgt [true, false, true, false, false, false] (ls' := [vR 582, vU, vI x2, vU, vU, vU]) rfl rfl ?_
      exact pl_X10_line_520 hf _ _ h
  · have h := ifF c1 h
    refine b_aload_n dX10_line_480 rfl ?_
    refine b_iload_n dX10_line_481 rfl ?_
    refine b_putI dX10_line_482 fk_X10_378 ly_582 (fun m5 em5 => ?_)
    have h := h m5 em5
    refine b_iconst dX10_line_485 ?_
    exact b_iret dX10_line_486 rfl h
theorem pl_X10_line_436 {f : Nat} {Q : Int → MM → Prop} {T : MM → Prop} (hf : 330 ≤ f) : ∀ (x2 : Int) (x3 : Int) (x4 : Int) (x5 : Int) (m : MM), P_X10_line_436 Q x2 x3 x4 x5 m → B f M_X10_line 436 [vR 582, vU, vI x2, vI x3, vI x4, vI x5] [] m Q T := by
  intro x2 x3 x4 x5 m h
  have h : (RI (m 582 10)) ∧ (if (m 582 10) = 0 then (RI (m 582 60)) ∧ (if (m 582 60) = 0 then P_X10_line_473 Q x2 x3 x4 x5 m else (0 ≤ (m 582 32) ∧ (m 582 32) < 21) ∧ ∀ m1 : MM, m1 = up m 610 (m 582 32) x4 → ∀ m2 : MM, m2 = up m1 582 32 ((m1 582 32) + 1) → Q 2 m2) else P_X10_line_473 Q x2 x3 x4 x5 m) := h
  refine b_aload_n dX10_line_436 rfl ?_
  refine b_getI dX10_line_437 fk_X10_347 ly_582 ?_
  obtain ⟨g1, h⟩ := h
  refine b_if_ne 473 dX10_line_440 g1 (by decide) (fun c1 => ?_) (fun c1 => ?_)
  · have h := ifF c1 h
    exact pl_X10_line_473 hf _ _ _ _ _ h
  · have h := ifT (Decidable.of_not_not c1) h
    refine b_aload_n dX10_line_443 rfl ?_
    refine b_getZ dX10_line_444 fk_X10_903 ly_582 ?_
    obtain ⟨g2, h⟩ := h
    refine b_if_eq 473 dX10_line_447 g2 (by decide) (fun c2 => ?_) (fun c2 => ?_)
    · have h := ifT c2 h
      exact pl_X10_line_473 hf _ _ _ _ _ h
    · have h := ifF c2 h
      refine b_aload_n dX10_line_450 rfl ?_
      refine b_getR dX10_line_451 fk_X10_167 ly_582 gg_582_39 ?_
      refine b_aload_n dX10_line_454 rfl ?_
      refine b_getI dX10_line_455 fk_X10_591 ly_582 ?_
      refine b_iload dX10_line_458 rfl ?_
      obtain ⟨g3, h⟩ := h
      refine b_iast dX10_line_460 ly_610 g3 (fun m1 em1 => ?_)
      have h := h m1 em1
      refine b_aload_n dX10_line_461 rfl ?_
      refine b_dup dX10_line_462 rfl ?_
      refine b_getI dX10_line_463 fk_X10_591 ly_582 ?_
      refine b_iconst dX10_line_466 ?_
      refine b_iadd dX10_line_467 ?_
      refine b_putI dX10_line_468 fk_X10_591 ly_582 (fun m2 em2 => ?_)
      have h := h m2 em2
      refine b_iconst dX10_line_471 ?_
      exact b_iret dX10_line_472 rfl h
theorem pl_X10_line_425 {f : Nat} {Q : Int → MM → Prop} {T : MM → Prop} (hf : 330 ≤ f) : ∀ (x2 : Int) (x3 : Int) (x4 : Int) (x5 : Int) (m : MM), P_X10_line_425 Q x2 x3 x4 x5 m → B f M_X10_line 425 [vR 582, vU, vI x2, vI x3, vI x4, vI x5] [] m Q T := by
  intro x2 x3 x4 x5 m h
  have h : ∀ m1 : MM, m1 = up m 582 10 6 → ∀ m2 : MM, m2 = up m1 582 11 0 → P_X10_line_436 Q x2 x3 x4 x5 m2 := h
  refine b_aload_n dX10_line_425 rfl ?_
  refine b_bipush dX10_line_426 (by decide) ?_
  refine b_putI dX10_line_428 fk_X10_347 ly_582 (fun m1 em1 => ?_)
  have h := h m1 em1
  refine b_aload_n dX10_line_431 rfl ?_
  refine b_iconst dX10_line_432 ?_
  refine b_putI dX10_line_433 fk_X10_102 ly_582 (fun m2 em2 => ?_)
  have h := h m2 em2
  exact pl_X10_line_436 hf _ _ _ _ _ h
theorem pl_X10_line_369 {f : Nat} {Q : Int → MM → Prop} {T : MM → Prop} (hf : 330 ≤ f) : ∀ (x2 : Int) (x3 : Int) (x4 : Int) (s0 : Int) (m : MM), P_X10_line_369 Q x2 x3 x4 s0 m → B f M_X10_line 369 [vR 582, vU, vI x2, vI x3, vI x4, vU] [vI s0] m Q T := by
  intro x2 x3 x4 s0 m h
  have h : (RI (m 582 10)) ∧ (if (m 582 10) = 0 then (RI (m 582 60)) ∧ (if (m 582 60) = 0 then (RI (m 582 34)) ∧ (if (m 582 34) = 200 then P_X10_line_425 Q x2 x3 x4 s0 m else (RI x3) ∧ (if x3 = 0 then P_X10_line_436 Q x2 x3 x4 s0 m else (RI s0) ∧ (if 0 ≤ s0 then P_X10_line_436 Q x2 x3 x4 s0 m else (RI (m 582 33)) ∧ (if (m 582 33) = 20 then P_X10_line_425 Q x2 x3 x4 s0 m else P_X10_line_436 Q x2 x3 x4 s0 m)))) else (RI (m 582 32)) ∧ (if (m 582 32) = 20 then P_X10_line_425 Q x2 x3 x4 s0 m else P_X10_line_436 Q x2 x3 x4 s0 m)) else P_X10_line_436 Q x2 x3 x4 s0 m) := h
  refine b_istore (ls' := [vR 582, vU, vI x2, vI x3, vI x4, vI s0]) dX10_line_369 (Nat.le_of_ble_eq_true rfl) rfl ?_
  refine b_aload_n dX10_line_371 rfl ?_
  refine b_getI dX10_line_372 fk_X10_347 ly_582 ?_
  obtain ⟨g1, h⟩ := h
  refine b_if_ne 436 dX10_line_375 g1 (by decide) (fun c1 => ?_) (fun c1 => ?_)
  · have h := ifF c1 h
    exact pl_X10_line_436 hf _ _ _ _ _ h
  · have h := ifT (Decidable.of_not_not c1) h
    refine b_aload_n dX10_line_378 rfl ?_
    refine b_getZ dX10_line_379 fk_X10_903 ly_582 ?_
    obtain ⟨g2, h⟩ := h
    refine b_if_eq 397 dX10_line_382 g2 (by decide) (fun c2 => ?_) (fun c2 => ?_)
    · have h := ifT c2 h
      refine b_aload_n dX10_line_397 rfl ?_
      refine b_getI dX10_line_398 fk_X10_523 ly_582 ?_
      refine b_sipush dX10_line_401 (by decide) ?_
      obtain ⟨g3, h⟩ := h
      refine b_icmp_eq 425 dX10_line_404 g3 (by decide) (by decide) (fun c3 => ?_) (fun c3 => ?_)
      · have h := ifT c3 h
        exact pl_X10_line_425 hf _ _ _ _ _ h
      · have h := ifF c3 h
        refine b_iload_n dX10_line_407 rfl ?_
        obtain ⟨g4, h⟩ := h
        refine b_if_eq 436 dX10_line_408 g4 (by decide) (fun c4 => ?_) (fun c4 => ?_)
        · have h := ifT c4 h
          exact pl_X10_line_436 hf _ _ _ _ _ h
        · have h := ifF c4 h
          refine b_iload dX10_line_411 rfl ?_
          obtain ⟨g5, h⟩ := h
          refine b_if_ge 436 dX10_line_413 g5 (by decide) (fun c5 => ?_) (fun c5 => ?_)
          · have h := ifT c5 h
            exact pl_X10_line_436 hf _ _ _ _ _ h
          · have h := ifF c5 h
            refine b_aload_n dX10_line_416 rfl ?_
            refine b_getI dX10_line_417 fk_X10_554 ly_582 ?_
            refine b_bipush dX10_line_420 (by decide) ?_
            obtain ⟨g6, h⟩ := h
            refine b_icmp_ne 436 dX10_line_422 g6 (by decide) (by decide) (fun c6 => ?_) (fun c6 => ?_)
            · have h := ifF c6 h
              exact pl_X10_line_436 hf _ _ _ _ _ h
            · have h := ifT (Decidable.of_not_not c6) h
              exact pl_X10_line_425 hf _ _ _ _ _ h
    · have h := ifF c2 h
      refine b_aload_n dX10_line_385 rfl ?_
      refine b_getI dX10_line_386 fk_X10_591 ly_582 ?_
      refine b_bipush dX10_line_389 (by decide) ?_
      obtain ⟨g7, h⟩ := h
      refine b_icmp_ne 436 dX10_line_391 g7 (by decide) (by decide) (fun c7 => ?_) (fun c7 => ?_)
      · have h := ifF c7 h
        exact pl_X10_line_436 hf _ _ _ _ _ h
      · have h := ifT (Decidable.of_not_not c7) h
        refine b_goto 425 dX10_line_394 (by decide) ?_
        exact pl_X10_line_425 hf _ _ _ _ _ h
theorem pl_X10_line_368 {f : Nat} {Q : Int → MM → Prop} {T : MM → Prop} (hf : 330 ≤ f) : ∀ (x2 : Int) (x3 : Int) (x4 : Int) (m : MM), P_X10_line_368 Q x2 x3 x4 m → B f M_X10_line 368 [vR 582, vU, vI x2, vI x3, vI x4, vU] [] m Q T := by
  intro x2 x3 x4 m h
  have h : P_X10_line_369 Q x2 x3 x4 (-1) m := h
  refine b_iconst dX10_line_368 ?_
  exact pl_X10_line_369 hf _ _ _ _ _ h
theorem pl_X10_line_344 {f : Nat} {Q : Int → MM → Prop} {T : MM → Prop} (hf : 330 ≤ f) : ∀ (x2 : Int) (x3 : Int) (x4 : Int) (m : MM), P_X10_line_344 Q x2 x3 x4 m → B f M_X10_line 344 [vR 582, vU, vI x2, vI x3, vI x4, vU] [] m Q T := by
  intro x2 x3 x4 m h
  have h : (RI x3) ∧ (if x3 = 0 then P_X10_line_368 Q x2 x3 x4 m else (RI (m 582 10)) ∧ (if (m 582 10) = 0 then P_X10_variableOf (m 589 0) m (fun r1 m1 => P_X10_line_369 Q x2 x3 x4 r1 m1) else P_X10_line_368 Q x2 x3 x4 m)) := h
  refine b_iload_n dX10_line_344 rfl ?_
  obtain ⟨g1, h⟩ := h
  refine b_if_eq 368 dX10_line_345 g1 (by decide) (fun c1 => ?_) (fun c1 => ?_)
  · have h := ifT c1 h
    exact pl_X10_line_368 hf _ _ _ _ h
  · have h := ifF c1 h
    refine b_aload_n dX10_line_348 rfl ?_
    refine b_getI dX10_line_349 fk_X10_347 ly_582 ?_
    obtain ⟨g2, h⟩ := h
    refine b_if_ne 368 dX10_line_352 g2 (by decide) (fun c2 => ?_) (fun c2 => ?_)
    · have h := ifF c2 h
      exact pl_X10_line_368 hf _ _ _ _ h
    · have h := ifT (Decidable.of_not_not c2) h
      refine b_aload_n dX10_line_355 rfl ?_
      refine b_aload_n dX10_line_356 rfl ?_
      refine b_getR dX10_line_357 fk_X10_99 ly_582 gg_582_7 ?_
      refine b_iconst dX10_line_360 ?_
      refine b_lald dX10_line_361 ly_589 (by decide) ?_
      refine b_cVi (as := [vL (m 589 0)]) (st := []) dX10_line_362 mf_X10_variableOf qs138 lk_X10_551 ly_582 rfl (p_X10_variableOf (f := 1) (Nat.le_refl _) _ _ h) (by omega) rfl rfl (Nat.le_of_ble_eq_true rfl) (by decide) rfl (fun _ => rfl) (fun r1 m1 h => ?_) (fun _ h => h)
      refine b_goto 369 dX10_line_365 (by decide) ?_
      exact pl_X10_line_369 hf _ _ _ _ _ h
theorem pl_X10_line_314 {f : Nat} {Q : Int → MM → Prop} {T : MM → Prop} (hf : 330 ≤ f) : ∀ (x2 : Int) (x3 : Int) (x4 : Int) (m : MM), P_X10_line_314 Q x2 x3 x4 m → B f M_X10_line 314 [vR 582, vU, vI x2, vI x3, vI x4, vU] [] m Q T := by
  intro x2 x3 x4 m h
  have h : (RI (m 582 10)) ∧ (if (m 582 10) = 0 then (RI (m 582 13)) ∧ (if (m 582 13) ≤ 0 then P_X10_line_344 Q x2 x3 x4 m else ∀ m1 : MM, m1 = up m 582 10 (m 582 13) → ∀ m2 : MM, m2 = up m1 582 11 (m1 582 14) → P_X10_line_344 Q x2 x3 x4 m2) else P_X10_line_344 Q x2 x3 x4 m) := h
  refine b_aload_n dX10_line_314 rfl ?_
  refine b_getI dX10_line_315 fk_X10_347 ly_582 ?_
  obtain ⟨g1, h⟩ := h
  refine b_if_ne 344 dX10_line_318 g1 (by decide) (fun c1 => ?_) (fun c1 => ?_)
  · have h := ifF c1 h
    exact pl_X10_line_344 hf _ _ _ _ h
  · have h := ifT (Decidable.of_not_not c1) h
    refine b_aload_n dX10_line_321 rfl ?_
    refine b_getI dX10_line_322 fk_X10_353 ly_582 ?_
    obtain ⟨g2, h⟩ := h
    refine b_if_le 344 dX10_line_325 g2 (by decide) (fun c2 => ?_) (fun c2 => ?_)
    · have h := ifT c2 h
      exact pl_X10_line_344 hf _ _ _ _ h
    · have h := ifF c2 h
      refine b_aload_n dX10_line_328 rfl ?_
      refine b_aload_n dX10_line_329 rfl ?_
      refine b_getI dX10_line_330 fk_X10_353 ly_582 ?_
      refine b_putI dX10_line_333 fk_X10_347 ly_582 (fun m1 em1 => ?_)
      have h := h m1 em1
      refine b_aload_n dX10_line_336 rfl ?_
      refine b_aload_n dX10_line_337 rfl ?_
      refine b_getI dX10_line_338 fk_X10_350 ly_582 ?_
      refine b_putI dX10_line_341 fk_X10_102 ly_582 (fun m2 em2 => ?_)
      have h := h m2 em2
      exact pl_X10_line_344 hf _ _ _ _ h
theorem pl_X10_line_285 {f : Nat} {Q : Int → MM → Prop} {T : MM → Prop} (hf : 330 ≤ f) : ∀ (x2 : Int) (x3 : Int) (x4 : Int) (m : MM), P_X10_line_285 Q x2 x3 x4 m → B f M_X10_line 285 [vR 582, vU, vI x2, vI x3, vI x4, vU] [] m Q T := by
  intro x2 x3 x4 m h
  have h : (RI (m 582 10)) ∧ (if (m 582 10) = 0 then (RI (m 582 60)) ∧ (if (m 582 60) = 0 then R_X10_judge 300 0 [x4] m (fun r1 m1 => P_X10_line_314 Q x2 x3 x4 m1) (fun _ => False) else P_X10_judgeDefinition x4 m (fun r2 m2 => P_X10_line_314 Q x2 x3 x4 m2)) else P_X10_line_314 Q x2 x3 x4 m) := h
  refine b_aload_n dX10_line_285 rfl ?_
  refine b_getI dX10_line_286 fk_X10_347 ly_582 ?_
  obtain ⟨g1, h⟩ := h
  refine b_if_ne 314 dX10_line_289 g1 (by decide) (fun c1 => ?_) (fun c1 => ?_)
  · have h := ifF c1 h
    exact pl_X10_line_314 hf _ _ _ _ h
  · have h := ifT (Decidable.of_not_not c1) h
    refine b_aload_n dX10_line_292 rfl ?_
    refine b_getZ dX10_line_293 fk_X10_903 ly_582 ?_
    obtain ⟨g2, h⟩ := h
    refine b_if_eq 308 dX10_line_296 g2 (by decide) (fun c2 => ?_) (fun c2 => ?_)
    · have h := ifT c2 h
      refine b_aload_n dX10_line_308 rfl ?_
      refine b_iload dX10_line_309 rfl ?_
      refine b_cVv (as := [vI x4]) (st := []) dX10_line_311 mf_X10_judge qs134 lk_X10_476 ly_582 rfl ((pr_X10_judge 300 324 (Nat.le_refl _)).1 _ _ _ _ h) (by omega) rfl rfl (Nat.le_of_ble_eq_true rfl) (by decide) rfl (fun _ => rfl) (fun r1 m1 h => ?_) (fun _ h => h.elim)
      exact pl_X10_line_314 hf _ _ _ _ h
    · have h := ifF c2 h
      refine b_aload_n dX10_line_299 rfl ?_
      refine b_iload dX10_line_300 rfl ?_
      refine b_cVv (as := [vI x4]) (st := []) dX10_line_302 mf_X10_judgeDefinition qs125 lk_X10_916 ly_582 rfl (p_X10_judgeDefinition (f := 326) (Nat.le_refl _) _ _ h) (by omega) rfl rfl (Nat.le_of_ble_eq_true rfl) (by decide) rfl (fun _ => rfl) (fun r2 m2 h => ?_) (fun _ h => h)
      refine b_goto 314 dX10_line_305 (by decide) ?_
      exact pl_X10_line_314 hf _ _ _ _ h
theorem pl_X10_line_259 {f : Nat} {Q : Int → MM → Prop} {T : MM → Prop} (hf : 330 ≤ f) : ∀ (x2 : Int) (x3 : Int) (s0 : Int) (m : MM), P_X10_line_259 Q x2 x3 s0 m → B f M_X10_line 259 [vR 582, vU, vI x2, vI x3, vU, vU] [vI s0] m Q T := by
  intro x2 x3 s0 m h
  have h : (RI (m 582 10)) ∧ (if (m 582 10) = 0 then (0 ≤ (m 582 9) ∧ (m 582 9) < 420) ∧ (RI (m 587 (m 582 9))) ∧ (if (m 587 (m 582 9)) = 0 then P_X10_line_285 Q x2 x3 s0 m else P_X10_fail 1 m (fun r1 m1 => P_X10_line_285 Q x2 x3 s0 m1)) else P_X10_line_285 Q x2 x3 s0 m) := h
  refine b_istore (ls' := [vR 582, vU, vI x2, vI x3, vI s0, vU]) dX10_line_259 (Nat.le_of_ble_eq_true rfl) rfl ?_
  refine b_aload_n dX10_line_261 rfl ?_
  refine b_getI dX10_line_262 fk_X10_347 ly_582 ?_
  obtain ⟨g1, h⟩ := h
  refine b_if_ne 285 dX10_line_265 g1 (by decide) (fun c1 => ?_) (fun c1 => ?_)
  · have h := ifF c1 h
    exact pl_X10_line_285 hf _ _ _ _ h
  · have h := ifT (Decidable.of_not_not c1) h
    refine b_aload_n dX10_line_268 rfl ?_
    refine b_getR dX10_line_269 fk_X10_93 ly_582 gg_582_5 ?_
    refine b_aload_n dX10_line_272 rfl ?_
    refine b_getI dX10_line_273 fk_X10_324 ly_582 ?_
    obtain ⟨g2, h⟩ := h
    refine b_iald dX10_line_276 ly_587 g2 ?_
    obtain ⟨g3, h⟩ := h
    refine b_if_eq 285 dX10_line_277 g3 (by decide) (fun c2 => ?_) (fun c2 => ?_)
    · have h := ifT c2 h
      exact pl_X10_line_285 hf _ _ _ _ h
    · have h := ifF c2 h
      refine b_aload_n dX10_line_280 rfl ?_
      refine b_iconst dX10_line_281 ?_
      refine b_cVv (as := [vI 1]) (st := []) dX10_line_282 mf_X10_fail qs101 lk_X10_356 ly_582 rfl (p_X10_fail (f := 1) (Nat.le_refl _) _ _ h) (by omega) rfl rfl (Nat.le_of_ble_eq_true rfl) (by decide) rfl (fun _ => rfl) (fun r1 m1 h => ?_) (fun _ h => h)
      exact pl_X10_line_285 hf _ _ _ _ h
theorem pl_X10_line_40 {f : Nat} {Q : Int → MM → Prop} {T : MM → Prop} (hf : 330 ≤ f) : ∀ (x1 : Int) (m : MM), P_X10_line_40 Q x1 m → B f M_X10_line 40 [vR 582, vI x1, vU, vU, vU, vU] [] m Q T := by
  intro x1 m h
  have h : ∀ m1 : MM, m1 = up m 582 4 0 → P_X10_scan x1 m1 (fun r1 m2 => ∀ m3 : MM, m3 = up m2 582 10 0 → ∀ m4 : MM, m4 = up m3 582 11 (-1) → ∀ m5 : MM, m5 = up m4 582 12 0 → ∀ m6 : MM, m6 = up m5 582 13 0 → ∀ m7 : MM, m7 = up m6 582 14 (-1) → ∀ m8 : MM, m8 = up m7 582 84 0 → ∀ m9 : MM, m9 = up m8 582 90 0 → ∀ m10 : MM, m10 = up m9 582 91 0 → ∀ m11 : MM, m11 = up m10 582 92 0 → ∀ m12 : MM, m12 = up m11 582 111 (-1) → ∀ m13 : MM, m13 = up m12 582 68 0 → ∀ m14 : MM, m14 = up m13 582 86 0 → ∀ m15 : MM, m15 = up m14 582 61 (-1) → ∀ m16 : MM, m16 = up m15 582 62 (-9) → ((RI (m16 587 0)) ∧ (if (m16 587 0) = 1 then ((RI (m16 587 1)) ∧ (if (m16 587 1) = 5 then ((RL (m16 589 1)) ∧ (if (m16 589 1) = 40 then ((RI (m16 587 2)) ∧ (if (m16 587 2) = 1 then ((RI (m16 587 3)) ∧ (if (m16 587 3) = 5 then ((RL (m16 589 3))) else True)) else True)) else True)) else True)) else True)) ∧ ((if (m16 587 0) = 1 then (if (m16 587 1) = 5 then (if (m16 589 1) = 40 then (if (m16 587 2) = 1 then (if (m16 587 3) = 5 then (if (m16 589 3) = 58 then 1 else 0 : Int) else 0 : Int) else 0 : Int) else 0 : Int) else 0 : Int) else 0 : Int) = 0 ∨ (if (m16 587 0) = 1 then (if (m16 587 1) = 5 then (if (m16 589 1) = 40 then (if (m16 587 2) = 1 then (if (m16 587 3) = 5 then (if (m16 589 3) = 58 then 1 else 0 : Int) else 0 : Int) else 0 : Int) else 0 : Int) else 0 : Int) else 0 : Int) = 1) ∧ ∀ m17 : MM, m17 = up m16 582 60 (if (m16 587 0) = 1 then (if (m16 587 1) = 5 then (if (m16 589 1) = 40 then (if (m16 587 2) = 1 then (if (m16 587 3) = 5 then (if (m16 589 3) = 58 then 1 else 0 : Int) else 0 : Int) else 0 : Int) else 0 : Int) else 0 : Int) else 0 : Int) → ((RI (m17 587 0)) ∧ (if (m17 587 0) = 1 then ((RI (m17 587 1)) ∧ (if (m17 587 1) = 5 then ((RL (m17 589 1))) else True)) else True)) ∧ (RI (m17 582 60)) ∧ (if (m17 582 60) = 0 then P_X10_readLine (if (m17 587 0) = 1 then (if (m17 587 1) = 5 then (if (m17 589 1) = 14909 then 1 else 0 : Int) else 0 : Int) else 0 : Int) m17 (fun r2 m18 => P_X10_line_259 Q (m16 582 15) (if (m17 587 0) = 1 then (if (m17 587 1) = 5 then (if (m17 589 1) = 14909 then 1 else 0 : Int) else 0 : Int) else 0 : Int) r2 m18) else P_X10_readDefinition m17 (fun r3 m19 => P_X10_line_259 Q (m16 582 15) (if (m17 587 0) = 1 then (if (m17 587 1) = 5 then (if (m17 589 1) = 14909 then 1 else 0 : Int) else 0 : Int) else 0 : Int) r3 m19))) := h
  refine b_aload_n dX10_line_40 rfl ?_
  refine b_iconst dX10_line_41 ?_
  refine b_putI dX10_line_42 fk_X10_310 ly_582 (fun m1 em1 => ?_)
  have h := h m1 em1
  refine b_aload_n dX10_line_45 rfl ?_
  refine b_iload_n dX10_line_46 rfl ?_
  refine b_cVv (as := [vI x1]) (st := []) dX10_line_47 mf_X10_scan qs94 lk_X10_896 ly_582 rfl (p_X10_scan (f := 4) (Nat.le_refl _) _ _ h) (by omega) rfl rfl (Nat.le_of_ble_eq_true rfl) (by decide) rfl (fun _ => rfl) (fun r1 m2 h => ?_) (fun _ h => h)
  refine b_aload_n dX10_line_50 rfl ?_
  refine b_iconst dX10_line_51 ?_
  refine b_putI dX10_line_52 fk_X10_347 ly_582 (fun m3 em3 => ?_)
  have h := h m3 em3
  refine b_aload_n dX10_line_55 rfl ?_
  refine b_iconst dX10_line_56 ?_
  refine b_putI dX10_line_57 fk_X10_102 ly_582 (fun m4 em4 => ?_)
  have h := h m4 em4
  refine b_aload_n dX10_line_60 rfl ?_
  refine b_iconst dX10_line_61 ?_
  refine b_putI dX10_line_62 fk_X10_369 ly_582 (fun m5 em5 => ?_)
  have h := h m5 em5
  refine b_aload_n dX10_line_65 rfl ?_
  refine b_iconst dX10_line_66 ?_
  refine b_putI dX10_line_67 fk_X10_353 ly_582 (fun m6 em6 => ?_)
  have h := h m6 em6
  refine b_aload_n dX10_line_70 rfl ?_
  refine b_iconst dX10_line_71 ?_
  refine b_putI dX10_line_72 fk_X10_350 ly_582 (fun m7 em7 => ?_)
  have h := h m7 em7
  refine b_aload_n dX10_line_75 rfl ?_
  refine b_iconst dX10_line_76 ?_
  refine b_putI dX10_line_77 fk_X10_601 ly_582 (fun m8 em8 => ?_)
  have h := h m8 em8
  refine b_aload_n dX10_line_80 rfl ?_
  refine b_iconst dX10_line_81 ?_
  refine b_putI dX10_line_82 fk_X10_704 ly_582 (fun m9 em9 => ?_)
  have h := h m9 em9
  refine b_aload_n dX10_line_85 rfl ?_
  refine b_iconst dX10_line_86 ?_
  refine b_putI dX10_line_87 fk_X10_814 ly_582 (fun m10 em10 => ?_)
  have h := h m10 em10
  refine b_aload_n dX10_line_90 rfl ?_
  refine b_iconst dX10_line_91 ?_
  refine b_putI dX10_line_92 fk_X10_817 ly_582 (fun m11 em11 => ?_)
  have h := h m11 em11
  refine b_aload_n dX10_line_95 rfl ?_
  refine b_iconst dX10_line_96 ?_
  refine b_putI dX10_line_97 fk_X10_301 ly_582 (fun m12 em12 => ?_)
  have h := h m12 em12
  refine b_aload_n dX10_line_100 rfl ?_
  refine b_iconst dX10_line_101 ?_
  refine b_putI dX10_line_102 fk_X10_460 ly_582 (fun m13 em13 => ?_)
  have h := h m13 em13
  refine b_aload_n dX10_line_105 rfl ?_
  refine b_iconst dX10_line_106 ?_
  refine b_putI dX10_line_107 fk_X10_718 ly_582 (fun m14 em14 => ?_)
  have h := h m14 em14
  refine b_aload_n dX10_line_110 rfl ?_
  refine b_iconst dX10_line_111 ?_
  refine b_putI dX10_line_112 fk_X10_231 ly_582 (fun m15 em15 => ?_)
  have h := h m15 em15
  refine b_aload_n dX10_line_115 rfl ?_
  refine b_bipush dX10_line_116 (by decide) ?_
  refine b_putI dX10_line_118 fk_X10_234 ly_582 (fun m16 em16 => ?_)
  have h := h m16 em16
  refine b_aload_n dX10_line_121 rfl ?_
  refine b_getI dX10_line_122 fk_X10_378 ly_582 ?_
  refine b_istore_n (ls' := [vR 582, vI x1, vI (m16 582 15), vU, vU, vU]) dX10_line_125 (Nat.le_of_ble_eq_true rfl) rfl ?_
  refine b_aload_n dX10_line_126 rfl ?_
  refine b_aload_n dX10_line_127 rfl ?_
  refine b_getR dX10_line_128 fk_X10_93 ly_582 gg_582_5 ?_
  refine b_iconst dX10_line_131 ?_
  refine b_iald dX10_line_132 ly_587 (by decide) ?_
  refine b_iconst dX10_line_133 ?_
  obtain ⟨hs, h⟩ := h
  have K : B f M_X10_line 198 [vR 582, vI x1, vI (m16 582 15), vU, vU, vU] [vI (if (m16 587 0) = 1 then (if (m16 587 1) = 5 then (if (m16 589 1) = 40 then (if (m16 587 2) = 1 then (if (m16 587 3) = 5 then (if (m16 589 3) = 58 then 1 else 0 : Int) else 0 : Int) else 0 : Int) else 0 : Int) else 0 : Int) else 0 : Int), vR 582] m16 Q T := by
    clear hs
    obtain ⟨g7, h⟩ := h
    refine b_putZ dX10_line_198 fk_X10_903 ly_582 g7 (fun m17 em17 => ?_)
    have h := h m17 em17
    refine b_aload_n dX10_line_201 rfl ?_
    refine b_getR dX10_line_202 fk_X10_93 ly_582 gg_582_5 ?_
    refine b_iconst dX10_line_205 ?_
    refine b_iald dX10_line_206 ly_587 (by decide) ?_
    refine b_iconst dX10_line_207 ?_
    obtain ⟨hs, h⟩ := h
    have K : B f M_X10_line 239 [vR 582, vI x1, vI (m16 582 15), vU, vU, vU] [vI (if (m17 587 0) = 1 then (if (m17 587 1) = 5 then (if (m17 589 1) = 14909 then 1 else 0 : Int) else 0 : Int) else 0 : Int)] m17 Q T := by
      clear hs
      refine b_istore_n (ls' := [vR 582, vI x1, vI (m16 582 15), vI (if (m17 587 0) = 1 then (if (m17 587 1) = 5 then (if (m17 589 1) = 14909 then 1 else 0 : Int) else 0 : Int) else 0 : Int), vU, vU]) dX10_line_239 (Nat.le_of_ble_eq_true rfl) rfl ?_
      refine b_aload_n dX10_line_240 rfl ?_
      refine b_getZ dX10_line_241 fk_X10_903 ly_582 ?_
      obtain ⟨g11, h⟩ := h
      refine b_if_eq 254 dX10_line_244 g11 (by decide) (fun c1 => ?_) (fun c1 => ?_)
      · have h := ifT c1 h
        refine b_aload_n dX10_line_254 rfl ?_
        refine b_iload_n dX10_line_255 rfl ?_
        refine b_cVi (as := [vI (if (m17 587 0) = 1 then (if (m17 587 1) = 5 then (if (m17 589 1) = 14909 then 1 else 0 : Int) else 0 : Int) else 0 : Int)]) (st := []) dX10_line_256 mf_X10_readLine qs124 lk_X10_912 ly_582 rfl (p_X10_readLine (f := 327) (Nat.le_refl _) _ _ h) (by omega) rfl rfl (Nat.le_of_ble_eq_true rfl) (by decide) rfl (fun _ => rfl) (fun r2 m18 h => ?_) (fun _ h => h)
        refine b_fgt [true, false, true, true, false, false] (ls' := [vR 582, vU, vI (m16 582 15), vI (if (m17 587 0) = 1 then (if (m17 587 1) = 5 then (if (m17 589 1) = 14909 then 1 else 0 : Int) else 0 : Int) else 0 : Int), vU, vU]) rfl rfl ?_
        exact pl_X10_line_259 hf _ _ _ _ h
      · have h := ifF c1 h
        refine b_aload_n dX10_line_247 rfl ?_
        refine b_cVi (as := []) (st := []) dX10_line_248 mf_X10_readDefinition qs98 lk_X10_909 ly_582 rfl (p_X10_readDefinition (f := 327) (Nat.le_refl _) _ h) (by omega) rfl rfl (Nat.le_of_ble_eq_true rfl) (by decide) rfl (fun _ => rfl) (fun r3 m19 h => ?_) (fun _ h => h)
        refine b_goto 259 dX10_line_251 (by decide) ?_
        refine b_fgt [true, false, true, true, false, false] (ls' := [vR 582, vU, vI (m16 582 15), vI (if (m17 587 0) = 1 then (if (m17 587 1) = 5 then (if (m17 589 1) = 14909 then 1 else 0 : Int) else 0 : Int) else 0 : Int), vU, vU]) rfl rfl ?_
        exact pl_X10_line_259 hf _ _ _ _ h
    obtain ⟨g8, hs⟩ := hs
    refine b_icmp_ne 238 dX10_line_208 g8 (by decide) (by decide) (fun c2 => ?_) (fun c2 => ?_)
    ·
      refine b_iconst dX10_line_238 ?_
      exact Eq.mp (congrArg (fun z => B f M_X10_line 239 [vR 582, vI x1, vI (m16 582 15), vU, vU, vU] (vI z :: []) m17 Q T) (show (if (m17 587 0) = 1 then (if (m17 587 1) = 5 then (if (m17 589 1) = 14909 then 1 else 0 : Int) else 0 : Int) else 0 : Int) = 0 by rw [if_neg c2])) K
    ·
      have c2 := Decidable.of_not_not c2
      have hs := ifT c2 hs
      obtain ⟨g9, hs⟩ := hs
      refine b_aload_n dX10_line_211 rfl ?_
      refine b_getR dX10_line_212 fk_X10_93 ly_582 gg_582_5 ?_
      refine b_iconst dX10_line_215 ?_
      refine b_iald dX10_line_216 ly_587 (by decide) ?_
      refine b_iconst dX10_line_217 ?_
      refine b_icmp_ne 238 dX10_line_218 g9 (by decide) (by decide) (fun c3 => ?_) (fun c3 => ?_)
      ·
        refine b_iconst dX10_line_238 ?_
        exact Eq.mp (congrArg (fun z => B f M_X10_line 239 [vR 582, vI x1, vI (m16 582 15), vU, vU, vU] (vI z :: []) m17 Q T) (show (if (m17 587 0) = 1 then (if (m17 587 1) = 5 then (if (m17 589 1) = 14909 then 1 else 0 : Int) else 0 : Int) else 0 : Int) = 0 by rw [if_pos c2, if_neg c3])) K
      ·
        have c3 := Decidable.of_not_not c3
        have hs := ifT c3 hs
        have g10 := hs
        refine b_aload_n dX10_line_221 rfl ?_
        refine b_getR dX10_line_222 fk_X10_99 ly_582 gg_582_7 ?_
        refine b_iconst dX10_line_225 ?_
        refine b_lald dX10_line_226 ly_589 (by decide) ?_
        refine b_ldc2 (14909) dX10_line_227 q2042 (by decide) ?_
        refine b_lc_ne 238 dX10_line_230 dX10_line_231 g10 (by decide) (by decide) (fun c4 => ?_) (fun c4 => ?_)
        ·
          refine b_iconst dX10_line_238 ?_
          exact Eq.mp (congrArg (fun z => B f M_X10_line 239 [vR 582, vI x1, vI (m16 582 15), vU, vU, vU] (vI z :: []) m17 Q T) (show (if (m17 587 0) = 1 then (if (m17 587 1) = 5 then (if (m17 589 1) = 14909 then 1 else 0 : Int) else 0 : Int) else 0 : Int) = 0 by rw [if_pos c2, if_pos c3, if_neg c4])) K
        ·
          have c4 := Decidable.of_not_not c4
          refine b_iconst dX10_line_234 ?_
          refine b_goto 239 dX10_line_235 (by decide) ?_
          exact Eq.mp (congrArg (fun z => B f M_X10_line 239 [vR 582, vI x1, vI (m16 582 15), vU, vU, vU] (vI z :: []) m17 Q T) (show (if (m17 587 0) = 1 then (if (m17 587 1) = 5 then (if (m17 589 1) = 14909 then 1 else 0 : Int) else 0 : Int) else 0 : Int) = 1 by rw [if_pos c2, if_pos c3, if_pos c4])) K
  obtain ⟨g1, hs⟩ := hs
  refine b_icmp_ne 197 dX10_line_134 g1 (by decide) (by decide) (fun c5 => ?_) (fun c5 => ?_)
  ·
    refine b_iconst dX10_line_197 ?_
    exact Eq.mp (congrArg (fun z => B f M_X10_line 198 [vR 582, vI x1, vI (m16 582 15), vU, vU, vU] (vI z :: [vR 582]) m16 Q T) (show (if (m16 587 0) = 1 then (if (m16 587 1) = 5 then (if (m16 589 1) = 40 then (if (m16 587 2) = 1 then (if (m16 587 3) = 5 then (if (m16 589 3) = 58 then 1 else 0 : Int) else 0 : Int) else 0 : Int) else 0 : Int) else 0 : Int) else 0 : Int) = 0 by rw [if_neg c5])) K
  ·
    have c5 := Decidable.of_not_not c5
    have hs := ifT c5 hs
    obtain ⟨g2, hs⟩ := hs
    refine b_aload_n dX10_line_137 rfl ?_
    refine b_getR dX10_line_138 fk_X10_93 ly_582 gg_582_5 ?_
    refine b_iconst dX10_line_141 ?_
    refine b_iald dX10_line_142 ly_587 (by decide) ?_
    refine b_iconst dX10_line_143 ?_
    refine b_icmp_ne 197 dX10_line_144 g2 (by decide) (by decide) (fun c6 => ?_) (fun c6 => ?_)
    ·
      refine b_iconst dX10_line_197 ?_
      exact Eq.mp (congrArg (fun z => B f M_X10_line 198 [vR 582, vI x1, vI (m16 582 15), vU, vU, vU] (vI z :: [vR 582]) m16 Q T) (show (if (m16 587 0) = 1 then (if (m16 587 1) = 5 then (if (m16 589 1) = 40 then (if (m16 587 2) = 1 then (if (m16 587 3) = 5 then (if (m16 589 3) = 58 then 1 else 0 : Int) else 0 : Int) else 0 : Int) else 0 : Int) else 0 : Int) else 0 : Int) = 0 by rw [if_pos c5, if_neg c6])) K
    ·
      have c6 := Decidable.of_not_not c6
      have hs := ifT c6 hs
      obtain ⟨g3, hs⟩ := hs
      refine b_aload_n dX10_line_147 rfl ?_
      refine b_getR dX10_line_148 fk_X10_99 ly_582 gg_582_7 ?_
      refine b_iconst dX10_line_151 ?_
      refine b_lald dX10_line_152 ly_589 (by decide) ?_
      refine b_ldc2 (40) dX10_line_153 q2040 (by decide) ?_
      refine b_lc_ne 197 dX10_line_156 dX10_line_157 g3 (by decide) (by decide) (fun c7 => ?_) (fun c7 => ?_)
      ·
        refine b_iconst dX10_line_197 ?_
        exact Eq.mp (congrArg (fun z => B f M_X10_line 198 [vR 582, vI x1, vI (m16 582 15), vU, vU, vU] (vI z :: [vR 582]) m16 Q T) (show (if (m16 587 0) = 1 then (if (m16 587 1) = 5 then (if (m16 589 1) = 40 then (if (m16 587 2) = 1 then (if (m16 587 3) = 5 then (if (m16 589 3) = 58 then 1 else 0 : Int) else 0 : Int) else 0 : Int) else 0 : Int) else 0 : Int) else 0 : Int) = 0 by rw [if_pos c5, if_pos c6, if_neg c7])) K
      ·
        have c7 := Decidable.of_not_not c7
        have hs := ifT c7 hs
        obtain ⟨g4, hs⟩ := hs
        refine b_aload_n dX10_line_160 rfl ?_
        refine b_getR dX10_line_161 fk_X10_93 ly_582 gg_582_5 ?_
        refine b_iconst dX10_line_164 ?_
        refine b_iald dX10_line_165 ly_587 (by decide) ?_
        refine b_iconst dX10_line_166 ?_
        refine b_icmp_ne 197 dX10_line_167 g4 (by decide) (by decide) (fun c8 => ?_) (fun c8 => ?_)
        ·
          refine b_iconst dX10_line_197 ?_
          exact Eq.mp (congrArg (fun z => B f M_X10_line 198 [vR 582, vI x1, vI (m16 582 15), vU, vU, vU] (vI z :: [vR 582]) m16 Q T) (show (if (m16 587 0) = 1 then (if (m16 587 1) = 5 then (if (m16 589 1) = 40 then (if (m16 587 2) = 1 then (if (m16 587 3) = 5 then (if (m16 589 3) = 58 then 1 else 0 : Int) else 0 : Int) else 0 : Int) else 0 : Int) else 0 : Int) else 0 : Int) = 0 by rw [if_pos c5, if_pos c6, if_pos c7, if_neg c8])) K
        ·
          have c8 := Decidable.of_not_not c8
          have hs := ifT c8 hs
          obtain ⟨g5, hs⟩ := hs
          refine b_aload_n dX10_line_170 rfl ?_
          refine b_getR dX10_line_171 fk_X10_93 ly_582 gg_582_5 ?_
          refine b_iconst dX10_line_174 ?_
          refine b_iald dX10_line_175 ly_587 (by decide) ?_
          refine b_iconst dX10_line_176 ?_
          refine b_icmp_ne 197 dX10_line_177 g5 (by decide) (by decide) (fun c9 => ?_) (fun c9 => ?_)
          ·
            refine b_iconst dX10_line_197 ?_
            exact Eq.mp (congrArg (fun z => B f M_X10_line 198 [vR 582, vI x1, vI (m16 582 15), vU, vU, vU] (vI z :: [vR 582]) m16 Q T) (show (if (m16 587 0) = 1 then (if (m16 587 1) = 5 then (if (m16 589 1) = 40 then (if (m16 587 2) = 1 then (if (m16 587 3) = 5 then (if (m16 589 3) = 58 then 1 else 0 : Int) else 0 : Int) else 0 : Int) else 0 : Int) else 0 : Int) else 0 : Int) = 0 by rw [if_pos c5, if_pos c6, if_pos c7, if_pos c8, if_neg c9])) K
          ·
            have c9 := Decidable.of_not_not c9
            have hs := ifT c9 hs
            have g6 := hs
            refine b_aload_n dX10_line_180 rfl ?_
            refine b_getR dX10_line_181 fk_X10_99 ly_582 gg_582_7 ?_
            refine b_iconst dX10_line_184 ?_
            refine b_lald dX10_line_185 ly_589 (by decide) ?_
            refine b_ldc2 (58) dX10_line_186 q2041 (by decide) ?_
            refine b_lc_ne 197 dX10_line_189 dX10_line_190 g6 (by decide) (by decide) (fun c10 => ?_) (fun c10 => ?_)
            ·
              refine b_iconst dX10_line_197 ?_
              exact Eq.mp (congrArg (fun z => B f M_X10_line 198 [vR 582, vI x1, vI (m16 582 15), vU, vU, vU] (vI z :: [vR 582]) m16 Q T) (show (if (m16 587 0) = 1 then (if (m16 587 1) = 5 then (if (m16 589 1) = 40 then (if (m16 587 2) = 1 then (if (m16 587 3) = 5 then (if (m16 589 3) = 58 then 1 else 0 : Int) else 0 : Int) else 0 : Int) else 0 : Int) else 0 : Int) else 0 : Int) = 0 by rw [if_pos c5, if_pos c6, if_pos c7, if_pos c8, if_pos c9, if_neg c10])) K
            ·
              have c10 := Decidable.of_not_not c10
              refine b_iconst dX10_line_193 ?_
              refine b_goto 198 dX10_line_194 (by decide) ?_
              exact Eq.mp (congrArg (fun z => B f M_X10_line 198 [vR 582, vI x1, vI (m16 582 15), vU, vU, vU] (vI z :: [vR 582]) m16 Q T) (show (if (m16 587 0) = 1 then (if (m16 587 1) = 5 then (if (m16 589 1) = 40 then (if (m16 587 2) = 1 then (if (m16 587 3) = 5 then (if (m16 589 3) = 58 then 1 else 0 : Int) else 0 : Int) else 0 : Int) else 0 : Int) else 0 : Int) else 0 : Int) = 1 by rw [if_pos c5, if_pos c6, if_pos c7, if_pos c8, if_pos c9, if_pos c10])) K
theorem pl_X10_line_17 {f : Nat} {Q : Int → MM → Prop} {T : MM → Prop} (hf : 330 ≤ f) : ∀ (n : Nat) (x1 : Int) (x2 : Int) (m : MM), P_X10_line_17 Q n x1 x2 m → B f M_X10_line 17 [vR 582, vI x1, vI x2, vU, vU, vU] [] m Q T := by
  intro n
  induction n with
  | zero => intro x1 x2 m h; exact h.elim
  | succ n ih =>
    intro x1 x2 m h
    have h : (RI x2) ∧ (RI x1) ∧ (if x1 ≤ x2 then P_X10_line_40 Q x1 m else (0 ≤ x2 ∧ x2 < 400) ∧ ∀ m1 : MM, m1 = up m 586 x2 (m 585 x2) → P_X10_line_17 Q n x1 (x2 + 1) m1) := h
    refine b_iload_n dX10_line_17 rfl ?_
    refine b_iload_n dX10_line_18 rfl ?_
    obtain ⟨g1, h⟩ := h
    obtain ⟨g2, h⟩ := h
    refine b_icmp_ge 40 dX10_line_19 g1 g2 (by decide) (fun c1 => ?_) (fun c1 => ?_)
    · have h := ifT c1 h
      refine b_fgt [true, true, false, false, false, false] (ls' := [vR 582, vI x1, vU, vU, vU, vU]) rfl rfl ?_
      exact pl_X10_line_40 hf _ _ h
    · have h := ifF c1 h
      refine b_aload_n dX10_line_22 rfl ?_
      refine b_getR dX10_line_23 fk_X10_90 ly_582 gg_582_3 ?_
      refine b_iload_n dX10_line_26 rfl ?_
      refine b_aload_n dX10_line_27 rfl ?_
      refine b_getR dX10_line_28 fk_X10_86 ly_582 gg_582_2 ?_
      refine b_iload_n dX10_line_31 rfl ?_
      obtain ⟨g3, h⟩ := h
      refine b_iald dX10_line_32 ly_585 g3 ?_
      refine b_iast dX10_line_33 ly_586 g3 (fun m1 em1 => ?_)
      have h := h m1 em1
      refine b_iinc (ls' := [vR 582, vI x1, vI (x2 + 1), vU, vU, vU]) dX10_line_34 rfl rfl ?_
      refine b_goto 17 dX10_line_37 (by decide) ?_
      exact ih _ _ _ h
theorem p_X10_line {f : Nat} {Q : Int → MM → Prop} {T : MM → Prop} (hf : 330 ≤ f) (x1 : Int) (m : MM) (h : P_X10_line x1 m Q) : CC f M_X10_line [vR 582, vI x1] m Q T := by
  refine CC.of (plainFor_of_name (by decide)) (Nat.le_of_ble_eq_true rfl) (ls := [vR 582, vI x1, vU, vU, vU, vU]) rfl ?_
  have h : (RI x1) ∧ (if x1 < 0 then Q (-100) m else (RI (m 582 4)) ∧ (if x1 ≤ (m 582 4) then ∃ nn, P_X10_line_17 Q nn x1 0 m else Q (-100) m)) := h
  refine b_iload_n dX10_line_0 rfl ?_
  obtain ⟨g1, h⟩ := h
  refine b_if_lt 12 dX10_line_1 g1 (by decide) (fun c1 => ?_) (fun c1 => ?_)
  · have h := ifT c1 h
    refine b_bipush dX10_line_12 (by decide) ?_
    exact b_iret dX10_line_14 rfl h
  · have h := ifF c1 h
    refine b_iload_n dX10_line_4 rfl ?_
    refine b_aload_n dX10_line_5 rfl ?_
    refine b_getI dX10_line_6 fk_X10_310 ly_582 ?_
    obtain ⟨g2, h⟩ := h
    refine b_icmp_le 15 dX10_line_9 g1 g2 (by decide) (fun c2 => ?_) (fun c2 => ?_)
    · have h := ifT c2 h
      refine b_iconst dX10_line_15 ?_
      refine b_istore_n (ls' := [vR 582, vI x1, vI 0, vU, vU, vU]) dX10_line_16 (Nat.le_of_ble_eq_true rfl) rfl ?_
      obtain ⟨nn, h⟩ := h
      exact pl_X10_line_17 hf nn _ _ _ h
    · have h := ifF c2 h
      refine b_bipush dX10_line_12 (by decide) ?_
      exact b_iret dX10_line_14 rfl h
theorem dX10_meant_0 : decode cX10_meant 0 = .ok (.iload_n 3, 1) := by decide +kernel
theorem dX10_meant_1 : decode cX10_meant 1 = .ok (.iconst (-1), 1) := by decide +kernel
theorem dX10_meant_2 : decode cX10_meant 2 = .ok (.if_icmp .ne 7, 3) := by decide +kernel
theorem dX10_meant_5 : decode cX10_meant 5 = .ok (.iconst 0, 1) := by decide +kernel
theorem dX10_meant_6 : decode cX10_meant 6 = .ok (.goto 24, 3) := by decide +kernel
theorem dX10_meant_9 : decode cX10_meant 9 = .ok (.iload 4, 2) := by decide +kernel
theorem dX10_meant_11 : decode cX10_meant 11 = .ok (.iconst (-1), 1) := by decide +kernel
theorem dX10_meant_12 : decode cX10_meant 12 = .ok (.if_icmp .ne 7, 3) := by decide +kernel
theorem dX10_meant_15 : decode cX10_meant 15 = .ok (.iconst 1, 1) := by decide +kernel
theorem dX10_meant_16 : decode cX10_meant 16 = .ok (.goto 14, 3) := by decide +kernel
theorem dX10_meant_19 : decode cX10_meant 19 = .ok (.iload 5, 2) := by decide +kernel
theorem dX10_meant_21 : decode cX10_meant 21 = .ok (.iconst (-1), 1) := by decide +kernel
theorem dX10_meant_22 : decode cX10_meant 22 = .ok (.if_icmp .ne 7, 3) := by decide +kernel
theorem dX10_meant_25 : decode cX10_meant 25 = .ok (.iconst 2, 1) := by decide +kernel
theorem dX10_meant_26 : decode cX10_meant 26 = .ok (.goto 4, 3) := by decide +kernel
theorem dX10_meant_29 : decode cX10_meant 29 = .ok (.iconst 3, 1) := by decide +kernel
theorem dX10_meant_30 : decode cX10_meant 30 = .ok (.istore 7, 2) := by decide +kernel
theorem dX10_meant_32 : decode cX10_meant 32 = .ok (.iload 7, 2) := by decide +kernel
theorem dX10_meant_34 : decode cX10_meant 34 = .ok (.ifCond .eq 14, 3) := by decide +kernel
theorem dX10_meant_37 : decode cX10_meant 37 = .ok (.iload 6, 2) := by decide +kernel
theorem dX10_meant_39 : decode cX10_meant 39 = .ok (.ifCond .lt 9, 3) := by decide +kernel
theorem dX10_meant_42 : decode cX10_meant 42 = .ok (.iload 6, 2) := by decide +kernel
theorem dX10_meant_44 : decode cX10_meant 44 = .ok (.iconst 3, 1) := by decide +kernel
theorem dX10_meant_45 : decode cX10_meant 45 = .ok (.if_icmp .le 5, 3) := by decide +kernel
theorem dX10_meant_48 : decode cX10_meant 48 = .ok (.iconst (-1), 1) := by decide +kernel
theorem dX10_meant_49 : decode cX10_meant 49 = .ok (.ireturn, 1) := by decide +kernel
theorem dX10_meant_50 : decode cX10_meant 50 = .ok (.iconst 0, 1) := by decide +kernel
theorem dX10_meant_51 : decode cX10_meant 51 = .ok (.istore 8, 2) := by decide +kernel
theorem dX10_meant_53 : decode cX10_meant 53 = .ok (.iload 8, 2) := by decide +kernel
theorem dX10_meant_55 : decode cX10_meant 55 = .ok (.iload 7, 2) := by decide +kernel
theorem dX10_meant_57 : decode cX10_meant 57 = .ok (.if_icmp .ge 91, 3) := by decide +kernel
theorem dX10_meant_60 : decode cX10_meant 60 = .ok (.iload 8, 2) := by decide +kernel
theorem dX10_meant_62 : decode cX10_meant 62 = .ok (.ifCond .ne 7, 3) := by decide +kernel
theorem dX10_meant_65 : decode cX10_meant 65 = .ok (.iload_n 3, 1) := by decide +kernel
theorem dX10_meant_66 : decode cX10_meant 66 = .ok (.goto 16, 3) := by decide +kernel
theorem dX10_meant_69 : decode cX10_meant 69 = .ok (.iload 8, 2) := by decide +kernel
theorem dX10_meant_71 : decode cX10_meant 71 = .ok (.iconst 1, 1) := by decide +kernel
theorem dX10_meant_72 : decode cX10_meant 72 = .ok (.if_icmp .ne 8, 3) := by decide +kernel
theorem dX10_meant_75 : decode cX10_meant 75 = .ok (.iload 4, 2) := by decide +kernel
theorem dX10_meant_77 : decode cX10_meant 77 = .ok (.goto 5, 3) := by decide +kernel
theorem dX10_meant_80 : decode cX10_meant 80 = .ok (.iload 5, 2) := by decide +kernel
theorem dX10_meant_82 : decode cX10_meant 82 = .ok (.istore 9, 2) := by decide +kernel
theorem dX10_meant_84 : decode cX10_meant 84 = .ok (.iload 9, 2) := by decide +kernel
theorem dX10_meant_86 : decode cX10_meant 86 = .ok (.ifCond .lt 12, 3) := by decide +kernel
theorem dX10_meant_89 : decode cX10_meant 89 = .ok (.iload 9, 2) := by decide +kernel
theorem dX10_meant_91 : decode cX10_meant 91 = .ok (.aload_n 0, 1) := by decide +kernel
theorem dX10_meant_92 : decode cX10_meant 92 = .ok (.getfield 523, 3) := by decide +kernel
theorem dX10_meant_95 : decode cX10_meant 95 = .ok (.if_icmp .lt 5, 3) := by decide +kernel
theorem dX10_meant_98 : decode cX10_meant 98 = .ok (.iconst (-1), 1) := by decide +kernel
theorem dX10_meant_99 : decode cX10_meant 99 = .ok (.ireturn, 1) := by decide +kernel
theorem dX10_meant_100 : decode cX10_meant 100 = .ok (.aload_n 0, 1) := by decide +kernel
theorem dX10_meant_101 : decode cX10_meant 101 = .ok (.getfield 240, 3) := by decide +kernel
theorem dX10_meant_104 : decode cX10_meant 104 = .ok (.iload 8, 2) := by decide +kernel
theorem dX10_meant_106 : decode cX10_meant 106 = .ok (.aload_n 0, 1) := by decide +kernel
theorem dX10_meant_107 : decode cX10_meant 107 = .ok (.getfield 215, 3) := by decide +kernel
theorem dX10_meant_110 : decode cX10_meant 110 = .ok (.iload 9, 2) := by decide +kernel
theorem dX10_meant_112 : decode cX10_meant 112 = .ok (.iaload, 1) := by decide +kernel
theorem dX10_meant_113 : decode cX10_meant 113 = .ok (.iastore, 1) := by decide +kernel
theorem dX10_meant_114 : decode cX10_meant 114 = .ok (.aload_n 0, 1) := by decide +kernel
theorem dX10_meant_115 : decode cX10_meant 115 = .ok (.getfield 243, 3) := by decide +kernel
theorem dX10_meant_118 : decode cX10_meant 118 = .ok (.iload 8, 2) := by decide +kernel
theorem dX10_meant_120 : decode cX10_meant 120 = .ok (.aload_n 0, 1) := by decide +kernel
theorem dX10_meant_121 : decode cX10_meant 121 = .ok (.getfield 218, 3) := by decide +kernel
theorem dX10_meant_124 : decode cX10_meant 124 = .ok (.iload 9, 2) := by decide +kernel
theorem dX10_meant_126 : decode cX10_meant 126 = .ok (.iaload, 1) := by decide +kernel
theorem dX10_meant_127 : decode cX10_meant 127 = .ok (.iastore, 1) := by decide +kernel
theorem dX10_meant_128 : decode cX10_meant 128 = .ok (.aload_n 0, 1) := by decide +kernel
theorem dX10_meant_129 : decode cX10_meant 129 = .ok (.getfield 246, 3) := by decide +kernel
theorem dX10_meant_132 : decode cX10_meant 132 = .ok (.iload 8, 2) := by decide +kernel
theorem dX10_meant_134 : decode cX10_meant 134 = .ok (.aload_n 0, 1) := by decide +kernel
theorem dX10_meant_135 : decode cX10_meant 135 = .ok (.getfield 221, 3) := by decide +kernel
theorem dX10_meant_138 : decode cX10_meant 138 = .ok (.iload 9, 2) := by decide +kernel
theorem dX10_meant_140 : decode cX10_meant 140 = .ok (.iaload, 1) := by decide +kernel
theorem dX10_meant_141 : decode cX10_meant 141 = .ok (.iastore, 1) := by decide +kernel
theorem dX10_meant_142 : decode cX10_meant 142 = .ok (.iinc 8 1, 3) := by decide +kernel
theorem dX10_meant_145 : decode cX10_meant 145 = .ok (.goto (-92), 3) := by decide +kernel
theorem dX10_meant_148 : decode cX10_meant 148 = .ok (.aload_n 0, 1) := by decide +kernel
theorem dX10_meant_149 : decode cX10_meant 149 = .ok (.iload 7, 2) := by decide +kernel
theorem dX10_meant_151 : decode cX10_meant 151 = .ok (.putfield 566, 3) := by decide +kernel
theorem dX10_meant_154 : decode cX10_meant 154 = .ok (.lconst 0, 1) := by decide +kernel
theorem dX10_meant_155 : decode cX10_meant 155 = .ok (.lstore 8, 2) := by decide +kernel
theorem dX10_meant_157 : decode cX10_meant 157 = .ok (.bipush 56, 2) := by decide +kernel
theorem dX10_meant_159 : decode cX10_meant 159 = .ok (.istore 10, 2) := by decide +kernel
theorem dX10_meant_161 : decode cX10_meant 161 = .ok (.iload 10, 2) := by decide +kernel
theorem dX10_meant_163 : decode cX10_meant 163 = .ok (.ifCond .lt 38, 3) := by decide +kernel
theorem dX10_meant_166 : decode cX10_meant 166 = .ok (.lload_n 1, 1) := by decide +kernel
theorem dX10_meant_167 : decode cX10_meant 167 = .ok (.iload 10, 2) := by decide +kernel
theorem dX10_meant_169 : decode cX10_meant 169 = .ok (.lshr, 1) := by decide +kernel
theorem dX10_meant_170 : decode cX10_meant 170 = .ok (.ldc2_w 934, 3) := by decide +kernel
theorem dX10_meant_173 : decode cX10_meant 173 = .ok (.land, 1) := by decide +kernel
theorem dX10_meant_174 : decode cX10_meant 174 = .ok (.lconst 0, 1) := by decide +kernel
theorem dX10_meant_175 : decode cX10_meant 175 = .ok (.lcmp, 1) := by decide +kernel
theorem dX10_meant_176 : decode cX10_meant 176 = .ok (.ifCond .eq 19, 3) := by decide +kernel
theorem dX10_meant_179 : decode cX10_meant 179 = .ok (.lload 8, 2) := by decide +kernel
theorem dX10_meant_181 : decode cX10_meant 181 = .ok (.bipush 8, 2) := by decide +kernel
theorem dX10_meant_183 : decode cX10_meant 183 = .ok (.lshl, 1) := by decide +kernel
theorem dX10_meant_184 : decode cX10_meant 184 = .ok (.lload_n 1, 1) := by decide +kernel
theorem dX10_meant_185 : decode cX10_meant 185 = .ok (.iload 10, 2) := by decide +kernel
theorem dX10_meant_187 : decode cX10_meant 187 = .ok (.lshr, 1) := by decide +kernel
theorem dX10_meant_188 : decode cX10_meant 188 = .ok (.ldc2_w 934, 3) := by decide +kernel
theorem dX10_meant_191 : decode cX10_meant 191 = .ok (.land, 1) := by decide +kernel
theorem dX10_meant_192 : decode cX10_meant 192 = .ok (.lor, 1) := by decide +kernel
theorem dX10_meant_193 : decode cX10_meant 193 = .ok (.lstore 8, 2) := by decide +kernel
theorem dX10_meant_195 : decode cX10_meant 195 = .ok (.iinc 10 (-8), 3) := by decide +kernel
theorem dX10_meant_198 : decode cX10_meant 198 = .ok (.goto (-37), 3) := by decide +kernel
theorem dX10_meant_201 : decode cX10_meant 201 = .ok (.aload_n 0, 1) := by decide +kernel
theorem dX10_meant_202 : decode cX10_meant 202 = .ok (.lload 8, 2) := by decide +kernel
theorem dX10_meant_204 : decode cX10_meant 204 = .ok (.aload_n 0, 1) := by decide +kernel
theorem dX10_meant_205 : decode cX10_meant 205 = .ok (.getfield 591, 3) := by decide +kernel
theorem dX10_meant_208 : decode cX10_meant 208 = .ok (.invokevirtual 594, 3) := by decide +kernel
theorem dX10_meant_211 : decode cX10_meant 211 = .ok (.istore 10, 2) := by decide +kernel
theorem dX10_meant_213 : decode cX10_meant 213 = .ok (.iload 10, 2) := by decide +kernel
theorem dX10_meant_215 : decode cX10_meant 215 = .ok (.ifCond .lt 8, 3) := by decide +kernel
theorem dX10_meant_218 : decode cX10_meant 218 = .ok (.iload 6, 2) := by decide +kernel
theorem dX10_meant_220 : decode cX10_meant 220 = .ok (.ifCond .ne 6, 3) := by decide +kernel
theorem dX10_meant_223 : decode cX10_meant 223 = .ok (.iload 10, 2) := by decide +kernel
theorem dX10_meant_225 : decode cX10_meant 225 = .ok (.ireturn, 1) := by decide +kernel
theorem dX10_meant_226 : decode cX10_meant 226 = .ok (.aload_n 0, 1) := by decide +kernel
theorem dX10_meant_227 : decode cX10_meant 227 = .ok (.getfield 170, 3) := by decide +kernel
theorem dX10_meant_230 : decode cX10_meant 230 = .ok (.iload 10, 2) := by decide +kernel
theorem dX10_meant_232 : decode cX10_meant 232 = .ok (.iaload, 1) := by decide +kernel
theorem dX10_meant_233 : decode cX10_meant 233 = .ok (.ifCond .ne 5, 3) := by decide +kernel
theorem dX10_meant_236 : decode cX10_meant 236 = .ok (.iconst (-1), 1) := by decide +kernel
theorem dX10_meant_237 : decode cX10_meant 237 = .ok (.ireturn, 1) := by decide +kernel
theorem dX10_meant_238 : decode cX10_meant 238 = .ok (.iload 6, 2) := by decide +kernel
theorem dX10_meant_240 : decode cX10_meant 240 = .ok (.iconst 1, 1) := by decide +kernel
theorem dX10_meant_241 : decode cX10_meant 241 = .ok (.if_icmp .ne 10, 3) := by decide +kernel
theorem dX10_meant_244 : decode cX10_meant 244 = .ok (.aload_n 0, 1) := by decide +kernel
theorem dX10_meant_245 : decode cX10_meant 245 = .ok (.getfield 582, 3) := by decide +kernel
theorem dX10_meant_248 : decode cX10_meant 248 = .ok (.goto 20, 3) := by decide +kernel
theorem dX10_meant_251 : decode cX10_meant 251 = .ok (.iload 6, 2) := by decide +kernel
theorem dX10_meant_253 : decode cX10_meant 253 = .ok (.iconst 2, 1) := by decide +kernel
theorem dX10_meant_254 : decode cX10_meant 254 = .ok (.if_icmp .ne 10, 3) := by decide +kernel
theorem dX10_meant_257 : decode cX10_meant 257 = .ok (.aload_n 0, 1) := by decide +kernel
theorem dX10_meant_258 : decode cX10_meant 258 = .ok (.getfield 585, 3) := by decide +kernel
theorem dX10_meant_261 : decode cX10_meant 261 = .ok (.goto 7, 3) := by decide +kernel
theorem dX10_meant_264 : decode cX10_meant 264 = .ok (.aload_n 0, 1) := by decide +kernel
theorem dX10_meant_265 : decode cX10_meant 265 = .ok (.getfield 588, 3) := by decide +kernel
theorem dX10_meant_268 : decode cX10_meant 268 = .ok (.ireturn, 1) := by decide +kernel
/-! AlgebraHouseModel.meant(JIIII)I -/
def P_X10_meant_201 (Q : Int → MM → Prop) (x6 : Int) (x8 : Int) (m : MM) : Prop := P_X10_meantOf x8 (m 582 32) m (fun r1 m1 => (RI r1) ∧ (if r1 < 0 then Q r1 m1 else (RI x6) ∧ (if x6 = 0 then Q r1 m1 else (0 ≤ r1 ∧ r1 < 21) ∧ (RI (m1 611 r1)) ∧ (if (m1 611 r1) = 0 then Q (-1) m1 else (if x6 = 1 then Q (m1 582 81) m1 else (if x6 = 2 then Q (m1 582 82) m1 else Q (m1 582 83) m1))))))
def P_X10_meant_161 (Q : Int → MM → Prop) : Nat → Int → Int → Int → Int → MM → Prop
  | 0, _, _, _, _, _ => False
  | n + 1, x1, x6, x8, x10, m => (RI x10) ∧ (if x10 < 0 then P_X10_meant_201 Q x6 x8 m else (RL (lAnd (lShr x1 x10) 255)) ∧ (if (lAnd (lShr x1 x10) 255) = 0 then P_X10_meant_161 Q n x1 x6 x8 (x10 + (-8)) m else P_X10_meant_161 Q n x1 x6 (lOr (lShl x8 8) (lAnd (lShr x1 x10) 255)) (x10 + (-8)) m))
def P_X10_meant_148 (Q : Int → MM → Prop) (x1 : Int) (x6 : Int) (x7 : Int) (m : MM) : Prop := ∀ m1 : MM, m1 = up m 582 73 x7 → ∃ nn, P_X10_meant_161 Q nn x1 x6 0 56 m1
def P_X10_meant_53 (Q : Int → MM → Prop) : Nat → Int → Int → Int → Int → Int → Int → Int → MM → Prop
  | 0, _, _, _, _, _, _, _, _ => False
  | n + 1, x1, x3, x4, x5, x6, x7, x8, m => (RI x8) ∧ (RI x7) ∧ (if x7 ≤ x8 then P_X10_meant_148 Q x1 x6 x7 m else (RI (if x8 = 0 then x3 else (if x8 = 1 then x4 else x5 : Int) : Int)) ∧ (if (if x8 = 0 then x3 else (if x8 = 1 then x4 else x5 : Int) : Int) < 0 then Q (-1) m else (RI (m 582 34)) ∧ (if (if x8 = 0 then x3 else (if x8 = 1 then x4 else x5 : Int) : Int) < (m 582 34) then (0 ≤ (if x8 = 0 then x3 else (if x8 = 1 then x4 else x5 : Int) : Int) ∧ (if x8 = 0 then x3 else (if x8 = 1 then x4 else x5 : Int) : Int) < 200) ∧ (0 ≤ x8 ∧ x8 < 3) ∧ ∀ m1 : MM, m1 = up m 632 x8 (m 626 (if x8 = 0 then x3 else (if x8 = 1 then x4 else x5 : Int) : Int)) → ∀ m2 : MM, m2 = up m1 633 x8 (m1 627 (if x8 = 0 then x3 else (if x8 = 1 then x4 else x5 : Int) : Int)) → ∀ m3 : MM, m3 = up m2 634 x8 (m2 628 (if x8 = 0 then x3 else (if x8 = 1 then x4 else x5 : Int) : Int)) → P_X10_meant_53 Q n x1 x3 x4 x5 x6 x7 (x8 + 1) m3 else Q (-1) m)))
def P_X10_meant (x1 : Int) (x3 : Int) (x4 : Int) (x5 : Int) (x6 : Int) (m : MM) (Q : Int → MM → Prop) : Prop := ((RI x3) ∧ (if x3 = (-1) then True else ((RI x4) ∧ (if x4 = (-1) then True else ((RI x5)))))) ∧ (RI (if x3 = (-1) then 0 else (if x4 = (-1) then 1 else (if x5 = (-1) then 2 else 3 : Int) : Int) : Int)) ∧ (if (if x3 = (-1) then 0 else (if x4 = (-1) then 1 else (if x5 = (-1) then 2 else 3 : Int) : Int) : Int) = 0 then Q (-1) m else (RI x6) ∧ (if x6 < 0 then Q (-1) m else (if x6 ≤ 3 then ∃ nn, P_X10_meant_53 Q nn x1 x3 x4 x5 x6 (if x3 = (-1) then 0 else (if x4 = (-1) then 1 else (if x5 = (-1) then 2 else 3 : Int) : Int) : Int) 0 m else Q (-1) m)))
theorem pl_X10_meant_201 {f : Nat} {Q : Int → MM → Prop} {T : MM → Prop} (hf : 6 ≤ f) : ∀ (x6 : Int) (x8 : Int) (m : MM), P_X10_meant_201 Q x6 x8 m → B f M_X10_meant 201 [vR 582, vU, vU, vU, vU, vU, vI x6, vU, vL x8, vU, vU] [] m Q T := by
  intro x6 x8 m h
  have h : P_X10_meantOf x8 (m 582 32) m (fun r1 m1 => (RI r1) ∧ (if r1 < 0 then Q r1 m1 else (RI x6) ∧ (if x6 = 0 then Q r1 m1 else (0 ≤ r1 ∧ r1 < 21) ∧ (RI (m1 611 r1)) ∧ (if (m1 611 r1) = 0 then Q (-1) m1 else (if x6 = 1 then Q (m1 582 81) m1 else (if x6 = 2 then Q (m1 582 82) m1 else Q (m1 582 83) m1)))))) := h
  refine b_aload_n dX10_meant_201 rfl ?_
  refine b_lload dX10_meant_202 rfl ?_
  refine b_aload_n dX10_meant_204 rfl ?_
  refine b_getI dX10_meant_205 fk_X10_591 ly_582 ?_
  refine b_cVi (as := [vL x8, vI (m 582 32)]) (st := []) dX10_meant_208 mf_X10_meantOf qs140 lk_X10_594 ly_582 rfl (p_X10_meantOf (f := 5) (Nat.le_refl _) _ _ _ h) (by omega) rfl rfl (Nat.le_of_ble_eq_true rfl) (by decide) rfl (fun _ => rfl) (fun r1 m1 h => ?_) (fun _ h => h)
  refine b_istore (ls' := [vR 582, vU, vU, vU, vU, vU, vI x6, vU, vL x8, vU, vI r1]) dX10_meant_211 (Nat.le_of_ble_eq_true rfl) rfl ?_
  refine b_iload dX10_meant_213 rfl ?_
  obtain ⟨g1, h⟩ := h
  refine b_if_lt 223 dX10_meant_215 g1 (by decide) (fun c1 => ?_) (fun c1 => ?_)
  · have h := ifT c1 h
    refine b_iload dX10_meant_223 rfl ?_
    exact b_iret dX10_meant_225 rfl h
  · have h := ifF c1 h
    refine b_iload dX10_meant_218 rfl ?_
    obtain ⟨g2, h⟩ := h
    refine b_if_ne 226 dX10_meant_220 g2 (by decide) (fun c2 => ?_) (fun c2 => ?_)
    · have h := ifF c2 h
      refine b_aload_n dX10_meant_226 rfl ?_
      refine b_getR dX10_meant_227 fk_X10_170 ly_582 gg_582_40 ?_
      refine b_iload dX10_meant_230 rfl ?_
      obtain ⟨g3, h⟩ := h
      refine b_iald dX10_meant_232 ly_611 g3 ?_
      obtain ⟨g4, h⟩ := h
      refine b_if_ne 238 dX10_meant_233 g4 (by decide) (fun c3 => ?_) (fun c3 => ?_)
      · have h := ifF c3 h
        refine b_iload dX10_meant_238 rfl ?_
        refine b_iconst dX10_meant_240 ?_
        refine b_icmp_ne 251 dX10_meant_241 g2 (by decide) (by decide) (fun c4 => ?_) (fun c4 => ?_)
        · have h := ifF c4 h
          refine b_iload dX10_meant_251 rfl ?_
          refine b_iconst dX10_meant_253 ?_
          refine b_icmp_ne 264 dX10_meant_254 g2 (by decide) (by decide) (fun c5 => ?_) (fun c5 => ?_)
          · have h := ifF c5 h
            refine b_aload_n dX10_meant_264 rfl ?_
            refine b_getI dX10_meant_265 fk_X10_588 ly_582 ?_
            exact b_iret dX10_meant_268 rfl h
          · have h := ifT (Decidable.of_not_not c5) h
            refine b_aload_n dX10_meant_257 rfl ?_
            refine b_getI dX10_meant_258 fk_X10_585 ly_582 ?_
            refine b_goto 268 dX10_meant_261 (by decide) ?_
            exact b_iret dX10_meant_268 rfl h
        · have h := ifT (Decidable.of_not_not c4) h
          refine b_aload_n dX10_meant_244 rfl ?_
          refine b_getI dX10_meant_245 fk_X10_582 ly_582 ?_
          refine b_goto 268 dX10_meant_248 (by decide) ?_
          exact b_iret dX10_meant_268 rfl h
      · have h := ifT (Decidable.of_not_not c3) h
        refine b_iconst dX10_meant_236 ?_
        exact b_iret dX10_meant_237 rfl h
    · have h := ifT (Decidable.of_not_not c2) h
      refine b_iload dX10_meant_223 rfl ?_
      exact b_iret dX10_meant_225 rfl h
theorem pl_X10_meant_161 {f : Nat} {Q : Int → MM → Prop} {T : MM → Prop} (hf : 6 ≤ f) : ∀ (n : Nat) (x1 : Int) (x6 : Int) (x8 : Int) (x10 : Int) (m : MM), P_X10_meant_161 Q n x1 x6 x8 x10 m → B f M_X10_meant 161 [vR 582, vL x1, vU, vU, vU, vU, vI x6, vU, vL x8, vU, vI x10] [] m Q T := by
  intro n
  induction n with
  | zero => intro x1 x6 x8 x10 m h; exact h.elim
  | succ n ih =>
    intro x1 x6 x8 x10 m h
    have h : (RI x10) ∧ (if x10 < 0 then P_X10_meant_201 Q x6 x8 m else (RL (lAnd (lShr x1 x10) 255)) ∧ (if (lAnd (lShr x1 x10) 255) = 0 then P_X10_meant_161 Q n x1 x6 x8 (x10 + (-8)) m else P_X10_meant_161 Q n x1 x6 (lOr (lShl x8 8) (lAnd (lShr x1 x10) 255)) (x10 + (-8)) m)) := h
    refine b_iload dX10_meant_161 rfl ?_
    obtain ⟨g1, h⟩ := h
    refine b_if_lt 201 dX10_meant_163 g1 (by decide) (fun c1 => ?_) (fun c1 => ?_)
    · have h := ifT c1 h
      refine b_fgt [true, false, false, false, false, false, true, false, true, false, false] (ls' := [vR 582, vU, vU, vU, vU, vU, vI x6, vU, vL x8, vU, vU]) rfl rfl ?_
      exact pl_X10_meant_201 hf _ _ _ h
    · have h := ifF c1 h
      refine b_lload_n dX10_meant_166 rfl ?_
      refine b_iload dX10_meant_167 rfl ?_
      refine b_lshr dX10_meant_169 ?_
      refine b_ldc2 (255) dX10_meant_170 q2601 (by decide) ?_
      refine b_land dX10_meant_173 ?_
      refine b_lconst 0 dX10_meant_174 (by decide) ?_
      obtain ⟨g2, h⟩ := h
      refine b_lc_eq 195 dX10_meant_175 dX10_meant_176 g2 (by decide) (by decide) (fun c2 => ?_) (fun c2 => ?_)
      · have h := ifT c2 h
        refine b_iinc (ls' := [vR 582, vL x1, vU, vU, vU, vU, vI x6, vU, vL x8, vU, vI (x10 + (-8))]) dX10_meant_195 rfl rfl ?_
        refine b_goto 161 dX10_meant_198 (by decide) ?_
        exact ih _ _ _ _ _ h
      · have h := ifF c2 h
        refine b_lload dX10_meant_179 rfl ?_
        refine b_bipush dX10_meant_181 (by decide) ?_
        refine b_lshl dX10_meant_183 ?_
        refine b_lload_n dX10_meant_184 rfl ?_
        refine b_iload dX10_meant_185 rfl ?_
        refine b_lshr dX10_meant_187 ?_
        refine b_ldc2 (255) dX10_meant_188 q2601 (by decide) ?_
        refine b_land dX10_meant_191 ?_
        refine b_lor dX10_meant_192 ?_
        refine b_lstore (ls' := [vR 582, vL x1, vU, vU, vU, vU, vI x6, vU, vL (lOr (lShl x8 8) (lAnd (lShr x1 x10) 255)), vU, vI x10]) dX10_meant_193 (Nat.le_of_ble_eq_true rfl) rfl ?_
        refine b_iinc (ls' := [vR 582, vL x1, vU, vU, vU, vU, vI x6, vU, vL (lOr (lShl x8 8) (lAnd (lShr x1 x10) 255)), vU, vI (x10 + (-8))]) dX10_meant_195 rfl rfl ?_
        refine b_goto 161 dX10_meant_198 (by decide) ?_
        exact ih _ _ _ _ _ h
theorem pl_X10_meant_148 {f : Nat} {Q : Int → MM → Prop} {T : MM → Prop} (hf : 6 ≤ f) : ∀ (x1 : Int) (x6 : Int) (x7 : Int) (m : MM), P_X10_meant_148 Q x1 x6 x7 m → B f M_X10_meant 148 [vR 582, vL x1, vU, vU, vU, vU, vI x6, vI x7, vU, vU, vU] [] m Q T := by
  intro x1 x6 x7 m h
  have h : ∀ m1 : MM, m1 = up m 582 73 x7 → ∃ nn, P_X10_meant_161 Q nn x1 x6 0 56 m1 := h
  refine b_aload_n dX10_meant_148 rfl ?_
  refine b_iload dX10_meant_149 rfl ?_
  refine b_putI dX10_meant_151 fk_X10_566 ly_582 (fun m1 em1 => ?_)
  have h := h m1 em1
  refine b_lconst 0 dX10_meant_154 (by decide) ?_
  refine b_lstore (ls' := [vR 582, vL x1, vU, vU, vU, vU, vI x6, vI x7, vL 0, vU, vU]) dX10_meant_155 (Nat.le_of_ble_eq_true rfl) rfl ?_
  refine b_bipush dX10_meant_157 (by decide) ?_
  refine b_istore (ls' := [vR 582, vL x1, vU, vU, vU, vU, vI x6, vI x7, vL 0, vU, vI 56]) dX10_meant_159 (Nat.le_of_ble_eq_true rfl) rfl ?_
  refine b_fgt [true, true, false, false, false, false, true, false, true, false, true] (ls' := [vR 582, vL x1, vU, vU, vU, vU, vI x6, vU, vL 0, vU, vI 56]) rfl rfl ?_
  obtain ⟨nn, h⟩ := h
  exact pl_X10_meant_161 hf nn _ _ _ _ _ h
theorem pl_X10_meant_53 {f : Nat} {Q : Int → MM → Prop} {T : MM → Prop} (hf : 6 ≤ f) : ∀ (n : Nat) (x1 : Int) (x3 : Int) (x4 : Int) (x5 : Int) (x6 : Int) (x7 : Int) (x8 : Int) (m : MM), P_X10_meant_53 Q n x1 x3 x4 x5 x6 x7 x8 m → B f M_X10_meant 53 [vR 582, vL x1, vU, vI x3, vI x4, vI x5, vI x6, vI x7, vI x8, vU, vU] [] m Q T := by
  intro n
  induction n with
  | zero => intro x1 x3 x4 x5 x6 x7 x8 m h; exact h.elim
  | succ n ih =>
    intro x1 x3 x4 x5 x6 x7 x8 m h
    have h : (RI x8) ∧ (RI x7) ∧ (if x7 ≤ x8 then P_X10_meant_148 Q x1 x6 x7 m else (RI (if x8 = 0 then x3 else (if x8 = 1 then x4 else x5 : Int) : Int)) ∧ (if (if x8 = 0 then x3 else (if x8 = 1 then x4 else x5 : Int) : Int) < 0 then Q (-1) m else (RI (m 582 34)) ∧ (if (if x8 = 0 then x3 else (if x8 = 1 then x4 else x5 : Int) : Int) < (m 582 34) then (0 ≤ (if x8 = 0 then x3 else (if x8 = 1 then x4 else x5 : Int) : Int) ∧ (if x8 = 0 then x3 else (if x8 = 1 then x4 else x5 : Int) : Int) < 200) ∧ (0 ≤ x8 ∧ x8 < 3) ∧ ∀ m1 : MM, m1 = up m 632 x8 (m 626 (if x8 = 0 then x3 else (if x8 = 1 then x4 else x5 : Int) : Int)) → ∀ m2 : MM, m2 = up m1 633 x8 (m1 627 (if x8 = 0 then x3 else (if x8 = 1 then x4 else x5 : Int) : Int)) → ∀ m3 : MM, m3 = up m2 634 x8 (m2 628 (if x8 = 0 then x3 else (if x8 = 1 then x4 else x5 : Int) : Int)) → P_X10_meant_53 Q n x1 x3 x4 x5 x6 x7 (x8 + 1) m3 else Q (-1) m))) := h
    refine b_iload dX10_meant_53 rfl ?_
    refine b_iload dX10_meant_55 rfl ?_
    obtain ⟨g1, h⟩ := h
    obtain ⟨g2, h⟩ := h
    refine b_icmp_ge 148 dX10_meant_57 g1 g2 (by decide) (fun c1 => ?_) (fun c1 => ?_)
    · have h := ifT c1 h
      refine b_fgt [true, true, false, false, false, false, true, true, false, false, false] (ls' := [vR 582, vL x1, vU, vU, vU, vU, vI x6, vI x7, vU, vU, vU]) rfl rfl ?_
      exact pl_X10_meant_148 hf _ _ _ _ h
    · have h := ifF c1 h
      refine b_iload dX10_meant_60 rfl ?_
      have K : B f M_X10_meant 82 [vR 582, vL x1, vU, vI x3, vI x4, vI x5, vI x6, vI x7, vI x8, vU, vU] [vI (if x8 = 0 then x3 else (if x8 = 1 then x4 else x5 : Int) : Int)] m Q T := by
        refine b_istore (ls' := [vR 582, vL x1, vU, vI x3, vI x4, vI x5, vI x6, vI x7, vI x8, vI (if x8 = 0 then x3 else (if x8 = 1 then x4 else x5 : Int) : Int), vU]) dX10_meant_82 (Nat.le_of_ble_eq_true rfl) rfl ?_
        refine b_iload dX10_meant_84 rfl ?_
        obtain ⟨g3, h⟩ := h
        refine b_if_lt 98 dX10_meant_86 g3 (by decide) (fun c2 => ?_) (fun c2 => ?_)
        · have h := ifT c2 h
          refine b_iconst dX10_meant_98 ?_
          exact b_iret dX10_meant_99 rfl h
        · have h := ifF c2 h
          refine b_iload dX10_meant_89 rfl ?_
          refine b_aload_n dX10_meant_91 rfl ?_
          refine b_getI dX10_meant_92 fk_X10_523 ly_582 ?_
          obtain ⟨g4, h⟩ := h
          refine b_icmp_lt 100 dX10_meant_95 g3 g4 (by decide) (fun c3 => ?_) (fun c3 => ?_)
          · have h := ifT c3 h
            refine b_aload_n dX10_meant_100 rfl ?_
            refine b_getR dX10_meant_101 fk_X10_240 ly_582 gg_582_78 ?_
            refine b_iload dX10_meant_104 rfl ?_
            refine b_aload_n dX10_meant_106 rfl ?_
            refine b_getR dX10_meant_107 fk_X10_215 ly_582 gg_582_55 ?_
            refine b_iload dX10_meant_110 rfl ?_
            obtain ⟨g5, h⟩ := h
            refine b_iald dX10_meant_112 ly_626 g5 ?_
            obtain ⟨g6, h⟩ := h
            refine b_iast dX10_meant_113 ly_632 g6 (fun m1 em1 => ?_)
            have h := h m1 em1
            refine b_aload_n dX10_meant_114 rfl ?_
            refine b_getR dX10_meant_115 fk_X10_243 ly_582 gg_582_79 ?_
            refine b_iload dX10_meant_118 rfl ?_
            refine b_aload_n dX10_meant_120 rfl ?_
            refine b_getR dX10_meant_121 fk_X10_218 ly_582 gg_582_56 ?_
            refine b_iload dX10_meant_124 rfl ?_
            refine b_iald dX10_meant_126 ly_627 g5 ?_
            refine b_iast dX10_meant_127 ly_633 g6 (fun m2 em2 => ?_)
            have h := h m2 em2
            refine b_aload_n dX10_meant_128 rfl ?_
            refine b_getR dX10_meant_129 fk_X10_246 ly_582 gg_582_80 ?_
            refine b_iload dX10_meant_132 rfl ?_
            refine b_aload_n dX10_meant_134 rfl ?_
            refine b_getR dX10_meant_135 fk_X10_221 ly_582 gg_582_57 ?_
            refine b_iload dX10_meant_138 rfl ?_
            refine b_iald dX10_meant_140 ly_628 g5 ?_
            refine b_iast dX10_meant_141 ly_634 g6 (fun m3 em3 => ?_)
            have h := h m3 em3
            refine b_iinc (ls' := [vR 582, vL x1, vU, vI x3, vI x4, vI x5, vI x6, vI x7, vI (x8 + 1), vI (if x8 = 0 then x3 else (if x8 = 1 then x4 else x5 : Int) : Int), vU]) dX10_meant_142 rfl rfl ?_
            refine b_goto 53 dX10_meant_145 (by decide) ?_
            refine b_fgt [true, true, false, true, true, true, true, true, true, false, false] (ls' := [vR 582, vL x1, vU, vI x3, vI x4, vI x5, vI x6, vI x7, vI (x8 + 1), vU, vU]) rfl rfl ?_
            exact ih _ _ _ _ _ _ _ _ h
          · have h := ifF c3 h
            refine b_iconst dX10_meant_98 ?_
            exact b_iret dX10_meant_99 rfl h
      refine b_if_ne 69 dX10_meant_62 g1 (by decide) (fun c4 => ?_) (fun c4 => ?_)
      ·
        refine b_iload dX10_meant_69 rfl ?_
        refine b_iconst dX10_meant_71 ?_
        refine b_icmp_ne 80 dX10_meant_72 g1 (by decide) (by decide) (fun c5 => ?_) (fun c5 => ?_)
        ·
          refine b_iload dX10_meant_80 rfl ?_
          exact Eq.mp (congrArg (fun z => B f M_X10_meant 82 [vR 582, vL x1, vU, vI x3, vI x4, vI x5, vI x6, vI x7, vI x8, vU, vU] (vI z :: []) m Q T) (show (if x8 = 0 then x3 else (if x8 = 1 then x4 else x5 : Int) : Int) = x5 by rw [if_neg c4, if_neg c5])) K
        ·
          have c5 := Decidable.of_not_not c5
          refine b_iload dX10_meant_75 rfl ?_
          refine b_goto 82 dX10_meant_77 (by decide) ?_
          exact Eq.mp (congrArg (fun z => B f M_X10_meant 82 [vR 582, vL x1, vU, vI x3, vI x4, vI x5, vI x6, vI x7, vI x8, vU, vU] (vI z :: []) m Q T) (show (if x8 = 0 then x3 else (if x8 = 1 then x4 else x5 : Int) : Int) = x4 by rw [if_neg c4, if_pos c5])) K
      ·
        have c4 := Decidable.of_not_not c4
        refine b_iload_n dX10_meant_65 rfl ?_
        refine b_goto 82 dX10_meant_66 (by decide) ?_
        exact Eq.mp (congrArg (fun z => B f M_X10_meant 82 [vR 582, vL x1, vU, vI x3, vI x4, vI x5, vI x6, vI x7, vI x8, vU, vU] (vI z :: []) m Q T) (show (if x8 = 0 then x3 else (if x8 = 1 then x4 else x5 : Int) : Int) = x3 by rw [if_pos c4])) K
theorem p_X10_meant {f : Nat} {Q : Int → MM → Prop} {T : MM → Prop} (hf : 6 ≤ f) (x1 : Int) (x3 : Int) (x4 : Int) (x5 : Int) (x6 : Int) (m : MM) (h : P_X10_meant x1 x3 x4 x5 x6 m Q) : CC f M_X10_meant [vR 582, vL x1, vI x3, vI x4, vI x5, vI x6] m Q T := by
  refine CC.of (plainFor_of_name (by decide)) (Nat.le_of_ble_eq_true rfl) (ls := [vR 582, vL x1, vU, vI x3, vI x4, vI x5, vI x6, vU, vU, vU, vU]) rfl ?_
  have h : ((RI x3) ∧ (if x3 = (-1) then True else ((RI x4) ∧ (if x4 = (-1) then True else ((RI x5)))))) ∧ (RI (if x3 = (-1) then 0 else (if x4 = (-1) then 1 else (if x5 = (-1) then 2 else 3 : Int) : Int) : Int)) ∧ (if (if x3 = (-1) then 0 else (if x4 = (-1) then 1 else (if x5 = (-1) then 2 else 3 : Int) : Int) : Int) = 0 then Q (-1) m else (RI x6) ∧ (if x6 < 0 then Q (-1) m else (if x6 ≤ 3 then ∃ nn, P_X10_meant_53 Q nn x1 x3 x4 x5 x6 (if x3 = (-1) then 0 else (if x4 = (-1) then 1 else (if x5 = (-1) then 2 else 3 : Int) : Int) : Int) 0 m else Q (-1) m))) := h
  refine b_iload_n dX10_meant_0 rfl ?_
  refine b_iconst dX10_meant_1 ?_
  obtain ⟨hs, h⟩ := h
  have K : B f M_X10_meant 30 [vR 582, vL x1, vU, vI x3, vI x4, vI x5, vI x6, vU, vU, vU, vU] [vI (if x3 = (-1) then 0 else (if x4 = (-1) then 1 else (if x5 = (-1) then 2 else 3 : Int) : Int) : Int)] m Q T := by
    clear hs
    refine b_istore (ls' := [vR 582, vL x1, vU, vI x3, vI x4, vI x5, vI x6, vI (if x3 = (-1) then 0 else (if x4 = (-1) then 1 else (if x5 = (-1) then 2 else 3 : Int) : Int) : Int), vU, vU, vU]) dX10_meant_30 (Nat.le_of_ble_eq_true rfl) rfl ?_
    refine b_iload dX10_meant_32 rfl ?_
    obtain ⟨g4, h⟩ := h
    refine b_if_eq 48 dX10_meant_34 g4 (by decide) (fun c1 => ?_) (fun c1 => ?_)
    · have h := ifT c1 h
      refine b_iconst dX10_meant_48 ?_
      exact b_iret dX10_meant_49 rfl h
    · have h := ifF c1 h
      refine b_iload dX10_meant_37 rfl ?_
      obtain ⟨g5, h⟩ := h
      refine b_if_lt 48 dX10_meant_39 g5 (by decide) (fun c2 => ?_) (fun c2 => ?_)
      · have h := ifT c2 h
        refine b_iconst dX10_meant_48 ?_
        exact b_iret dX10_meant_49 rfl h
      · have h := ifF c2 h
        refine b_iload dX10_meant_42 rfl ?_
        refine b_iconst dX10_meant_44 ?_
        refine b_icmp_le 50 dX10_meant_45 g5 (by decide) (by decide) (fun c3 => ?_) (fun c3 => ?_)
        · have h := ifT c3 h
          refine b_iconst dX10_meant_50 ?_
          refine b_istore (ls' := [vR 582, vL x1, vU, vI x3, vI x4, vI x5, vI x6, vI (if x3 = (-1) then 0 else (if x4 = (-1) then 1 else (if x5 = (-1) then 2 else 3 : Int) : Int) : Int), vI 0, vU, vU]) dX10_meant_51 (Nat.le_of_ble_eq_true rfl) rfl ?_
          obtain ⟨nn, h⟩ := h
          exact pl_X10_meant_53 hf nn _ _ _ _ _ _ _ _ h
        · have h := ifF c3 h
          refine b_iconst dX10_meant_48 ?_
          exact b_iret dX10_meant_49 rfl h
  obtain ⟨g1, hs⟩ := hs
  refine b_icmp_ne 9 dX10_meant_2 g1 (by decide) (by decide) (fun c4 => ?_) (fun c4 => ?_)
  ·
    have hs := ifF c4 hs
    obtain ⟨g2, hs⟩ := hs
    refine b_iload dX10_meant_9 rfl ?_
    refine b_iconst dX10_meant_11 ?_
    refine b_icmp_ne 19 dX10_meant_12 g2 (by decide) (by decide) (fun c5 => ?_) (fun c5 => ?_)
    ·
      have hs := ifF c5 hs
      have g3 := hs
      refine b_iload dX10_meant_19 rfl ?_
      refine b_iconst dX10_meant_21 ?_
      refine b_icmp_ne 29 dX10_meant_22 g3 (by decide) (by decide) (fun c6 => ?_) (fun c6 => ?_)
      ·
        refine b_iconst dX10_meant_29 ?_
        exact Eq.mp (congrArg (fun z => B f M_X10_meant 30 [vR 582, vL x1, vU, vI x3, vI x4, vI x5, vI x6, vU, vU, vU, vU] (vI z :: []) m Q T) (show (if x3 = (-1) then 0 else (if x4 = (-1) then 1 else (if x5 = (-1) then 2 else 3 : Int) : Int) : Int) = 3 by rw [if_neg c4, if_neg c5, if_neg c6])) K
      ·
        have c6 := Decidable.of_not_not c6
        refine b_iconst dX10_meant_25 ?_
        refine b_goto 30 dX10_meant_26 (by decide) ?_
        exact Eq.mp (congrArg (fun z => B f M_X10_meant 30 [vR 582, vL x1, vU, vI x3, vI x4, vI x5, vI x6, vU, vU, vU, vU] (vI z :: []) m Q T) (show (if x3 = (-1) then 0 else (if x4 = (-1) then 1 else (if x5 = (-1) then 2 else 3 : Int) : Int) : Int) = 2 by rw [if_neg c4, if_neg c5, if_pos c6])) K
    ·
      have c5 := Decidable.of_not_not c5
      refine b_iconst dX10_meant_15 ?_
      refine b_goto 30 dX10_meant_16 (by decide) ?_
      exact Eq.mp (congrArg (fun z => B f M_X10_meant 30 [vR 582, vL x1, vU, vI x3, vI x4, vI x5, vI x6, vU, vU, vU, vU] (vI z :: []) m Q T) (show (if x3 = (-1) then 0 else (if x4 = (-1) then 1 else (if x5 = (-1) then 2 else 3 : Int) : Int) : Int) = 1 by rw [if_neg c4, if_pos c5])) K
  ·
    have c4 := Decidable.of_not_not c4
    refine b_iconst dX10_meant_5 ?_
    refine b_goto 30 dX10_meant_6 (by decide) ?_
    exact Eq.mp (congrArg (fun z => B f M_X10_meant 30 [vR 582, vL x1, vU, vI x3, vI x4, vI x5, vI x6, vU, vU, vU, vU] (vI z :: []) m Q T) (show (if x3 = (-1) then 0 else (if x4 = (-1) then 1 else (if x5 = (-1) then 2 else 3 : Int) : Int) : Int) = 0 by rw [if_pos c4])) K
theorem dX10_told_0 : decode cX10_told 0 = .ok (.iload_n 1, 1) := by decide +kernel
theorem dX10_told_1 : decode cX10_told 1 = .ok (.tableswitch 69 0 5 #[39, 44, 49, 54, 59, 64], 39) := by decide +kernel
theorem dX10_told_40 : decode cX10_told 40 = .ok (.aload_n 0, 1) := by decide +kernel
theorem dX10_told_41 : decode cX10_told 41 = .ok (.getfield 347, 3) := by decide +kernel
theorem dX10_told_44 : decode cX10_told 44 = .ok (.ireturn, 1) := by decide +kernel
theorem dX10_told_45 : decode cX10_told 45 = .ok (.aload_n 0, 1) := by decide +kernel
theorem dX10_told_46 : decode cX10_told 46 = .ok (.getfield 102, 3) := by decide +kernel
theorem dX10_told_49 : decode cX10_told 49 = .ok (.ireturn, 1) := by decide +kernel
theorem dX10_told_50 : decode cX10_told 50 = .ok (.aload_n 0, 1) := by decide +kernel
theorem dX10_told_51 : decode cX10_told 51 = .ok (.getfield 704, 3) := by decide +kernel
theorem dX10_told_54 : decode cX10_told 54 = .ok (.ireturn, 1) := by decide +kernel
theorem dX10_told_55 : decode cX10_told 55 = .ok (.aload_n 0, 1) := by decide +kernel
theorem dX10_told_56 : decode cX10_told 56 = .ok (.getfield 817, 3) := by decide +kernel
theorem dX10_told_59 : decode cX10_told 59 = .ok (.ireturn, 1) := by decide +kernel
theorem dX10_told_60 : decode cX10_told 60 = .ok (.aload_n 0, 1) := by decide +kernel
theorem dX10_told_61 : decode cX10_told 61 = .ok (.getfield 601, 3) := by decide +kernel
theorem dX10_told_64 : decode cX10_told 64 = .ok (.ireturn, 1) := by decide +kernel
theorem dX10_told_65 : decode cX10_told 65 = .ok (.aload_n 0, 1) := by decide +kernel
theorem dX10_told_66 : decode cX10_told 66 = .ok (.getfield 301, 3) := by decide +kernel
theorem dX10_told_69 : decode cX10_told 69 = .ok (.ireturn, 1) := by decide +kernel
theorem dX10_told_70 : decode cX10_told 70 = .ok (.iconst (-1), 1) := by decide +kernel
theorem dX10_told_71 : decode cX10_told 71 = .ok (.ireturn, 1) := by decide +kernel
/-! AlgebraHouseModel.told(I)I -/
def P_X10_told (x1 : Int) (m : MM) (Q : Int → MM → Prop) : Prop := (RI x1) ∧ (if x1 = 0 then Q (m 582 10) m else (if x1 = 1 then Q (m 582 11) m else (if x1 = 2 then Q (m 582 90) m else (if x1 = 3 then Q (m 582 92) m else (if x1 = 4 then Q (m 582 84) m else (if x1 = 5 then Q (m 582 111) m else Q (-1) m))))))
theorem p_X10_told {f : Nat} {Q : Int → MM → Prop} {T : MM → Prop} (hf : 1 ≤ f) (x1 : Int) (m : MM) (h : P_X10_told x1 m Q) : CC f M_X10_told [vR 582, vI x1] m Q T := by
  refine CC.of (plainFor_of_name (by decide)) (Nat.le_of_ble_eq_true rfl) (ls := [vR 582, vI x1]) rfl ?_
  have h : (RI x1) ∧ (if x1 = 0 then Q (m 582 10) m else (if x1 = 1 then Q (m 582 11) m else (if x1 = 2 then Q (m 582 90) m else (if x1 = 3 then Q (m 582 92) m else (if x1 = 4 then Q (m 582 84) m else (if x1 = 5 then Q (m 582 111) m else Q (-1) m)))))) := h
  refine b_iload_n dX10_told_0 rfl ?_
  obtain ⟨g1, h⟩ := h
  by_cases c1 : x1 = 0
  · have h := ifT c1 h
    refine b_tswIn 40 dX10_told_1 g1 (by omega) (by omega) (by rw [c1]; rfl) (by decide) ?_
    refine b_aload_n dX10_told_40 rfl ?_
    refine b_getI dX10_told_41 fk_X10_347 ly_582 ?_
    exact b_iret dX10_told_44 rfl h
  have h := ifF c1 h
  by_cases c2 : x1 = 1
  · have h := ifT c2 h
    refine b_tswIn 45 dX10_told_1 g1 (by omega) (by omega) (by rw [c2]; rfl) (by decide) ?_
    refine b_aload_n dX10_told_45 rfl ?_
    refine b_getI dX10_told_46 fk_X10_102 ly_582 ?_
    exact b_iret dX10_told_49 rfl h
  have h := ifF c2 h
  by_cases c3 : x1 = 2
  · have h := ifT c3 h
    refine b_tswIn 50 dX10_told_1 g1 (by omega) (by omega) (by rw [c3]; rfl) (by decide) ?_
    refine b_aload_n dX10_told_50 rfl ?_
    refine b_getI dX10_told_51 fk_X10_704 ly_582 ?_
    exact b_iret dX10_told_54 rfl h
  have h := ifF c3 h
  by_cases c4 : x1 = 3
  · have h := ifT c4 h
    refine b_tswIn 55 dX10_told_1 g1 (by omega) (by omega) (by rw [c4]; rfl) (by decide) ?_
    refine b_aload_n dX10_told_55 rfl ?_
    refine b_getI dX10_told_56 fk_X10_817 ly_582 ?_
    exact b_iret dX10_told_59 rfl h
  have h := ifF c4 h
  by_cases c5 : x1 = 4
  · have h := ifT c5 h
    refine b_tswIn 60 dX10_told_1 g1 (by omega) (by omega) (by rw [c5]; rfl) (by decide) ?_
    refine b_aload_n dX10_told_60 rfl ?_
    refine b_getI dX10_told_61 fk_X10_601 ly_582 ?_
    exact b_iret dX10_told_64 rfl h
  have h := ifF c5 h
  by_cases c6 : x1 = 5
  · have h := ifT c6 h
    refine b_tswIn 65 dX10_told_1 g1 (by omega) (by omega) (by rw [c6]; rfl) (by decide) ?_
    refine b_aload_n dX10_told_65 rfl ?_
    refine b_getI dX10_told_66 fk_X10_301 ly_582 ?_
    exact b_iret dX10_told_69 rfl h
  have h := ifF c6 h
  refine b_tswOut 70 dX10_told_1 g1 (by omega) (by decide) ?_
  refine b_iconst dX10_told_70 ?_
  exact b_iret dX10_told_71 rfl h
