set_option maxRecDepth 100000
theorem dX10_arguments_0 : decode cX10_arguments 0 = .ok (.iload_n 2, 1) := by decide +kernel
theorem dX10_arguments_1 : decode cX10_arguments 1 = .ok (.ifCond .lt 24, 3) := by decide +kernel
theorem dX10_arguments_4 : decode cX10_arguments 4 = .ok (.aload_n 0, 1) := by decide +kernel
theorem dX10_arguments_5 : decode cX10_arguments 5 = .ok (.bipush 8, 2) := by decide +kernel
theorem dX10_arguments_7 : decode cX10_arguments 7 = .ok (.iload_n 1, 1) := by decide +kernel
theorem dX10_arguments_8 : decode cX10_arguments 8 = .ok (.iload_n 2, 1) := by decide +kernel
theorem dX10_arguments_9 : decode cX10_arguments 9 = .ok (.iload_n 3, 1) := by decide +kernel
theorem dX10_arguments_10 : decode cX10_arguments 10 = .ok (.iconst 0, 1) := by decide +kernel
theorem dX10_arguments_11 : decode cX10_arguments 11 = .ok (.invokevirtual 730, 3) := by decide +kernel
theorem dX10_arguments_14 : decode cX10_arguments 14 = .ok (.aload_n 0, 1) := by decide +kernel
theorem dX10_arguments_15 : decode cX10_arguments 15 = .ok (.aload_n 0, 1) := by decide +kernel
theorem dX10_arguments_16 : decode cX10_arguments 16 = .ok (.getfield 109, 3) := by decide +kernel
theorem dX10_arguments_19 : decode cX10_arguments 19 = .ok (.iload_n 2, 1) := by decide +kernel
theorem dX10_arguments_20 : decode cX10_arguments 20 = .ok (.iaload, 1) := by decide +kernel
theorem dX10_arguments_21 : decode cX10_arguments 21 = .ok (.invokevirtual 733, 3) := by decide +kernel
theorem dX10_arguments_24 : decode cX10_arguments 24 = .ok (.return_, 1) := by decide +kernel
theorem dX10_arguments_25 : decode cX10_arguments 25 = .ok (.aload_n 0, 1) := by decide +kernel
theorem dX10_arguments_26 : decode cX10_arguments 26 = .ok (.getfield 814, 3) := by decide +kernel
theorem dX10_arguments_29 : decode cX10_arguments 29 = .ok (.bipush 20, 2) := by decide +kernel
theorem dX10_arguments_31 : decode cX10_arguments 31 = .ok (.if_icmp .ne 10, 3) := by decide +kernel
theorem dX10_arguments_34 : decode cX10_arguments 34 = .ok (.aload_n 0, 1) := by decide +kernel
theorem dX10_arguments_35 : decode cX10_arguments 35 = .ok (.bipush 7, 2) := by decide +kernel
theorem dX10_arguments_37 : decode cX10_arguments 37 = .ok (.putfield 601, 3) := by decide +kernel
theorem dX10_arguments_40 : decode cX10_arguments 40 = .ok (.return_, 1) := by decide +kernel
theorem dX10_arguments_41 : decode cX10_arguments 41 = .ok (.aload_n 0, 1) := by decide +kernel
theorem dX10_arguments_42 : decode cX10_arguments 42 = .ok (.getfield 127, 3) := by decide +kernel
theorem dX10_arguments_45 : decode cX10_arguments 45 = .ok (.iload_n 1, 1) := by decide +kernel
theorem dX10_arguments_46 : decode cX10_arguments 46 = .ok (.iaload, 1) := by decide +kernel
theorem dX10_arguments_47 : decode cX10_arguments 47 = .ok (.istore 4, 2) := by decide +kernel
theorem dX10_arguments_49 : decode cX10_arguments 49 = .ok (.aload_n 0, 1) := by decide +kernel
theorem dX10_arguments_50 : decode cX10_arguments 50 = .ok (.getfield 139, 3) := by decide +kernel
theorem dX10_arguments_53 : decode cX10_arguments 53 = .ok (.iload_n 1, 1) := by decide +kernel
theorem dX10_arguments_54 : decode cX10_arguments 54 = .ok (.iaload, 1) := by decide +kernel
theorem dX10_arguments_55 : decode cX10_arguments 55 = .ok (.istore 5, 2) := by decide +kernel
theorem dX10_arguments_57 : decode cX10_arguments 57 = .ok (.aload_n 0, 1) := by decide +kernel
theorem dX10_arguments_58 : decode cX10_arguments 58 = .ok (.getfield 142, 3) := by decide +kernel
theorem dX10_arguments_61 : decode cX10_arguments 61 = .ok (.iload_n 1, 1) := by decide +kernel
theorem dX10_arguments_62 : decode cX10_arguments 62 = .ok (.iaload, 1) := by decide +kernel
theorem dX10_arguments_63 : decode cX10_arguments 63 = .ok (.istore 6, 2) := by decide +kernel
theorem dX10_arguments_65 : decode cX10_arguments 65 = .ok (.aload_n 0, 1) := by decide +kernel
theorem dX10_arguments_66 : decode cX10_arguments 66 = .ok (.getfield 145, 3) := by decide +kernel
theorem dX10_arguments_69 : decode cX10_arguments 69 = .ok (.iload_n 1, 1) := by decide +kernel
theorem dX10_arguments_70 : decode cX10_arguments 70 = .ok (.iaload, 1) := by decide +kernel
theorem dX10_arguments_71 : decode cX10_arguments 71 = .ok (.istore 7, 2) := by decide +kernel
theorem dX10_arguments_73 : decode cX10_arguments 73 = .ok (.aload_n 0, 1) := by decide +kernel
theorem dX10_arguments_74 : decode cX10_arguments 74 = .ok (.getfield 271, 3) := by decide +kernel
theorem dX10_arguments_77 : decode cX10_arguments 77 = .ok (.aload_n 0, 1) := by decide +kernel
theorem dX10_arguments_78 : decode cX10_arguments 78 = .ok (.getfield 814, 3) := by decide +kernel
theorem dX10_arguments_81 : decode cX10_arguments 81 = .ok (.iload 4, 2) := by decide +kernel
theorem dX10_arguments_83 : decode cX10_arguments 83 = .ok (.iastore, 1) := by decide +kernel
theorem dX10_arguments_84 : decode cX10_arguments 84 = .ok (.aload_n 0, 1) := by decide +kernel
theorem dX10_arguments_85 : decode cX10_arguments 85 = .ok (.getfield 274, 3) := by decide +kernel
theorem dX10_arguments_88 : decode cX10_arguments 88 = .ok (.aload_n 0, 1) := by decide +kernel
theorem dX10_arguments_89 : decode cX10_arguments 89 = .ok (.getfield 814, 3) := by decide +kernel
theorem dX10_arguments_92 : decode cX10_arguments 92 = .ok (.aload_n 0, 1) := by decide +kernel
theorem dX10_arguments_93 : decode cX10_arguments 93 = .ok (.getfield 811, 3) := by decide +kernel
theorem dX10_arguments_96 : decode cX10_arguments 96 = .ok (.iastore, 1) := by decide +kernel
theorem dX10_arguments_97 : decode cX10_arguments 97 = .ok (.aload_n 0, 1) := by decide +kernel
theorem dX10_arguments_98 : decode cX10_arguments 98 = .ok (.getfield 277, 3) := by decide +kernel
theorem dX10_arguments_101 : decode cX10_arguments 101 = .ok (.aload_n 0, 1) := by decide +kernel
theorem dX10_arguments_102 : decode cX10_arguments 102 = .ok (.getfield 814, 3) := by decide +kernel
theorem dX10_arguments_105 : decode cX10_arguments 105 = .ok (.aload_n 0, 1) := by decide +kernel
theorem dX10_arguments_106 : decode cX10_arguments 106 = .ok (.getfield 231, 3) := by decide +kernel
theorem dX10_arguments_109 : decode cX10_arguments 109 = .ok (.iastore, 1) := by decide +kernel
theorem dX10_arguments_110 : decode cX10_arguments 110 = .ok (.aload_n 0, 1) := by decide +kernel
theorem dX10_arguments_111 : decode cX10_arguments 111 = .ok (.getfield 280, 3) := by decide +kernel
theorem dX10_arguments_114 : decode cX10_arguments 114 = .ok (.aload_n 0, 1) := by decide +kernel
theorem dX10_arguments_115 : decode cX10_arguments 115 = .ok (.getfield 814, 3) := by decide +kernel
theorem dX10_arguments_118 : decode cX10_arguments 118 = .ok (.aload_n 0, 1) := by decide +kernel
theorem dX10_arguments_119 : decode cX10_arguments 119 = .ok (.getfield 234, 3) := by decide +kernel
theorem dX10_arguments_122 : decode cX10_arguments 122 = .ok (.iastore, 1) := by decide +kernel
theorem dX10_arguments_123 : decode cX10_arguments 123 = .ok (.aload_n 0, 1) := by decide +kernel
theorem dX10_arguments_124 : decode cX10_arguments 124 = .ok (.getfield 283, 3) := by decide +kernel
theorem dX10_arguments_127 : decode cX10_arguments 127 = .ok (.aload_n 0, 1) := by decide +kernel
theorem dX10_arguments_128 : decode cX10_arguments 128 = .ok (.getfield 814, 3) := by decide +kernel
theorem dX10_arguments_131 : decode cX10_arguments 131 = .ok (.aload_n 0, 1) := by decide +kernel
theorem dX10_arguments_132 : decode cX10_arguments 132 = .ok (.getfield 509, 3) := by decide +kernel
theorem dX10_arguments_135 : decode cX10_arguments 135 = .ok (.iastore, 1) := by decide +kernel
theorem dX10_arguments_136 : decode cX10_arguments 136 = .ok (.aload_n 0, 1) := by decide +kernel
theorem dX10_arguments_137 : decode cX10_arguments 137 = .ok (.getfield 286, 3) := by decide +kernel
theorem dX10_arguments_140 : decode cX10_arguments 140 = .ok (.aload_n 0, 1) := by decide +kernel
theorem dX10_arguments_141 : decode cX10_arguments 141 = .ok (.getfield 814, 3) := by decide +kernel
theorem dX10_arguments_144 : decode cX10_arguments 144 = .ok (.aload_n 0, 1) := by decide +kernel
theorem dX10_arguments_145 : decode cX10_arguments 145 = .ok (.getfield 512, 3) := by decide +kernel
theorem dX10_arguments_148 : decode cX10_arguments 148 = .ok (.iastore, 1) := by decide +kernel
theorem dX10_arguments_149 : decode cX10_arguments 149 = .ok (.aload_n 0, 1) := by decide +kernel
theorem dX10_arguments_150 : decode cX10_arguments 150 = .ok (.getfield 289, 3) := by decide +kernel
theorem dX10_arguments_153 : decode cX10_arguments 153 = .ok (.aload_n 0, 1) := by decide +kernel
theorem dX10_arguments_154 : decode cX10_arguments 154 = .ok (.getfield 814, 3) := by decide +kernel
theorem dX10_arguments_157 : decode cX10_arguments 157 = .ok (.aload_n 0, 1) := by decide +kernel
theorem dX10_arguments_158 : decode cX10_arguments 158 = .ok (.getfield 253, 3) := by decide +kernel
theorem dX10_arguments_161 : decode cX10_arguments 161 = .ok (.iastore, 1) := by decide +kernel
theorem dX10_arguments_162 : decode cX10_arguments 162 = .ok (.aload_n 0, 1) := by decide +kernel
theorem dX10_arguments_163 : decode cX10_arguments 163 = .ok (.dup, 1) := by decide +kernel
theorem dX10_arguments_164 : decode cX10_arguments 164 = .ok (.getfield 814, 3) := by decide +kernel
theorem dX10_arguments_167 : decode cX10_arguments 167 = .ok (.iconst 1, 1) := by decide +kernel
theorem dX10_arguments_168 : decode cX10_arguments 168 = .ok (.iadd, 1) := by decide +kernel
theorem dX10_arguments_169 : decode cX10_arguments 169 = .ok (.putfield 814, 3) := by decide +kernel
theorem dX10_arguments_172 : decode cX10_arguments 172 = .ok (.aload_n 0, 1) := by decide +kernel
theorem dX10_arguments_173 : decode cX10_arguments 173 = .ok (.aload_n 0, 1) := by decide +kernel
theorem dX10_arguments_174 : decode cX10_arguments 174 = .ok (.getfield 817, 3) := by decide +kernel
theorem dX10_arguments_177 : decode cX10_arguments 177 = .ok (.aload_n 0, 1) := by decide +kernel
theorem dX10_arguments_178 : decode cX10_arguments 178 = .ok (.getfield 814, 3) := by decide +kernel
theorem dX10_arguments_181 : decode cX10_arguments 181 = .ok (.invokestatic 445, 3) := by decide +kernel
theorem dX10_arguments_184 : decode cX10_arguments 184 = .ok (.putfield 817, 3) := by decide +kernel
theorem dX10_arguments_187 : decode cX10_arguments 187 = .ok (.aload_n 0, 1) := by decide +kernel
theorem dX10_arguments_188 : decode cX10_arguments 188 = .ok (.aload_n 0, 1) := by decide +kernel
theorem dX10_arguments_189 : decode cX10_arguments 189 = .ok (.getfield 718, 3) := by decide +kernel
theorem dX10_arguments_192 : decode cX10_arguments 192 = .ok (.iload_n 3, 1) := by decide +kernel
theorem dX10_arguments_193 : decode cX10_arguments 193 = .ok (.isub, 1) := by decide +kernel
theorem dX10_arguments_194 : decode cX10_arguments 194 = .ok (.putfield 811, 3) := by decide +kernel
theorem dX10_arguments_197 : decode cX10_arguments 197 = .ok (.aload_n 0, 1) := by decide +kernel
theorem dX10_arguments_198 : decode cX10_arguments 198 = .ok (.iload 4, 2) := by decide +kernel
theorem dX10_arguments_200 : decode cX10_arguments 200 = .ok (.putfield 231, 3) := by decide +kernel
theorem dX10_arguments_203 : decode cX10_arguments 203 = .ok (.aload_n 0, 1) := by decide +kernel
theorem dX10_arguments_204 : decode cX10_arguments 204 = .ok (.iload 5, 2) := by decide +kernel
theorem dX10_arguments_206 : decode cX10_arguments 206 = .ok (.putfield 234, 3) := by decide +kernel
theorem dX10_arguments_209 : decode cX10_arguments 209 = .ok (.aload_n 0, 1) := by decide +kernel
theorem dX10_arguments_210 : decode cX10_arguments 210 = .ok (.iload 6, 2) := by decide +kernel
theorem dX10_arguments_212 : decode cX10_arguments 212 = .ok (.putfield 509, 3) := by decide +kernel
theorem dX10_arguments_215 : decode cX10_arguments 215 = .ok (.aload_n 0, 1) := by decide +kernel
theorem dX10_arguments_216 : decode cX10_arguments 216 = .ok (.iload 7, 2) := by decide +kernel
theorem dX10_arguments_218 : decode cX10_arguments 218 = .ok (.putfield 512, 3) := by decide +kernel
theorem dX10_arguments_221 : decode cX10_arguments 221 = .ok (.iload 5, 2) := by decide +kernel
theorem dX10_arguments_223 : decode cX10_arguments 223 = .ok (.iconst 1, 1) := by decide +kernel
theorem dX10_arguments_224 : decode cX10_arguments 224 = .ok (.if_icmp .le 46, 3) := by decide +kernel
theorem dX10_arguments_227 : decode cX10_arguments 227 = .ok (.iload 5, 2) := by decide +kernel
theorem dX10_arguments_229 : decode cX10_arguments 229 = .ok (.sipush 10007, 3) := by decide +kernel
theorem dX10_arguments_232 : decode cX10_arguments 232 = .ok (.if_icmp .eq 38, 3) := by decide +kernel
theorem dX10_arguments_235 : decode cX10_arguments 235 = .ok (.iload 5, 2) := by decide +kernel
theorem dX10_arguments_237 : decode cX10_arguments 237 = .ok (.sipush 10000, 3) := by decide +kernel
theorem dX10_arguments_240 : decode cX10_arguments 240 = .ok (.if_icmp .eq 30, 3) := by decide +kernel
theorem dX10_arguments_243 : decode cX10_arguments 243 = .ok (.aload_n 0, 1) := by decide +kernel
theorem dX10_arguments_244 : decode cX10_arguments 244 = .ok (.iload 5, 2) := by decide +kernel
theorem dX10_arguments_246 : decode cX10_arguments 246 = .ok (.putfield 253, 3) := by decide +kernel
theorem dX10_arguments_249 : decode cX10_arguments 249 = .ok (.aload_n 0, 1) := by decide +kernel
theorem dX10_arguments_250 : decode cX10_arguments 250 = .ok (.iload 5, 2) := by decide +kernel
theorem dX10_arguments_252 : decode cX10_arguments 252 = .ok (.invokestatic 493, 3) := by decide +kernel
theorem dX10_arguments_255 : decode cX10_arguments 255 = .ok (.ifCond .eq 9, 3) := by decide +kernel
theorem dX10_arguments_258 : decode cX10_arguments 258 = .ok (.sipush 10007, 3) := by decide +kernel
theorem dX10_arguments_261 : decode cX10_arguments 261 = .ok (.goto 6, 3) := by decide +kernel
theorem dX10_arguments_264 : decode cX10_arguments 264 = .ok (.sipush 10000, 3) := by decide +kernel
theorem dX10_arguments_267 : decode cX10_arguments 267 = .ok (.putfield 234, 3) := by decide +kernel
theorem dX10_arguments_270 : decode cX10_arguments 270 = .ok (.aload_n 0, 1) := by decide +kernel
theorem dX10_arguments_271 : decode cX10_arguments 271 = .ok (.invokevirtual 820, 3) := by decide +kernel
theorem dX10_arguments_274 : decode cX10_arguments 274 = .ok (.aload_n 0, 1) := by decide +kernel
theorem dX10_arguments_275 : decode cX10_arguments 275 = .ok (.bipush 9, 2) := by decide +kernel
theorem dX10_arguments_277 : decode cX10_arguments 277 = .ok (.iload_n 1, 1) := by decide +kernel
theorem dX10_arguments_278 : decode cX10_arguments 278 = .ok (.aload_n 0, 1) := by decide +kernel
theorem dX10_arguments_279 : decode cX10_arguments 279 = .ok (.getfield 811, 3) := by decide +kernel
theorem dX10_arguments_282 : decode cX10_arguments 282 = .ok (.iconst 0, 1) := by decide +kernel
theorem dX10_arguments_283 : decode cX10_arguments 283 = .ok (.iconst 0, 1) := by decide +kernel
theorem dX10_arguments_284 : decode cX10_arguments 284 = .ok (.invokevirtual 730, 3) := by decide +kernel
theorem dX10_arguments_287 : decode cX10_arguments 287 = .ok (.aload_n 0, 1) := by decide +kernel
theorem dX10_arguments_288 : decode cX10_arguments 288 = .ok (.aload_n 0, 1) := by decide +kernel
theorem dX10_arguments_289 : decode cX10_arguments 289 = .ok (.getfield 167, 3) := by decide +kernel
theorem dX10_arguments_292 : decode cX10_arguments 292 = .ok (.iload 4, 2) := by decide +kernel
theorem dX10_arguments_294 : decode cX10_arguments 294 = .ok (.iaload, 1) := by decide +kernel
theorem dX10_arguments_295 : decode cX10_arguments 295 = .ok (.invokevirtual 733, 3) := by decide +kernel
theorem dX10_arguments_298 : decode cX10_arguments 298 = .ok (.return_, 1) := by decide +kernel
/-! AlgebraHouseModel.arguments(III)V -/
def P_X10_arguments_270 (Q : Int → MM → Prop) (x1 : Int) (x4 : Int) (m : MM) : Prop := P_X10_makeReady m (fun r1 m1 => P_X10_later_2 9 x1 (m1 582 93) 0 0 m1 (fun r2 m2 => (0 ≤ x4 ∧ x4 < 21) ∧ P_X10_later (m2 610 x4) m2 (fun r3 m3 => Q 0 m3)))
def P_X10_arguments (x1 : Int) (x2 : Int) (x3 : Int) (m : MM) (Q : Int → MM → Prop) : Prop := (RI x2) ∧ (if x2 < 0 then (RI (m 582 91)) ∧ (if (m 582 91) = 20 then ∀ m19 : MM, m19 = up m 582 84 7 → Q 0 m19 else (0 ≤ x1 ∧ x1 < 12000) ∧ (0 ≤ (m 582 91) ∧ (m 582 91) < 21) ∧ ∀ m1 : MM, m1 = up m 641 (m 582 91) (m 597 x1) → (0 ≤ (m1 582 91) ∧ (m1 582 91) < 21) ∧ ∀ m2 : MM, m2 = up m1 642 (m1 582 91) (m1 582 93) → (0 ≤ (m2 582 91) ∧ (m2 582 91) < 21) ∧ ∀ m3 : MM, m3 = up m2 643 (m2 582 91) (m2 582 61) → (0 ≤ (m3 582 91) ∧ (m3 582 91) < 21) ∧ ∀ m4 : MM, m4 = up m3 644 (m3 582 91) (m3 582 62) → (0 ≤ (m4 582 91) ∧ (m4 582 91) < 21) ∧ ∀ m5 : MM, m5 = up m4 645 (m4 582 91) (m4 582 63) → (0 ≤ (m5 582 91) ∧ (m5 582 91) < 21) ∧ ∀ m6 : MM, m6 = up m5 646 (m5 582 91) (m5 582 64) → (0 ≤ (m6 582 91) ∧ (m6 582 91) < 21) ∧ ∀ m7 : MM, m7 = up m6 647 (m6 582 91) (m6 582 89) → ∀ m8 : MM, m8 = up m7 582 91 ((m7 582 91) + 1) → P_J4_max (m8 582 92) (m8 582 91) m8 (fun r1 m9 => ∀ m10 : MM, m10 = up m9 582 92 r1 → ∀ m11 : MM, m11 = up m10 582 93 ((m10 582 86) - x3) → ∀ m12 : MM, m12 = up m11 582 61 (m 597 x1) → ∀ m13 : MM, m13 = up m12 582 62 (m 601 x1) → ∀ m14 : MM, m14 = up m13 582 63 (m 602 x1) → ∀ m15 : MM, m15 = up m14 582 64 (m 603 x1) → (RI (m 601 x1)) ∧ (if (m 601 x1) ≤ 1 then P_X10_arguments_270 Q x1 (m 597 x1) m15 else (if (m 601 x1) = 10007 then P_X10_arguments_270 Q x1 (m 597 x1) m15 else (if (m 601 x1) = 10000 then P_X10_arguments_270 Q x1 (m 597 x1) m15 else ∀ m16 : MM, m16 = up m15 582 89 (m 601 x1) → P_X10_isField (m 601 x1) m16 (fun r2 m17 => ((RI r2)) ∧ ∀ m18 : MM, m18 = up m17 582 62 (if r2 = 0 then 10000 else 10007 : Int) → P_X10_arguments_270 Q x1 (m 597 x1) m18)))))) else P_X10_later_2 8 x1 x2 x3 0 m (fun r3 m20 => (0 ≤ x2 ∧ x2 < 12000) ∧ P_X10_later (m20 591 x2) m20 (fun r4 m21 => Q 0 m21)))
theorem pl_X10_arguments_270 {f : Nat} {Q : Int → MM → Prop} {T : MM → Prop} (hf : 326 ≤ f) : ∀ (x1 : Int) (x4 : Int) (m : MM), P_X10_arguments_270 Q x1 x4 m → B f M_X10_arguments 270 [vR 582, vI x1, vU, vU, vI x4, vU, vU, vU] [] m Q T := by
  intro x1 x4 m h
  have h : P_X10_makeReady m (fun r1 m1 => P_X10_later_2 9 x1 (m1 582 93) 0 0 m1 (fun r2 m2 => (0 ≤ x4 ∧ x4 < 21) ∧ P_X10_later (m2 610 x4) m2 (fun r3 m3 => Q 0 m3))) := h
  refine b_aload_n dX10_arguments_270 rfl ?_
  refine b_cVv (as := []) (st := []) dX10_arguments_271 mf_X10_makeReady qs166 lk_X10_820 ly_582 rfl (p_X10_makeReady (f := 325) (Nat.le_refl _) _ h) (by omega) rfl rfl (Nat.le_of_ble_eq_true rfl) (by decide) rfl (fun _ => rfl) (fun r1 m1 h => ?_) (fun _ h => h)
  refine b_aload_n dX10_arguments_274 rfl ?_
  refine b_bipush dX10_arguments_275 (by decide) ?_
  refine b_iload_n dX10_arguments_277 rfl ?_
  refine b_aload_n dX10_arguments_278 rfl ?_
  refine b_getI dX10_arguments_279 fk_X10_811 ly_582 ?_
  refine b_iconst dX10_arguments_282 ?_
  refine b_iconst dX10_arguments_283 ?_
  refine b_cVv (as := [vI 9, vI x1, vI (m1 582 93), vI 0, vI 0]) (st := []) dX10_arguments_284 mf_X10_later_2 qs155 lk_X10_730 ly_582 rfl (p_X10_later_2 (f := 1) (Nat.le_refl _) _ _ _ _ _ _ h) (by omega) rfl rfl (Nat.le_of_ble_eq_true rfl) (by decide) rfl (fun _ => rfl) (fun r2 m2 h => ?_) (fun _ h => h)
  refine b_aload_n dX10_arguments_287 rfl ?_
  refine b_aload_n dX10_arguments_288 rfl ?_
  refine b_getR dX10_arguments_289 fk_X10_167 ly_582 gg_582_39 ?_
  refine b_iload dX10_arguments_292 rfl ?_
  obtain ⟨g1, h⟩ := h
  refine b_iald dX10_arguments_294 ly_610 g1 ?_
  refine b_cVv (as := [vI (m2 610 x4)]) (st := []) dX10_arguments_295 mf_X10_later qs154 lk_X10_733 ly_582 rfl (p_X10_later (f := 2) (Nat.le_refl _) _ _ h) (by omega) rfl rfl (Nat.le_of_ble_eq_true rfl) (by decide) rfl (fun _ => rfl) (fun r3 m3 h => ?_) (fun _ h => h)
  exact b_vret dX10_arguments_298 rfl h
theorem p_X10_arguments {f : Nat} {Q : Int → MM → Prop} {T : MM → Prop} (hf : 326 ≤ f) (x1 : Int) (x2 : Int) (x3 : Int) (m : MM) (h : P_X10_arguments x1 x2 x3 m Q) : CC f M_X10_arguments [vR 582, vI x1, vI x2, vI x3] m Q T := by
  refine CC.of (plainFor_of_name (by decide)) (Nat.le_of_ble_eq_true rfl) (ls := [vR 582, vI x1, vI x2, vI x3, vU, vU, vU, vU]) rfl ?_
  have h : (RI x2) ∧ (if x2 < 0 then (RI (m 582 91)) ∧ (if (m 582 91) = 20 then ∀ m19 : MM, m19 = up m 582 84 7 → Q 0 m19 else (0 ≤ x1 ∧ x1 < 12000) ∧ (0 ≤ (m 582 91) ∧ (m 582 91) < 21) ∧ ∀ m1 : MM, m1 = up m 641 (m 582 91) (m 597 x1) → (0 ≤ (m1 582 91) ∧ (m1 582 91) < 21) ∧ ∀ m2 : MM, m2 = up m1 642 (m1 582 91) (m1 582 93) → (0 ≤ (m2 582 91) ∧ (m2 582 91) < 21) ∧ ∀ m3 : MM, m3 = up m2 643 (m2 582 91) (m2 582 61) → (0 ≤ (m3 582 91) ∧ (m3 582 91) < 21) ∧ ∀ m4 : MM, m4 = up m3 644 (m3 582 91) (m3 582 62) → (0 ≤ (m4 582 91) ∧ (m4 582 91) < 21) ∧ ∀ m5 : MM, m5 = up m4 645 (m4 582 91) (m4 582 63) → (0 ≤ (m5 582 91) ∧ (m5 582 91) < 21) ∧ ∀ m6 : MM, m6 = up m5 646 (m5 582 91) (m5 582 64) → (0 ≤ (m6 582 91) ∧ (m6 582 91) < 21) ∧ ∀ m7 : MM, m7 = up m6 647 (m6 582 91) (m6 582 89) → ∀ m8 : MM, m8 = up m7 582 91 ((m7 582 91) + 1) → P_J4_max (m8 582 92) (m8 582 91) m8 (fun r1 m9 => ∀ m10 : MM, m10 = up m9 582 92 r1 → ∀ m11 : MM, m11 = up m10 582 93 ((m10 582 86) - x3) → ∀ m12 : MM, m12 = up m11 582 61 (m 597 x1) → ∀ m13 : MM, m13 = up m12 582 62 (m 601 x1) → ∀ m14 : MM, m14 = up m13 582 63 (m 602 x1) → ∀ m15 : MM, m15 = up m14 582 64 (m 603 x1) → (RI (m 601 x1)) ∧ (if (m 601 x1) ≤ 1 then P_X10_arguments_270 Q x1 (m 597 x1) m15 else (if (m 601 x1) = 10007 then P_X10_arguments_270 Q x1 (m 597 x1) m15 else (if (m 601 x1) = 10000 then P_X10_arguments_270 Q x1 (m 597 x1) m15 else ∀ m16 : MM, m16 = up m15 582 89 (m 601 x1) → P_X10_isField (m 601 x1) m16 (fun r2 m17 => ((RI r2)) ∧ ∀ m18 : MM, m18 = up m17 582 62 (if r2 = 0 then 10000 else 10007 : Int) → P_X10_arguments_270 Q x1 (m 597 x1) m18)))))) else P_X10_later_2 8 x1 x2 x3 0 m (fun r3 m20 => (0 ≤ x2 ∧ x2 < 12000) ∧ P_X10_later (m20 591 x2) m20 (fun r4 m21 => Q 0 m21))) := h
  refine b_iload_n dX10_arguments_0 rfl ?_
  obtain ⟨g1, h⟩ := h
  refine b_if_lt 25 dX10_arguments_1 g1 (by decide) (fun c1 => ?_) (fun c1 => ?_)
  · have h := ifT c1 h
    refine b_aload_n dX10_arguments_25 rfl ?_
    refine b_getI dX10_arguments_26 fk_X10_814 ly_582 ?_
    refine b_bipush dX10_arguments_29 (by decide) ?_
    obtain ⟨g2, h⟩ := h
    refine b_icmp_ne 41 dX10_arguments_31 g2 (by decide) (by decide) (fun c2 => ?_) (fun c2 => ?_)
    · have h := ifF c2 h
      refine b_aload_n dX10_arguments_41 rfl ?_
      refine b_getR dX10_arguments_42 fk_X10_127 ly_582 gg_582_23 ?_
      refine b_iload_n dX10_arguments_45 rfl ?_
      obtain ⟨g3, h⟩ := h
      refine b_iald dX10_arguments_46 ly_597 g3 ?_
      refine b_istore (ls' := [vR 582, vI x1, vI x2, vI x3, vI (m 597 x1), vU, vU, vU]) dX10_arguments_47 (Nat.le_of_ble_eq_true rfl) rfl ?_
      refine b_aload_n dX10_arguments_49 rfl ?_
      refine b_getR dX10_arguments_50 fk_X10_139 ly_582 gg_582_27 ?_
      refine b_iload_n dX10_arguments_53 rfl ?_
      refine b_iald dX10_arguments_54 ly_601 g3 ?_
      refine b_istore (ls' := [vR 582, vI x1, vI x2, vI x3, vI (m 597 x1), vI (m 601 x1), vU, vU]) dX10_arguments_55 (Nat.le_of_ble_eq_true rfl) rfl ?_
      refine b_aload_n dX10_arguments_57 rfl ?_
      refine b_getR dX10_arguments_58 fk_X10_142 ly_582 gg_582_28 ?_
      refine b_iload_n dX10_arguments_61 rfl ?_
      refine b_iald dX10_arguments_62 ly_602 g3 ?_
      refine b_istore (ls' := [vR 582, vI x1, vI x2, vI x3, vI (m 597 x1), vI (m 601 x1), vI (m 602 x1), vU]) dX10_arguments_63 (Nat.le_of_ble_eq_true rfl) rfl ?_
      refine b_aload_n dX10_arguments_65 rfl ?_
      refine b_getR dX10_arguments_66 fk_X10_145 ly_582 gg_582_29 ?_
      refine b_iload_n dX10_arguments_69 rfl ?_
      refine b_iald dX10_arguments_70 ly_603 g3 ?_
      refine b_istore (ls' := [vR 582, vI x1, vI x2, vI x3, vI (m 597 x1), vI (m 601 x1), vI (m 602 x1), vI (m 603 x1)]) dX10_arguments_71 (Nat.le_of_ble_eq_true rfl) rfl ?_
      refine b_aload_n dX10_arguments_73 rfl ?_
      refine b_getR dX10_arguments_74 fk_X10_271 ly_582 gg_582_100 ?_
      refine b_aload_n dX10_arguments_77 rfl ?_
      refine b_getI dX10_arguments_78 fk_X10_814 ly_582 ?_
      refine b_iload dX10_arguments_81 rfl ?_
      obtain ⟨g4, h⟩ := h
      refine b_iast dX10_arguments_83 ly_641 g4 (fun m1 em1 => ?_)
      have h := h m1 em1
      refine b_aload_n dX10_arguments_84 rfl ?_
      refine b_getR dX10_arguments_85 fk_X10_274 ly_582 gg_582_101 ?_
      refine b_aload_n dX10_arguments_88 rfl ?_
      refine b_getI dX10_arguments_89 fk_X10_814 ly_582 ?_
      refine b_aload_n dX10_arguments_92 rfl ?_
      refine b_getI dX10_arguments_93 fk_X10_811 ly_582 ?_
      obtain ⟨g5, h⟩ := h
      refine b_iast dX10_arguments_96 ly_642 g5 (fun m2 em2 => ?_)
      have h := h m2 em2
      refine b_aload_n dX10_arguments_97 rfl ?_
      refine b_getR dX10_arguments_98 fk_X10_277 ly_582 gg_582_102 ?_
      refine b_aload_n dX10_arguments_101 rfl ?_
      refine b_getI dX10_arguments_102 fk_X10_814 ly_582 ?_
      refine b_aload_n dX10_arguments_105 rfl ?_
      refine b_getI dX10_arguments_106 fk_X10_231 ly_582 ?_
      obtain ⟨g6, h⟩ := h
      refine b_iast dX10_arguments_109 ly_643 g6 (fun m3 em3 => ?_)
      have h := h m3 em3
      refine b_aload_n dX10_arguments_110 rfl ?_
      refine b_getR dX10_arguments_111 fk_X10_280 ly_582 gg_582_103 ?_
      refine b_aload_n dX10_arguments_114 rfl ?_
      refine b_getI dX10_arguments_115 fk_X10_814 ly_582 ?_
      refine b_aload_n dX10_arguments_118 rfl ?_
      refine b_getI dX10_arguments_119 fk_X10_234 ly_582 ?_
      obtain ⟨g7, h⟩ := h
      refine b_iast dX10_arguments_122 ly_644 g7 (fun m4 em4 => ?_)
      have h := h m4 em4
      refine b_aload_n dX10_arguments_123 rfl ?_
      refine b_getR dX10_arguments_124 fk_X10_283 ly_582 gg_582_104 ?_
      refine b_aload_n dX10_arguments_127 rfl ?_
      refine b_getI dX10_arguments_128 fk_X10_814 ly_582 ?_
      refine b_aload_n dX10_arguments_131 rfl ?_
      refine b_getI dX10_arguments_132 fk_X10_509 ly_582 ?_
      obtain ⟨g8, h⟩ := h
      refine b_iast dX10_arguments_135 ly_645 g8 (fun m5 em5 => ?_)
      have h := h m5 em5
      refine b_aload_n dX10_arguments_136 rfl ?_
      refine b_getR dX10_arguments_137 fk_X10_286 ly_582 gg_582_105 ?_
      refine b_aload_n dX10_arguments_140 rfl ?_
      refine b_getI dX10_arguments_141 fk_X10_814 ly_582 ?_
      refine b_aload_n dX10_arguments_144 rfl ?_
      refine b_getI dX10_arguments_145 fk_X10_512 ly_582 ?_
      obtain ⟨g9, h⟩ := h
      refine b_iast dX10_arguments_148 ly_646 g9 (fun m6 em6 => ?_)
      have h := h m6 em6
      refine b_aload_n dX10_arguments_149 rfl ?_
      refine b_getR dX10_arguments_150 fk_X10_289 ly_582 gg_582_106 ?_
      refine b_aload_n dX10_arguments_153 rfl ?_
      refine b_getI dX10_arguments_154 fk_X10_814 ly_582 ?_
      refine b_aload_n dX10_arguments_157 rfl ?_
      refine b_getI dX10_arguments_158 fk_X10_253 ly_582 ?_
      obtain ⟨g10, h⟩ := h
      refine b_iast dX10_arguments_161 ly_647 g10 (fun m7 em7 => ?_)
      have h := h m7 em7
      refine b_aload_n dX10_arguments_162 rfl ?_
      refine b_dup dX10_arguments_163 rfl ?_
      refine b_getI dX10_arguments_164 fk_X10_814 ly_582 ?_
      refine b_iconst dX10_arguments_167 ?_
      refine b_iadd dX10_arguments_168 ?_
      refine b_putI dX10_arguments_169 fk_X10_814 ly_582 (fun m8 em8 => ?_)
      have h := h m8 em8
      refine b_aload_n dX10_arguments_172 rfl ?_
      refine b_aload_n dX10_arguments_173 rfl ?_
      refine b_getI dX10_arguments_174 fk_X10_817 ly_582 ?_
      refine b_aload_n dX10_arguments_177 rfl ?_
      refine b_getI dX10_arguments_178 fk_X10_814 ly_582 ?_
      refine b_cSi (as := [vI (m8 582 92), vI (m8 582 91)]) (st := [vR 582]) dX10_arguments_181 mf_J4_max lk_X10_445 (p_J4_max (f := 1) (Nat.le_refl _) _ _ _ h) (by omega) rfl rfl (Nat.le_of_ble_eq_true rfl) (by decide) rfl (fun _ => rfl) (fun r1 m9 h => ?_) (fun _ h => h)
      refine b_putI dX10_arguments_184 fk_X10_817 ly_582 (fun m10 em10 => ?_)
      have h := h m10 em10
      refine b_aload_n dX10_arguments_187 rfl ?_
      refine b_aload_n dX10_arguments_188 rfl ?_
      refine b_getI dX10_arguments_189 fk_X10_718 ly_582 ?_
      refine b_iload_n dX10_arguments_192 rfl ?_
      refine b_isub dX10_arguments_193 ?_
      refine b_putI dX10_arguments_194 fk_X10_811 ly_582 (fun m11 em11 => ?_)
      have h := h m11 em11
      refine b_aload_n dX10_arguments_197 rfl ?_
      refine b_iload dX10_arguments_198 rfl ?_
      refine b_putI dX10_arguments_200 fk_X10_231 ly_582 (fun m12 em12 => ?_)
      have h := h m12 em12
      refine b_aload_n dX10_arguments_203 rfl ?_
      refine b_iload dX10_arguments_204 rfl ?_
      refine b_putI dX10_arguments_206 fk_X10_234 ly_582 (fun m13 em13 => ?_)
      have h := h m13 em13
      refine b_aload_n dX10_arguments_209 rfl ?_
      refine b_iload dX10_arguments_210 rfl ?_
      refine b_putI dX10_arguments_212 fk_X10_509 ly_582 (fun m14 em14 => ?_)
      have h := h m14 em14
      refine b_aload_n dX10_arguments_215 rfl ?_
      refine b_iload dX10_arguments_216 rfl ?_
      refine b_putI dX10_arguments_218 fk_X10_512 ly_582 (fun m15 em15 => ?_)
      have h := h m15 em15
      refine b_iload dX10_arguments_221 rfl ?_
      refine b_iconst dX10_arguments_223 ?_
      obtain ⟨g11, h⟩ := h
      refine b_icmp_le 270 dX10_arguments_224 g11 (by decide) (by decide) (fun c3 => ?_) (fun c3 => ?_)
      · have h := ifT c3 h
        refine b_fgt [true, true, false, false, true, false, false, false] (ls' := [vR 582, vI x1, vU, vU, vI (m 597 x1), vU, vU, vU]) rfl rfl ?_
        exact pl_X10_arguments_270 hf _ _ _ h
      · have h := ifF c3 h
        refine b_iload dX10_arguments_227 rfl ?_
        refine b_sipush dX10_arguments_229 (by decide) ?_
        refine b_icmp_eq 270 dX10_arguments_232 g11 (by decide) (by decide) (fun c4 => ?_) (fun c4 => ?_)
        · have h := ifT c4 h
          refine b_fgt [true, true, false, false, true, false, false, false] (ls' := [vR 582, vI x1, vU, vU, vI (m 597 x1), vU, vU, vU]) rfl rfl ?_
          exact pl_X10_arguments_270 hf _ _ _ h
        · have h := ifF c4 h
          refine b_iload dX10_arguments_235 rfl ?_
          refine b_sipush dX10_arguments_237 (by decide) ?_
          refine b_icmp_eq 270 dX10_arguments_240 g11 (by decide) (by decide) (fun c5 => ?_) (fun c5 => ?_)
          · have h := ifT c5 h
            refine b_fgt [true, true, false, false, true, false, false, false] (ls' := [vR 582, vI x1, vU, vU, vI (m 597 x1), vU, vU, vU]) rfl rfl ?_
            exact pl_X10_arguments_270 hf _ _ _ h
          · have h := ifF c5 h
            refine b_aload_n dX10_arguments_243 rfl ?_
            refine b_iload dX10_arguments_244 rfl ?_
            refine b_putI dX10_arguments_246 fk_X10_253 ly_582 (fun m16 em16 => ?_)
            have h := h m16 em16
            refine b_aload_n dX10_arguments_249 rfl ?_
            refine b_iload dX10_arguments_250 rfl ?_
            refine b_cSi (as := [vI (m 601 x1)]) (st := [vR 582]) dX10_arguments_252 mf_X10_isField lk_X10_493 (p_X10_isField (f := 1) (Nat.le_refl _) _ _ h) (by omega) rfl rfl (Nat.le_of_ble_eq_true rfl) (by decide) rfl (fun _ => rfl) (fun r2 m17 h => ?_) (fun _ h => h)
            obtain ⟨hs, h⟩ := h
            have K : B f M_X10_arguments 267 [vR 582, vI x1, vI x2, vI x3, vI (m 597 x1), vI (m 601 x1), vI (m 602 x1), vI (m 603 x1)] [vI (if r2 = 0 then 10000 else 10007 : Int), vR 582] m17 Q T := by
              clear hs
              refine b_putI dX10_arguments_267 fk_X10_234 ly_582 (fun m18 em18 => ?_)
              have h := h m18 em18
              refine b_fgt [true, true, false, false, true, false, false, false] (ls' := [vR 582, vI x1, vU, vU, vI (m 597 x1), vU, vU, vU]) rfl rfl ?_
              exact pl_X10_arguments_270 hf _ _ _ h
            have g12 := hs
            refine b_if_eq 264 dX10_arguments_255 g12 (by decide) (fun c6 => ?_) (fun c6 => ?_)
            ·
              refine b_sipush dX10_arguments_264 (by decide) ?_
              exact Eq.mp (congrArg (fun z => B f M_X10_arguments 267 [vR 582, vI x1, vI x2, vI x3, vI (m 597 x1), vI (m 601 x1), vI (m 602 x1), vI (m 603 x1)] (vI z :: [vR 582]) m17 Q T) (show (if r2 = 0 then 10000 else 10007 : Int) = 10000 by rw [if_pos c6])) K
            ·
              refine b_sipush dX10_arguments_258 (by decide) ?_
              refine b_goto 267 dX10_arguments_261 (by decide) ?_
              exact Eq.mp (congrArg (fun z => B f M_X10_arguments 267 [vR 582, vI x1, vI x2, vI x3, vI (m 597 x1), vI (m 601 x1), vI (m 602 x1), vI (m 603 x1)] (vI z :: [vR 582]) m17 Q T) (show (if r2 = 0 then 10000 else 10007 : Int) = 10007 by rw [if_neg c6])) K
    · have h := ifT (Decidable.of_not_not c2) h
      refine b_aload_n dX10_arguments_34 rfl ?_
      refine b_bipush dX10_arguments_35 (by decide) ?_
      refine b_putI dX10_arguments_37 fk_X10_601 ly_582 (fun m19 em19 => ?_)
      have h := h m19 em19
      exact b_vret dX10_arguments_40 rfl h
  · have h := ifF c1 h
    refine b_aload_n dX10_arguments_4 rfl ?_
    refine b_bipush dX10_arguments_5 (by decide) ?_
    refine b_iload_n dX10_arguments_7 rfl ?_
    refine b_iload_n dX10_arguments_8 rfl ?_
    refine b_iload_n dX10_arguments_9 rfl ?_
    refine b_iconst dX10_arguments_10 ?_
    refine b_cVv (as := [vI 8, vI x1, vI x2, vI x3, vI 0]) (st := []) dX10_arguments_11 mf_X10_later_2 qs155 lk_X10_730 ly_582 rfl (p_X10_later_2 (f := 1) (Nat.le_refl _) _ _ _ _ _ _ h) (by omega) rfl rfl (Nat.le_of_ble_eq_true rfl) (by decide) rfl (fun _ => rfl) (fun r3 m20 h => ?_) (fun _ h => h)
    refine b_aload_n dX10_arguments_14 rfl ?_
    refine b_aload_n dX10_arguments_15 rfl ?_
    refine b_getR dX10_arguments_16 fk_X10_109 ly_582 gg_582_17 ?_
    refine b_iload_n dX10_arguments_19 rfl ?_
    obtain ⟨g13, h⟩ := h
    refine b_iald dX10_arguments_20 ly_591 g13 ?_
    refine b_cVv (as := [vI (m20 591 x2)]) (st := []) dX10_arguments_21 mf_X10_later qs154 lk_X10_733 ly_582 rfl (p_X10_later (f := 2) (Nat.le_refl _) _ _ h) (by omega) rfl rfl (Nat.le_of_ble_eq_true rfl) (by decide) rfl (fun _ => rfl) (fun r4 m21 h => ?_) (fun _ h => h)
    exact b_vret dX10_arguments_24 rfl h
theorem dX10_det_0 : decode cX10_det 0 = .ok (.aload_n 0, 1) := by decide +kernel
theorem dX10_det_1 : decode cX10_det 1 = .ok (.ldc_w 697, 3) := by decide +kernel
theorem dX10_det_4 : decode cX10_det 4 = .ok (.bipush 98, 2) := by decide +kernel
theorem dX10_det_6 : decode cX10_det 6 = .ok (.invokevirtual 685, 3) := by decide +kernel
theorem dX10_det_9 : decode cX10_det 9 = .ok (.iload 5, 2) := by decide +kernel
theorem dX10_det_11 : decode cX10_det 11 = .ok (.iconst 1, 1) := by decide +kernel
theorem dX10_det_12 : decode cX10_det 12 = .ok (.if_icmp .ne 13, 3) := by decide +kernel
theorem dX10_det_15 : decode cX10_det 15 = .ok (.aload_n 0, 1) := by decide +kernel
theorem dX10_det_16 : decode cX10_det 16 = .ok (.ldc_w 697, 3) := by decide +kernel
theorem dX10_det_19 : decode cX10_det 19 = .ok (.iload_n 2, 1) := by decide +kernel
theorem dX10_det_20 : decode cX10_det 20 = .ok (.bipush 98, 2) := by decide +kernel
theorem dX10_det_22 : decode cX10_det 22 = .ok (.invokevirtual 658, 3) := by decide +kernel
theorem dX10_det_25 : decode cX10_det 25 = .ok (.iload 5, 2) := by decide +kernel
theorem dX10_det_27 : decode cX10_det 27 = .ok (.iconst 2, 1) := by decide +kernel
theorem dX10_det_28 : decode cX10_det 28 = .ok (.if_icmp .ne 32, 3) := by decide +kernel
theorem dX10_det_31 : decode cX10_det 31 = .ok (.aload_n 0, 1) := by decide +kernel
theorem dX10_det_32 : decode cX10_det 32 = .ok (.ldc_w 697, 3) := by decide +kernel
theorem dX10_det_35 : decode cX10_det 35 = .ok (.iload_n 2, 1) := by decide +kernel
theorem dX10_det_36 : decode cX10_det 36 = .ok (.iload_n 2, 1) := by decide +kernel
theorem dX10_det_37 : decode cX10_det 37 = .ok (.iconst 0, 1) := by decide +kernel
theorem dX10_det_38 : decode cX10_det 38 = .ok (.iconst 1, 1) := by decide +kernel
theorem dX10_det_39 : decode cX10_det 39 = .ok (.invokestatic 677, 3) := by decide +kernel
theorem dX10_det_42 : decode cX10_det 42 = .ok (.iload_n 2, 1) := by decide +kernel
theorem dX10_det_43 : decode cX10_det 43 = .ok (.iconst 1, 1) := by decide +kernel
theorem dX10_det_44 : decode cX10_det 44 = .ok (.iconst 0, 1) := by decide +kernel
theorem dX10_det_45 : decode cX10_det 45 = .ok (.invokestatic 677, 3) := by decide +kernel
theorem dX10_det_48 : decode cX10_det 48 = .ok (.iload_n 2, 1) := by decide +kernel
theorem dX10_det_49 : decode cX10_det 49 = .ok (.iconst 1, 1) := by decide +kernel
theorem dX10_det_50 : decode cX10_det 50 = .ok (.iconst 1, 1) := by decide +kernel
theorem dX10_det_51 : decode cX10_det 51 = .ok (.invokestatic 677, 3) := by decide +kernel
theorem dX10_det_54 : decode cX10_det 54 = .ok (.iload_n 3, 1) := by decide +kernel
theorem dX10_det_55 : decode cX10_det 55 = .ok (.iload 4, 2) := by decide +kernel
theorem dX10_det_57 : decode cX10_det 57 = .ok (.invokevirtual 698, 3) := by decide +kernel
theorem dX10_det_60 : decode cX10_det 60 = .ok (.iconst 0, 1) := by decide +kernel
theorem dX10_det_61 : decode cX10_det 61 = .ok (.istore 6, 2) := by decide +kernel
theorem dX10_det_63 : decode cX10_det 63 = .ok (.iload 5, 2) := by decide +kernel
theorem dX10_det_65 : decode cX10_det 65 = .ok (.iconst 3, 1) := by decide +kernel
theorem dX10_det_66 : decode cX10_det 66 = .ok (.if_icmp .ne 143, 3) := by decide +kernel
theorem dX10_det_69 : decode cX10_det 69 = .ok (.iload 6, 2) := by decide +kernel
theorem dX10_det_71 : decode cX10_det 71 = .ok (.iconst 3, 1) := by decide +kernel
theorem dX10_det_72 : decode cX10_det 72 = .ok (.if_icmp .ge 137, 3) := by decide +kernel
theorem dX10_det_75 : decode cX10_det 75 = .ok (.aload_n 0, 1) := by decide +kernel
theorem dX10_det_76 : decode cX10_det 76 = .ok (.getfield 601, 3) := by decide +kernel
theorem dX10_det_79 : decode cX10_det 79 = .ok (.ifCond .ne 130, 3) := by decide +kernel
theorem dX10_det_82 : decode cX10_det 82 = .ok (.iload 6, 2) := by decide +kernel
theorem dX10_det_84 : decode cX10_det 84 = .ok (.ifCond .ne 7, 3) := by decide +kernel
theorem dX10_det_87 : decode cX10_det 87 = .ok (.iconst 1, 1) := by decide +kernel
theorem dX10_det_88 : decode cX10_det 88 = .ok (.goto 4, 3) := by decide +kernel
theorem dX10_det_91 : decode cX10_det 91 = .ok (.iconst 0, 1) := by decide +kernel
theorem dX10_det_92 : decode cX10_det 92 = .ok (.istore 7, 2) := by decide +kernel
theorem dX10_det_94 : decode cX10_det 94 = .ok (.iload 6, 2) := by decide +kernel
theorem dX10_det_96 : decode cX10_det 96 = .ok (.iconst 2, 1) := by decide +kernel
theorem dX10_det_97 : decode cX10_det 97 = .ok (.if_icmp .ne 7, 3) := by decide +kernel
theorem dX10_det_100 : decode cX10_det 100 = .ok (.iconst 1, 1) := by decide +kernel
theorem dX10_det_101 : decode cX10_det 101 = .ok (.goto 4, 3) := by decide +kernel
theorem dX10_det_104 : decode cX10_det 104 = .ok (.iconst 2, 1) := by decide +kernel
theorem dX10_det_105 : decode cX10_det 105 = .ok (.istore 8, 2) := by decide +kernel
theorem dX10_det_107 : decode cX10_det 107 = .ok (.aload_n 0, 1) := by decide +kernel
theorem dX10_det_108 : decode cX10_det 108 = .ok (.ldc_w 702, 3) := by decide +kernel
theorem dX10_det_111 : decode cX10_det 111 = .ok (.iload_n 2, 1) := by decide +kernel
theorem dX10_det_112 : decode cX10_det 112 = .ok (.iconst 1, 1) := by decide +kernel
theorem dX10_det_113 : decode cX10_det 113 = .ok (.iload 7, 2) := by decide +kernel
theorem dX10_det_115 : decode cX10_det 115 = .ok (.invokestatic 677, 3) := by decide +kernel
theorem dX10_det_118 : decode cX10_det 118 = .ok (.iload_n 2, 1) := by decide +kernel
theorem dX10_det_119 : decode cX10_det 119 = .ok (.iconst 1, 1) := by decide +kernel
theorem dX10_det_120 : decode cX10_det 120 = .ok (.iload 8, 2) := by decide +kernel
theorem dX10_det_122 : decode cX10_det 122 = .ok (.invokestatic 677, 3) := by decide +kernel
theorem dX10_det_125 : decode cX10_det 125 = .ok (.iload_n 2, 1) := by decide +kernel
theorem dX10_det_126 : decode cX10_det 126 = .ok (.iconst 2, 1) := by decide +kernel
theorem dX10_det_127 : decode cX10_det 127 = .ok (.iload 7, 2) := by decide +kernel
theorem dX10_det_129 : decode cX10_det 129 = .ok (.invokestatic 677, 3) := by decide +kernel
theorem dX10_det_132 : decode cX10_det 132 = .ok (.iload_n 2, 1) := by decide +kernel
theorem dX10_det_133 : decode cX10_det 133 = .ok (.iconst 2, 1) := by decide +kernel
theorem dX10_det_134 : decode cX10_det 134 = .ok (.iload 8, 2) := by decide +kernel
theorem dX10_det_136 : decode cX10_det 136 = .ok (.invokestatic 677, 3) := by decide +kernel
theorem dX10_det_139 : decode cX10_det 139 = .ok (.iload_n 3, 1) := by decide +kernel
theorem dX10_det_140 : decode cX10_det 140 = .ok (.iload 4, 2) := by decide +kernel
theorem dX10_det_142 : decode cX10_det 142 = .ok (.invokevirtual 698, 3) := by decide +kernel
theorem dX10_det_145 : decode cX10_det 145 = .ok (.aload_n 0, 1) := by decide +kernel
theorem dX10_det_146 : decode cX10_det 146 = .ok (.getfield 601, 3) := by decide +kernel
theorem dX10_det_149 : decode cX10_det 149 = .ok (.ifCond .ne 23, 3) := by decide +kernel
theorem dX10_det_152 : decode cX10_det 152 = .ok (.aload_n 0, 1) := by decide +kernel
theorem dX10_det_153 : decode cX10_det 153 = .ok (.ldc_w 702, 3) := by decide +kernel
theorem dX10_det_156 : decode cX10_det 156 = .ok (.iload_n 2, 1) := by decide +kernel
theorem dX10_det_157 : decode cX10_det 157 = .ok (.iconst 0, 1) := by decide +kernel
theorem dX10_det_158 : decode cX10_det 158 = .ok (.iload 6, 2) := by decide +kernel
theorem dX10_det_160 : decode cX10_det 160 = .ok (.invokestatic 677, 3) := by decide +kernel
theorem dX10_det_163 : decode cX10_det 163 = .ok (.ldc_w 702, 3) := by decide +kernel
theorem dX10_det_166 : decode cX10_det 166 = .ok (.iload_n 3, 1) := by decide +kernel
theorem dX10_det_167 : decode cX10_det 167 = .ok (.iload 4, 2) := by decide +kernel
theorem dX10_det_169 : decode cX10_det 169 = .ok (.invokevirtual 689, 3) := by decide +kernel
theorem dX10_det_172 : decode cX10_det 172 = .ok (.aload_n 0, 1) := by decide +kernel
theorem dX10_det_173 : decode cX10_det 173 = .ok (.getfield 601, 3) := by decide +kernel
theorem dX10_det_176 : decode cX10_det 176 = .ok (.ifCond .ne 27, 3) := by decide +kernel
theorem dX10_det_179 : decode cX10_det 179 = .ok (.aload_n 0, 1) := by decide +kernel
theorem dX10_det_180 : decode cX10_det 180 = .ok (.ldc_w 697, 3) := by decide +kernel
theorem dX10_det_183 : decode cX10_det 183 = .ok (.ldc_w 702, 3) := by decide +kernel
theorem dX10_det_186 : decode cX10_det 186 = .ok (.iload_n 3, 1) := by decide +kernel
theorem dX10_det_187 : decode cX10_det 187 = .ok (.iload 4, 2) := by decide +kernel
theorem dX10_det_189 : decode cX10_det 189 = .ok (.iload 6, 2) := by decide +kernel
theorem dX10_det_191 : decode cX10_det 191 = .ok (.iconst 1, 1) := by decide +kernel
theorem dX10_det_192 : decode cX10_det 192 = .ok (.if_icmp .ne 7, 3) := by decide +kernel
theorem dX10_det_195 : decode cX10_det 195 = .ok (.iconst 1, 1) := by decide +kernel
theorem dX10_det_196 : decode cX10_det 196 = .ok (.goto 4, 3) := by decide +kernel
theorem dX10_det_199 : decode cX10_det 199 = .ok (.iconst 0, 1) := by decide +kernel
theorem dX10_det_200 : decode cX10_det 200 = .ok (.invokevirtual 693, 3) := by decide +kernel
theorem dX10_det_203 : decode cX10_det 203 = .ok (.iinc 6 1, 3) := by decide +kernel
theorem dX10_det_206 : decode cX10_det 206 = .ok (.goto (-143), 3) := by decide +kernel
theorem dX10_det_209 : decode cX10_det 209 = .ok (.aload_n 0, 1) := by decide +kernel
theorem dX10_det_210 : decode cX10_det 210 = .ok (.getfield 601, 3) := by decide +kernel
theorem dX10_det_213 : decode cX10_det 213 = .ok (.ifCond .ne 13, 3) := by decide +kernel
theorem dX10_det_216 : decode cX10_det 216 = .ok (.aload_n 0, 1) := by decide +kernel
theorem dX10_det_217 : decode cX10_det 217 = .ok (.iload_n 1, 1) := by decide +kernel
theorem dX10_det_218 : decode cX10_det 218 = .ok (.ldc_w 697, 3) := by decide +kernel
theorem dX10_det_221 : decode cX10_det 221 = .ok (.bipush 98, 2) := by decide +kernel
theorem dX10_det_223 : decode cX10_det 223 = .ok (.invokevirtual 658, 3) := by decide +kernel
theorem dX10_det_226 : decode cX10_det 226 = .ok (.return_, 1) := by decide +kernel
/-! AlgebraHouseModel.det(IIIII)V -/
def P_X10_det_172 (Q : Int → MM → Prop) (K63 : Int → Int → Int → Int → Int → Int → MM → Prop) (x1 : Int) (x2 : Int) (x3 : Int) (x4 : Int) (x5 : Int) (x6 : Int) (m : MM) : Prop := (RI (m 582 84)) ∧ (if (m 582 84) = 0 then ((RI x6)) ∧ P_X10_lessOrMore 1590600 1590500 x3 x4 (if x6 = 1 then 1 else 0 : Int) m (fun r1 m1 => K63 x1 x2 x3 x4 x5 (x6 + 1) m1) else K63 x1 x2 x3 x4 x5 (x6 + 1) m)
def P_X10_det_209 (Q : Int → MM → Prop) (x1 : Int) (m : MM) : Prop := (RI (m 582 84)) ∧ (if (m 582 84) = 0 then P_X10_copy x1 1590600 98 m (fun r1 m1 => Q 0 m1) else Q 0 m)
def P_X10_det_63 (Q : Int → MM → Prop) : Nat → Int → Int → Int → Int → Int → Int → MM → Prop
  | 0, _, _, _, _, _, _, _ => False
  | n + 1, x1, x2, x3, x4, x5, x6, m => (RI x5) ∧ (if x5 = 3 then (RI x6) ∧ (if 3 ≤ x6 then P_X10_det_209 Q x1 m else (RI (m 582 84)) ∧ (if (m 582 84) = 0 then P_X10_entryAt x2 1 (if x6 = 0 then 1 else 0 : Int) m (fun r1 m1 => P_X10_entryAt x2 1 (if x6 = 2 then 1 else 2 : Int) m1 (fun r2 m2 => P_X10_entryAt x2 2 (if x6 = 0 then 1 else 0 : Int) m2 (fun r3 m3 => P_X10_entryAt x2 2 (if x6 = 2 then 1 else 2 : Int) m3 (fun r4 m4 => P_X10_smallDet 1590500 r1 r2 r3 r4 x3 x4 m4 (fun r5 m5 => (RI (m5 582 84)) ∧ (if (m5 582 84) = 0 then P_X10_entryAt x2 0 x6 m5 (fun r6 m6 => P_X10_multiplyBlocks 1590500 r6 1590500 x3 x4 m6 (fun r7 m7 => P_X10_det_172 Q (fun z0 z1 z2 z3 z4 z5 z6 => P_X10_det_63 Q n z0 z1 z2 z3 z4 z5 z6) x1 x2 x3 x4 x5 x6 m7)) else P_X10_det_172 Q (fun z0 z1 z2 z3 z4 z5 z6 => P_X10_det_63 Q n z0 z1 z2 z3 z4 z5 z6) x1 x2 x3 x4 x5 x6 m5)))))) else P_X10_det_209 Q x1 m)) else P_X10_det_209 Q x1 m)
def P_X10_det_25 (Q : Int → MM → Prop) (x1 : Int) (x2 : Int) (x3 : Int) (x4 : Int) (x5 : Int) (m : MM) : Prop := (RI x5) ∧ (if x5 = 2 then P_X10_entryAt x2 0 1 m (fun r1 m1 => P_X10_entryAt x2 1 0 m1 (fun r2 m2 => P_X10_entryAt x2 1 1 m2 (fun r3 m3 => P_X10_smallDet 1590600 x2 r1 r2 r3 x3 x4 m3 (fun r4 m4 => ∃ nn, P_X10_det_63 Q nn x1 x2 x3 x4 x5 0 m4)))) else ∃ nn, P_X10_det_63 Q nn x1 x2 x3 x4 x5 0 m)
def P_X10_det (x1 : Int) (x2 : Int) (x3 : Int) (x4 : Int) (x5 : Int) (m : MM) (Q : Int → MM → Prop) : Prop := P_X10_clear 1590600 98 m (fun r1 m1 => (RI x5) ∧ (if x5 = 1 then P_X10_copy 1590600 x2 98 m1 (fun r2 m2 => P_X10_det_25 Q x1 x2 x3 x4 x5 m2) else P_X10_det_25 Q x1 x2 x3 x4 x5 m1))
theorem pl_X10_det_172 {f : Nat} {Q : Int → MM → Prop} {T : MM → Prop} (hf : 7 ≤ f) {K63 : Int → Int → Int → Int → Int → Int → MM → Prop} (hK63 : ∀ (x1 : Int) (x2 : Int) (x3 : Int) (x4 : Int) (x5 : Int) (x6 : Int) (m : MM), K63 x1 x2 x3 x4 x5 x6 m → B f M_X10_det 63 [vR 582, vI x1, vI x2, vI x3, vI x4, vI x5, vI x6, vU, vU] [] m Q T) : ∀ (x1 : Int) (x2 : Int) (x3 : Int) (x4 : Int) (x5 : Int) (x6 : Int) (m : MM), P_X10_det_172 Q K63 x1 x2 x3 x4 x5 x6 m → B f M_X10_det 172 [vR 582, vI x1, vI x2, vI x3, vI x4, vI x5, vI x6, vU, vU] [] m Q T := by
  intro x1 x2 x3 x4 x5 x6 m h
  have h : (RI (m 582 84)) ∧ (if (m 582 84) = 0 then ((RI x6)) ∧ P_X10_lessOrMore 1590600 1590500 x3 x4 (if x6 = 1 then 1 else 0 : Int) m (fun r1 m1 => K63 x1 x2 x3 x4 x5 (x6 + 1) m1) else K63 x1 x2 x3 x4 x5 (x6 + 1) m) := h
  refine b_aload_n dX10_det_172 rfl ?_
  refine b_getI dX10_det_173 fk_X10_601 ly_582 ?_
  obtain ⟨g1, h⟩ := h
  refine b_if_ne 203 dX10_det_176 g1 (by decide) (fun c1 => ?_) (fun c1 => ?_)
  · have h := ifF c1 h
    refine b_iinc (ls' := [vR 582, vI x1, vI x2, vI x3, vI x4, vI x5, vI (x6 + 1), vU, vU]) dX10_det_203 rfl rfl ?_
    refine b_goto 63 dX10_det_206 (by decide) ?_
    exact hK63 _ _ _ _ _ _ _ h
  · have h := ifT (Decidable.of_not_not c1) h
    refine b_aload_n dX10_det_179 rfl ?_
    refine b_ldcw (1590600) dX10_det_180 q2517 (by decide) ?_
    refine b_ldcw (1590500) dX10_det_183 q2527 (by decide) ?_
    refine b_iload_n dX10_det_186 rfl ?_
    refine b_iload dX10_det_187 rfl ?_
    refine b_iload dX10_det_189 rfl ?_
    refine b_iconst dX10_det_191 ?_
    obtain ⟨hs, h⟩ := h
    have K : B f M_X10_det 200 [vR 582, vI x1, vI x2, vI x3, vI x4, vI x5, vI x6, vU, vU] [vI (if x6 = 1 then 1 else 0 : Int), vI x4, vI x3, vI 1590500, vI 1590600, vR 582] m Q T := by
      clear hs
      refine b_cVv (as := [vI 1590600, vI 1590500, vI x3, vI x4, vI (if x6 = 1 then 1 else 0 : Int)]) (st := []) dX10_det_200 mf_X10_lessOrMore qs205 lk_X10_693 ly_582 rfl (p_X10_lessOrMore (f := 5) (Nat.le_refl _) _ _ _ _ _ _ h) (by omega) rfl rfl (Nat.le_of_ble_eq_true rfl) (by decide) rfl (fun _ => rfl) (fun r1 m1 h => ?_) (fun _ h => h)
      refine b_iinc (ls' := [vR 582, vI x1, vI x2, vI x3, vI x4, vI x5, vI (x6 + 1), vU, vU]) dX10_det_203 rfl rfl ?_
      refine b_goto 63 dX10_det_206 (by decide) ?_
      exact hK63 _ _ _ _ _ _ _ h
    have g2 := hs
    refine b_icmp_ne 199 dX10_det_192 g2 (by decide) (by decide) (fun c2 => ?_) (fun c2 => ?_)
    ·
      refine b_iconst dX10_det_199 ?_
      exact Eq.mp (congrArg (fun z => B f M_X10_det 200 [vR 582, vI x1, vI x2, vI x3, vI x4, vI x5, vI x6, vU, vU] (vI z :: [vI x4, vI x3, vI 1590500, vI 1590600, vR 582]) m Q T) (show (if x6 = 1 then 1 else 0 : Int) = 0 by rw [if_neg c2])) K
    ·
      have c2 := Decidable.of_not_not c2
      refine b_iconst dX10_det_195 ?_
      refine b_goto 200 dX10_det_196 (by decide) ?_
      exact Eq.mp (congrArg (fun z => B f M_X10_det 200 [vR 582, vI x1, vI x2, vI x3, vI x4, vI x5, vI x6, vU, vU] (vI z :: [vI x4, vI x3, vI 1590500, vI 1590600, vR 582]) m Q T) (show (if x6 = 1 then 1 else 0 : Int) = 1 by rw [if_pos c2])) K
theorem pl_X10_det_209 {f : Nat} {Q : Int → MM → Prop} {T : MM → Prop} (hf : 7 ≤ f) : ∀ (x1 : Int) (m : MM), P_X10_det_209 Q x1 m → B f M_X10_det 209 [vR 582, vI x1, vU, vU, vU, vU, vU, vU, vU] [] m Q T := by
  intro x1 m h
  have h : (RI (m 582 84)) ∧ (if (m 582 84) = 0 then P_X10_copy x1 1590600 98 m (fun r1 m1 => Q 0 m1) else Q 0 m) := h
  refine b_aload_n dX10_det_209 rfl ?_
  refine b_getI dX10_det_210 fk_X10_601 ly_582 ?_
  obtain ⟨g1, h⟩ := h
  refine b_if_ne 226 dX10_det_213 g1 (by decide) (fun c1 => ?_) (fun c1 => ?_)
  · have h := ifF c1 h
    exact b_vret dX10_det_226 rfl h
  · have h := ifT (Decidable.of_not_not c1) h
    refine b_aload_n dX10_det_216 rfl ?_
    refine b_iload_n dX10_det_217 rfl ?_
    refine b_ldcw (1590600) dX10_det_218 q2517 (by decide) ?_
    refine b_bipush dX10_det_221 (by decide) ?_
    refine b_cVv (as := [vI x1, vI 1590600, vI 98]) (st := []) dX10_det_223 mf_X10_copy qs164 lk_X10_658 ly_582 rfl (p_X10_copy (f := 1) (Nat.le_refl _) _ _ _ _ h) (by omega) rfl rfl (Nat.le_of_ble_eq_true rfl) (by decide) rfl (fun _ => rfl) (fun r1 m1 h => ?_) (fun _ h => h)
    exact b_vret dX10_det_226 rfl h
theorem pl_X10_det_63 {f : Nat} {Q : Int → MM → Prop} {T : MM → Prop} (hf : 7 ≤ f) : ∀ (n : Nat) (x1 : Int) (x2 : Int) (x3 : Int) (x4 : Int) (x5 : Int) (x6 : Int) (m : MM), P_X10_det_63 Q n x1 x2 x3 x4 x5 x6 m → B f M_X10_det 63 [vR 582, vI x1, vI x2, vI x3, vI x4, vI x5, vI x6, vU, vU] [] m Q T := by
  intro n
  induction n with
  | zero => intro x1 x2 x3 x4 x5 x6 m h; exact h.elim
  | succ n ih =>
    intro x1 x2 x3 x4 x5 x6 m h
    have h : (RI x5) ∧ (if x5 = 3 then (RI x6) ∧ (if 3 ≤ x6 then P_X10_det_209 Q x1 m else (RI (m 582 84)) ∧ (if (m 582 84) = 0 then P_X10_entryAt x2 1 (if x6 = 0 then 1 else 0 : Int) m (fun r1 m1 => P_X10_entryAt x2 1 (if x6 = 2 then 1 else 2 : Int) m1 (fun r2 m2 => P_X10_entryAt x2 2 (if x6 = 0 then 1 else 0 : Int) m2 (fun r3 m3 => P_X10_entryAt x2 2 (if x6 = 2 then 1 else 2 : Int) m3 (fun r4 m4 => P_X10_smallDet 1590500 r1 r2 r3 r4 x3 x4 m4 (fun r5 m5 => (RI (m5 582 84)) ∧ (if (m5 582 84) = 0 then P_X10_entryAt x2 0 x6 m5 (fun r6 m6 => P_X10_multiplyBlocks 1590500 r6 1590500 x3 x4 m6 (fun r7 m7 => P_X10_det_172 Q (fun z0 z1 z2 z3 z4 z5 z6 => P_X10_det_63 Q n z0 z1 z2 z3 z4 z5 z6) x1 x2 x3 x4 x5 x6 m7)) else P_X10_det_172 Q (fun z0 z1 z2 z3 z4 z5 z6 => P_X10_det_63 Q n z0 z1 z2 z3 z4 z5 z6) x1 x2 x3 x4 x5 x6 m5)))))) else P_X10_det_209 Q x1 m)) else P_X10_det_209 Q x1 m) := h
    refine b_iload dX10_det_63 rfl ?_
    refine b_iconst dX10_det_65 ?_
    obtain ⟨g1, h⟩ := h
    refine b_icmp_ne 209 dX10_det_66 g1 (by decide) (by decide) (fun c1 => ?_) (fun c1 => ?_)
    · have h := ifF c1 h
      refine b_fgt [true, true, false, false, false, false, false, false, false] (ls' := [vR 582, vI x1, vU, vU, vU, vU, vU, vU, vU]) rfl rfl ?_
      exact pl_X10_det_209 hf _ _ h
    · have h := ifT (Decidable.of_not_not c1) h
      refine b_iload dX10_det_69 rfl ?_
      refine b_iconst dX10_det_71 ?_
      obtain ⟨g2, h⟩ := h
      refine b_icmp_ge 209 dX10_det_72 g2 (by decide) (by decide) (fun c2 => ?_) (fun c2 => ?_)
      · have h := ifT c2 h
        refine b_fgt [true, true, false, false, false, false, false, false, false] (ls' := [vR 582, vI x1, vU, vU, vU, vU, vU, vU, vU]) rfl rfl ?_
        exact pl_X10_det_209 hf _ _ h
      · have h := ifF c2 h
        refine b_aload_n dX10_det_75 rfl ?_
        refine b_getI dX10_det_76 fk_X10_601 ly_582 ?_
        obtain ⟨g3, h⟩ := h
        refine b_if_ne 209 dX10_det_79 g3 (by decide) (fun c3 => ?_) (fun c3 => ?_)
        · have h := ifF c3 h
          refine b_fgt [true, true, false, false, false, false, false, false, false] (ls' := [vR 582, vI x1, vU, vU, vU, vU, vU, vU, vU]) rfl rfl ?_
          exact pl_X10_det_209 hf _ _ h
        · have h := ifT (Decidable.of_not_not c3) h
          refine b_iload dX10_det_82 rfl ?_
          have K : B f M_X10_det 92 [vR 582, vI x1, vI x2, vI x3, vI x4, vI x5, vI x6, vU, vU] [vI (if x6 = 0 then 1 else 0 : Int)] m Q T := by
            refine b_istore (ls' := [vR 582, vI x1, vI x2, vI x3, vI x4, vI x5, vI x6, vI (if x6 = 0 then 1 else 0 : Int), vU]) dX10_det_92 (Nat.le_of_ble_eq_true rfl) rfl ?_
            refine b_iload dX10_det_94 rfl ?_
            refine b_iconst dX10_det_96 ?_
            have K : B f M_X10_det 105 [vR 582, vI x1, vI x2, vI x3, vI x4, vI x5, vI x6, vI (if x6 = 0 then 1 else 0 : Int), vU] [vI (if x6 = 2 then 1 else 2 : Int)] m Q T := by
              refine b_istore (ls' := [vR 582, vI x1, vI x2, vI x3, vI x4, vI x5, vI x6, vI (if x6 = 0 then 1 else 0 : Int), vI (if x6 = 2 then 1 else 2 : Int)]) dX10_det_105 (Nat.le_of_ble_eq_true rfl) rfl ?_
              refine b_aload_n dX10_det_107 rfl ?_
              refine b_ldcw (1590500) dX10_det_108 q2527 (by decide) ?_
              refine b_iload_n dX10_det_111 rfl ?_
              refine b_iconst dX10_det_112 ?_
              refine b_iload dX10_det_113 rfl ?_
              refine b_cSi (as := [vI x2, vI 1, vI (if x6 = 0 then 1 else 0 : Int)]) (st := [vI 1590500, vR 582]) dX10_det_115 mf_X10_entryAt lk_X10_677 (p_X10_entryAt (f := 1) (Nat.le_refl _) _ _ _ _ h) (by omega) rfl rfl (Nat.le_of_ble_eq_true rfl) (by decide) rfl (fun _ => rfl) (fun r1 m1 h => ?_) (fun _ h => h)
              refine b_iload_n dX10_det_118 rfl ?_
              refine b_iconst dX10_det_119 ?_
              refine b_iload dX10_det_120 rfl ?_
              refine b_cSi (as := [vI x2, vI 1, vI (if x6 = 2 then 1 else 2 : Int)]) (st := [vI r1, vI 1590500, vR 582]) dX10_det_122 mf_X10_entryAt lk_X10_677 (p_X10_entryAt (f := 1) (Nat.le_refl _) _ _ _ _ h) (by omega) rfl rfl (Nat.le_of_ble_eq_true rfl) (by decide) rfl (fun _ => rfl) (fun r2 m2 h => ?_) (fun _ h => h)
              refine b_iload_n dX10_det_125 rfl ?_
              refine b_iconst dX10_det_126 ?_
              refine b_iload dX10_det_127 rfl ?_
              refine b_cSi (as := [vI x2, vI 2, vI (if x6 = 0 then 1 else 0 : Int)]) (st := [vI r2, vI r1, vI 1590500, vR 582]) dX10_det_129 mf_X10_entryAt lk_X10_677 (p_X10_entryAt (f := 1) (Nat.le_refl _) _ _ _ _ h) (by omega) rfl rfl (Nat.le_of_ble_eq_true rfl) (by decide) rfl (fun _ => rfl) (fun r3 m3 h => ?_) (fun _ h => h)
              refine b_iload_n dX10_det_132 rfl ?_
              refine b_iconst dX10_det_133 ?_
              refine b_iload dX10_det_134 rfl ?_
              refine b_cSi (as := [vI x2, vI 2, vI (if x6 = 2 then 1 else 2 : Int)]) (st := [vI r3, vI r2, vI r1, vI 1590500, vR 582]) dX10_det_136 mf_X10_entryAt lk_X10_677 (p_X10_entryAt (f := 1) (Nat.le_refl _) _ _ _ _ h) (by omega) rfl rfl (Nat.le_of_ble_eq_true rfl) (by decide) rfl (fun _ => rfl) (fun r4 m4 h => ?_) (fun _ h => h)
              refine b_iload_n dX10_det_139 rfl ?_
              refine b_iload dX10_det_140 rfl ?_
              refine b_cVv (as := [vI 1590500, vI r1, vI r2, vI r3, vI r4, vI x3, vI x4]) (st := []) dX10_det_142 mf_X10_smallDet qs204 lk_X10_698 ly_582 rfl (p_X10_smallDet (f := 6) (Nat.le_refl _) _ _ _ _ _ _ _ _ h) (by omega) rfl rfl (Nat.le_of_ble_eq_true rfl) (by decide) rfl (fun _ => rfl) (fun r5 m5 h => ?_) (fun _ h => h)
              refine b_aload_n dX10_det_145 rfl ?_
              refine b_getI dX10_det_146 fk_X10_601 ly_582 ?_
              obtain ⟨g4, h⟩ := h
              refine b_if_ne 172 dX10_det_149 g4 (by decide) (fun c4 => ?_) (fun c4 => ?_)
              · have h := ifF c4 h
                refine b_fgt [true, true, true, true, true, true, true, false, false] (ls' := [vR 582, vI x1, vI x2, vI x3, vI x4, vI x5, vI x6, vU, vU]) rfl rfl ?_
                exact pl_X10_det_172 hf (fun _ _ _ _ _ _ _ h => ih _ _ _ _ _ _ _ h) _ _ _ _ _ _ _ h
              · have h := ifT (Decidable.of_not_not c4) h
                refine b_aload_n dX10_det_152 rfl ?_
                refine b_ldcw (1590500) dX10_det_153 q2527 (by decide) ?_
                refine b_iload_n dX10_det_156 rfl ?_
                refine b_iconst dX10_det_157 ?_
                refine b_iload dX10_det_158 rfl ?_
                refine b_cSi (as := [vI x2, vI 0, vI x6]) (st := [vI 1590500, vR 582]) dX10_det_160 mf_X10_entryAt lk_X10_677 (p_X10_entryAt (f := 1) (Nat.le_refl _) _ _ _ _ h) (by omega) rfl rfl (Nat.le_of_ble_eq_true rfl) (by decide) rfl (fun _ => rfl) (fun r6 m6 h => ?_) (fun _ h => h)
                refine b_ldcw (1590500) dX10_det_163 q2527 (by decide) ?_
                refine b_iload_n dX10_det_166 rfl ?_
                refine b_iload dX10_det_167 rfl ?_
                refine b_cVv (as := [vI 1590500, vI r6, vI 1590500, vI x3, vI x4]) (st := []) dX10_det_169 mf_X10_multiplyBlocks qs171 lk_X10_689 ly_582 rfl (p_X10_multiplyBlocks (f := 5) (Nat.le_refl _) _ _ _ _ _ _ h) (by omega) rfl rfl (Nat.le_of_ble_eq_true rfl) (by decide) rfl (fun _ => rfl) (fun r7 m7 h => ?_) (fun _ h => h)
                refine b_fgt [true, true, true, true, true, true, true, false, false] (ls' := [vR 582, vI x1, vI x2, vI x3, vI x4, vI x5, vI x6, vU, vU]) rfl rfl ?_
                exact pl_X10_det_172 hf (fun _ _ _ _ _ _ _ h => ih _ _ _ _ _ _ _ h) _ _ _ _ _ _ _ h
            refine b_icmp_ne 104 dX10_det_97 g2 (by decide) (by decide) (fun c5 => ?_) (fun c5 => ?_)
            ·
              refine b_iconst dX10_det_104 ?_
              exact Eq.mp (congrArg (fun z => B f M_X10_det 105 [vR 582, vI x1, vI x2, vI x3, vI x4, vI x5, vI x6, vI (if x6 = 0 then 1 else 0 : Int), vU] (vI z :: []) m Q T) (show (if x6 = 2 then 1 else 2 : Int) = 2 by rw [if_neg c5])) K
            ·
              have c5 := Decidable.of_not_not c5
              refine b_iconst dX10_det_100 ?_
              refine b_goto 105 dX10_det_101 (by decide) ?_
              exact Eq.mp (congrArg (fun z => B f M_X10_det 105 [vR 582, vI x1, vI x2, vI x3, vI x4, vI x5, vI x6, vI (if x6 = 0 then 1 else 0 : Int), vU] (vI z :: []) m Q T) (show (if x6 = 2 then 1 else 2 : Int) = 1 by rw [if_pos c5])) K
          refine b_if_ne 91 dX10_det_84 g2 (by decide) (fun c6 => ?_) (fun c6 => ?_)
          ·
            refine b_iconst dX10_det_91 ?_
            exact Eq.mp (congrArg (fun z => B f M_X10_det 92 [vR 582, vI x1, vI x2, vI x3, vI x4, vI x5, vI x6, vU, vU] (vI z :: []) m Q T) (show (if x6 = 0 then 1 else 0 : Int) = 0 by rw [if_neg c6])) K
          ·
            have c6 := Decidable.of_not_not c6
            refine b_iconst dX10_det_87 ?_
            refine b_goto 92 dX10_det_88 (by decide) ?_
            exact Eq.mp (congrArg (fun z => B f M_X10_det 92 [vR 582, vI x1, vI x2, vI x3, vI x4, vI x5, vI x6, vU, vU] (vI z :: []) m Q T) (show (if x6 = 0 then 1 else 0 : Int) = 1 by rw [if_pos c6])) K
theorem pl_X10_det_25 {f : Nat} {Q : Int → MM → Prop} {T : MM → Prop} (hf : 7 ≤ f) : ∀ (x1 : Int) (x2 : Int) (x3 : Int) (x4 : Int) (x5 : Int) (m : MM), P_X10_det_25 Q x1 x2 x3 x4 x5 m → B f M_X10_det 25 [vR 582, vI x1, vI x2, vI x3, vI x4, vI x5, vU, vU, vU] [] m Q T := by
  intro x1 x2 x3 x4 x5 m h
  have h : (RI x5) ∧ (if x5 = 2 then P_X10_entryAt x2 0 1 m (fun r1 m1 => P_X10_entryAt x2 1 0 m1 (fun r2 m2 => P_X10_entryAt x2 1 1 m2 (fun r3 m3 => P_X10_smallDet 1590600 x2 r1 r2 r3 x3 x4 m3 (fun r4 m4 => ∃ nn, P_X10_det_63 Q nn x1 x2 x3 x4 x5 0 m4)))) else ∃ nn, P_X10_det_63 Q nn x1 x2 x3 x4 x5 0 m) := h
  refine b_iload dX10_det_25 rfl ?_
  refine b_iconst dX10_det_27 ?_
  obtain ⟨g1, h⟩ := h
  refine b_icmp_ne 60 dX10_det_28 g1 (by decide) (by decide) (fun c1 => ?_) (fun c1 => ?_)
  · have h := ifF c1 h
    refine b_iconst dX10_det_60 ?_
    refine b_istore (ls' := [vR 582, vI x1, vI x2, vI x3, vI x4, vI x5, vI 0, vU, vU]) dX10_det_61 (Nat.le_of_ble_eq_true rfl) rfl ?_
    obtain ⟨nn, h⟩ := h
    exact pl_X10_det_63 hf nn _ _ _ _ _ _ _ h
  · have h := ifT (Decidable.of_not_not c1) h
    refine b_aload_n dX10_det_31 rfl ?_
    refine b_ldcw (1590600) dX10_det_32 q2517 (by decide) ?_
    refine b_iload_n dX10_det_35 rfl ?_
    refine b_iload_n dX10_det_36 rfl ?_
    refine b_iconst dX10_det_37 ?_
    refine b_iconst dX10_det_38 ?_
    refine b_cSi (as := [vI x2, vI 0, vI 1]) (st := [vI x2, vI 1590600, vR 582]) dX10_det_39 mf_X10_entryAt lk_X10_677 (p_X10_entryAt (f := 1) (Nat.le_refl _) _ _ _ _ h) (by omega) rfl rfl (Nat.le_of_ble_eq_true rfl) (by decide) rfl (fun _ => rfl) (fun r1 m1 h => ?_) (fun _ h => h)
    refine b_iload_n dX10_det_42 rfl ?_
    refine b_iconst dX10_det_43 ?_
    refine b_iconst dX10_det_44 ?_
    refine b_cSi (as := [vI x2, vI 1, vI 0]) (st := [vI r1, vI x2, vI 1590600, vR 582]) dX10_det_45 mf_X10_entryAt lk_X10_677 (p_X10_entryAt (f := 1) (Nat.le_refl _) _ _ _ _ h) (by omega) rfl rfl (Nat.le_of_ble_eq_true rfl) (by decide) rfl (fun _ => rfl) (fun r2 m2 h => ?_) (fun _ h => h)
    refine b_iload_n dX10_det_48 rfl ?_
    refine b_iconst dX10_det_49 ?_
    refine b_iconst dX10_det_50 ?_
    refine b_cSi (as := [vI x2, vI 1, vI 1]) (st := [vI r2, vI r1, vI x2, vI 1590600, vR 582]) dX10_det_51 mf_X10_entryAt lk_X10_677 (p_X10_entryAt (f := 1) (Nat.le_refl _) _ _ _ _ h) (by omega) rfl rfl (Nat.le_of_ble_eq_true rfl) (by decide) rfl (fun _ => rfl) (fun r3 m3 h => ?_) (fun _ h => h)
    refine b_iload_n dX10_det_54 rfl ?_
    refine b_iload dX10_det_55 rfl ?_
    refine b_cVv (as := [vI 1590600, vI x2, vI r1, vI r2, vI r3, vI x3, vI x4]) (st := []) dX10_det_57 mf_X10_smallDet qs204 lk_X10_698 ly_582 rfl (p_X10_smallDet (f := 6) (Nat.le_refl _) _ _ _ _ _ _ _ _ h) (by omega) rfl rfl (Nat.le_of_ble_eq_true rfl) (by decide) rfl (fun _ => rfl) (fun r4 m4 h => ?_) (fun _ h => h)
    refine b_iconst dX10_det_60 ?_
    refine b_istore (ls' := [vR 582, vI x1, vI x2, vI x3, vI x4, vI x5, vI 0, vU, vU]) dX10_det_61 (Nat.le_of_ble_eq_true rfl) rfl ?_
    obtain ⟨nn, h⟩ := h
    exact pl_X10_det_63 hf nn _ _ _ _ _ _ _ h
theorem p_X10_det {f : Nat} {Q : Int → MM → Prop} {T : MM → Prop} (hf : 7 ≤ f) (x1 : Int) (x2 : Int) (x3 : Int) (x4 : Int) (x5 : Int) (m : MM) (h : P_X10_det x1 x2 x3 x4 x5 m Q) : CC f M_X10_det [vR 582, vI x1, vI x2, vI x3, vI x4, vI x5] m Q T := by
  refine CC.of (plainFor_of_name (by decide)) (Nat.le_of_ble_eq_true rfl) (ls := [vR 582, vI x1, vI x2, vI x3, vI x4, vI x5, vU, vU, vU]) rfl ?_
  have h : P_X10_clear 1590600 98 m (fun r1 m1 => (RI x5) ∧ (if x5 = 1 then P_X10_copy 1590600 x2 98 m1 (fun r2 m2 => P_X10_det_25 Q x1 x2 x3 x4 x5 m2) else P_X10_det_25 Q x1 x2 x3 x4 x5 m1)) := h
  refine b_aload_n dX10_det_0 rfl ?_
  refine b_ldcw (1590600) dX10_det_1 q2517 (by decide) ?_
  refine b_bipush dX10_det_4 (by decide) ?_
  refine b_cVv (as := [vI 1590600, vI 98]) (st := []) dX10_det_6 mf_X10_clear qs162 lk_X10_685 ly_582 rfl (p_X10_clear (f := 2) (Nat.le_refl _) _ _ _ h) (by omega) rfl rfl (Nat.le_of_ble_eq_true rfl) (by decide) rfl (fun _ => rfl) (fun r1 m1 h => ?_) (fun _ h => h)
  refine b_iload dX10_det_9 rfl ?_
  refine b_iconst dX10_det_11 ?_
  obtain ⟨g1, h⟩ := h
  refine b_icmp_ne 25 dX10_det_12 g1 (by decide) (by decide) (fun c1 => ?_) (fun c1 => ?_)
  · have h := ifF c1 h
    exact pl_X10_det_25 hf _ _ _ _ _ _ h
  · have h := ifT (Decidable.of_not_not c1) h
    refine b_aload_n dX10_det_15 rfl ?_
    refine b_ldcw (1590600) dX10_det_16 q2517 (by decide) ?_
    refine b_iload_n dX10_det_19 rfl ?_
    refine b_bipush dX10_det_20 (by decide) ?_
    refine b_cVv (as := [vI 1590600, vI x2, vI 98]) (st := []) dX10_det_22 mf_X10_copy qs164 lk_X10_658 ly_582 rfl (p_X10_copy (f := 1) (Nat.le_refl _) _ _ _ _ h) (by omega) rfl rfl (Nat.le_of_ble_eq_true rfl) (by decide) rfl (fun _ => rfl) (fun r2 m2 h => ?_) (fun _ h => h)
    exact pl_X10_det_25 hf _ _ _ _ _ _ h
theorem dX10_characterize_0 : decode cX10_characterize 0 = .ok (.aload_n 0, 1) := by decide +kernel
theorem dX10_characterize_1 : decode cX10_characterize 1 = .ok (.ldc_w 862, 3) := by decide +kernel
theorem dX10_characterize_4 : decode cX10_characterize 4 = .ok (.iload_n 1, 1) := by decide +kernel
theorem dX10_characterize_5 : decode cX10_characterize 5 = .ok (.sipush 882, 3) := by decide +kernel
theorem dX10_characterize_8 : decode cX10_characterize 8 = .ok (.invokevirtual 658, 3) := by decide +kernel
theorem dX10_characterize_11 : decode cX10_characterize 11 = .ok (.aload_n 0, 1) := by decide +kernel
theorem dX10_characterize_12 : decode cX10_characterize 12 = .ok (.iload_n 1, 1) := by decide +kernel
theorem dX10_characterize_13 : decode cX10_characterize 13 = .ok (.sipush 882, 3) := by decide +kernel
theorem dX10_characterize_16 : decode cX10_characterize 16 = .ok (.invokevirtual 685, 3) := by decide +kernel
theorem dX10_characterize_19 : decode cX10_characterize 19 = .ok (.iconst 0, 1) := by decide +kernel
theorem dX10_characterize_20 : decode cX10_characterize 20 = .ok (.istore 4, 2) := by decide +kernel
theorem dX10_characterize_22 : decode cX10_characterize 22 = .ok (.iload 4, 2) := by decide +kernel
theorem dX10_characterize_24 : decode cX10_characterize 24 = .ok (.iload_n 3, 1) := by decide +kernel
theorem dX10_characterize_25 : decode cX10_characterize 25 = .ok (.if_icmp .ge 82, 3) := by decide +kernel
theorem dX10_characterize_28 : decode cX10_characterize 28 = .ok (.iconst 0, 1) := by decide +kernel
theorem dX10_characterize_29 : decode cX10_characterize 29 = .ok (.istore 5, 2) := by decide +kernel
theorem dX10_characterize_31 : decode cX10_characterize 31 = .ok (.iload 5, 2) := by decide +kernel
theorem dX10_characterize_33 : decode cX10_characterize 33 = .ok (.iload_n 3, 1) := by decide +kernel
theorem dX10_characterize_34 : decode cX10_characterize 34 = .ok (.if_icmp .ge 67, 3) := by decide +kernel
theorem dX10_characterize_37 : decode cX10_characterize 37 = .ok (.iload_n 1, 1) := by decide +kernel
theorem dX10_characterize_38 : decode cX10_characterize 38 = .ok (.iload 4, 2) := by decide +kernel
theorem dX10_characterize_40 : decode cX10_characterize 40 = .ok (.iload 5, 2) := by decide +kernel
theorem dX10_characterize_42 : decode cX10_characterize 42 = .ok (.invokestatic 677, 3) := by decide +kernel
theorem dX10_characterize_45 : decode cX10_characterize 45 = .ok (.istore 6, 2) := by decide +kernel
theorem dX10_characterize_47 : decode cX10_characterize 47 = .ok (.aload_n 0, 1) := by decide +kernel
theorem dX10_characterize_48 : decode cX10_characterize 48 = .ok (.ldc_w 702, 3) := by decide +kernel
theorem dX10_characterize_51 : decode cX10_characterize 51 = .ok (.iconst 2, 1) := by decide +kernel
theorem dX10_characterize_52 : decode cX10_characterize 52 = .ok (.invokevirtual 685, 3) := by decide +kernel
theorem dX10_characterize_55 : decode cX10_characterize 55 = .ok (.aload_n 0, 1) := by decide +kernel
theorem dX10_characterize_56 : decode cX10_characterize 56 = .ok (.iload_n 2, 1) := by decide +kernel
theorem dX10_characterize_57 : decode cX10_characterize 57 = .ok (.ldc_w 702, 3) := by decide +kernel
theorem dX10_characterize_60 : decode cX10_characterize 60 = .ok (.ldc_w 862, 3) := by decide +kernel
theorem dX10_characterize_63 : decode cX10_characterize 63 = .ok (.iload 4, 2) := by decide +kernel
theorem dX10_characterize_65 : decode cX10_characterize 65 = .ok (.iload 5, 2) := by decide +kernel
theorem dX10_characterize_67 : decode cX10_characterize 67 = .ok (.invokestatic 677, 3) := by decide +kernel
theorem dX10_characterize_70 : decode cX10_characterize 70 = .ok (.invokevirtual 647, 3) := by decide +kernel
theorem dX10_characterize_73 : decode cX10_characterize 73 = .ok (.aload_n 0, 1) := by decide +kernel
theorem dX10_characterize_74 : decode cX10_characterize 74 = .ok (.iload 6, 2) := by decide +kernel
theorem dX10_characterize_76 : decode cX10_characterize 76 = .ok (.invokevirtual 644, 3) := by decide +kernel
theorem dX10_characterize_79 : decode cX10_characterize 79 = .ok (.iload 4, 2) := by decide +kernel
theorem dX10_characterize_81 : decode cX10_characterize 81 = .ok (.iload 5, 2) := by decide +kernel
theorem dX10_characterize_83 : decode cX10_characterize 83 = .ok (.if_icmp .ne 12, 3) := by decide +kernel
theorem dX10_characterize_86 : decode cX10_characterize 86 = .ok (.aload_n 0, 1) := by decide +kernel
theorem dX10_characterize_87 : decode cX10_characterize 87 = .ok (.iload 6, 2) := by decide +kernel
theorem dX10_characterize_89 : decode cX10_characterize 89 = .ok (.iconst 2, 1) := by decide +kernel
theorem dX10_characterize_90 : decode cX10_characterize 90 = .ok (.iadd, 1) := by decide +kernel
theorem dX10_characterize_91 : decode cX10_characterize 91 = .ok (.lconst 1, 1) := by decide +kernel
theorem dX10_characterize_92 : decode cX10_characterize 92 = .ok (.invokevirtual 633, 3) := by decide +kernel
theorem dX10_characterize_95 : decode cX10_characterize 95 = .ok (.iinc 5 1, 3) := by decide +kernel
theorem dX10_characterize_98 : decode cX10_characterize 98 = .ok (.goto (-67), 3) := by decide +kernel
theorem dX10_characterize_101 : decode cX10_characterize 101 = .ok (.iinc 4 1, 3) := by decide +kernel
theorem dX10_characterize_104 : decode cX10_characterize 104 = .ok (.goto (-82), 3) := by decide +kernel
theorem dX10_characterize_107 : decode cX10_characterize 107 = .ok (.aload_n 0, 1) := by decide +kernel
theorem dX10_characterize_108 : decode cX10_characterize 108 = .ok (.ldc_w 688, 3) := by decide +kernel
theorem dX10_characterize_111 : decode cX10_characterize 111 = .ok (.iload_n 1, 1) := by decide +kernel
theorem dX10_characterize_112 : decode cX10_characterize 112 = .ok (.iload_n 2, 1) := by decide +kernel
theorem dX10_characterize_113 : decode cX10_characterize 113 = .ok (.iconst 1, 1) := by decide +kernel
theorem dX10_characterize_114 : decode cX10_characterize 114 = .ok (.iload_n 3, 1) := by decide +kernel
theorem dX10_characterize_115 : decode cX10_characterize 115 = .ok (.invokevirtual 845, 3) := by decide +kernel
theorem dX10_characterize_118 : decode cX10_characterize 118 = .ok (.aload_n 0, 1) := by decide +kernel
theorem dX10_characterize_119 : decode cX10_characterize 119 = .ok (.iload_n 1, 1) := by decide +kernel
theorem dX10_characterize_120 : decode cX10_characterize 120 = .ok (.sipush 882, 3) := by decide +kernel
theorem dX10_characterize_123 : decode cX10_characterize 123 = .ok (.invokevirtual 685, 3) := by decide +kernel
theorem dX10_characterize_126 : decode cX10_characterize 126 = .ok (.aload_n 0, 1) := by decide +kernel
theorem dX10_characterize_127 : decode cX10_characterize 127 = .ok (.getfield 601, 3) := by decide +kernel
theorem dX10_characterize_130 : decode cX10_characterize 130 = .ok (.ifCond .ne 13, 3) := by decide +kernel
theorem dX10_characterize_133 : decode cX10_characterize 133 = .ok (.aload_n 0, 1) := by decide +kernel
theorem dX10_characterize_134 : decode cX10_characterize 134 = .ok (.iload_n 1, 1) := by decide +kernel
theorem dX10_characterize_135 : decode cX10_characterize 135 = .ok (.ldc_w 688, 3) := by decide +kernel
theorem dX10_characterize_138 : decode cX10_characterize 138 = .ok (.bipush 98, 2) := by decide +kernel
theorem dX10_characterize_140 : decode cX10_characterize 140 = .ok (.invokevirtual 658, 3) := by decide +kernel
theorem dX10_characterize_143 : decode cX10_characterize 143 = .ok (.return_, 1) := by decide +kernel
/-! AlgebraHouseModel.characterize(III)V -/
def P_X10_characterize_31 (Q : Int → MM → Prop) (K22 : Int → Int → Int → Int → MM → Prop) : Nat → Int → Int → Int → Int → Int → MM → Prop
  | 0, _, _, _, _, _, _ => False
  | n + 1, x1, x2, x3, x4, x5, m => (RI x5) ∧ (RI x3) ∧ (if x3 ≤ x5 then K22 x1 x2 x3 (x4 + 1) m else P_X10_entryAt x1 x4 x5 m (fun r1 m1 => P_X10_clear 1590500 2 m1 (fun r2 m2 => P_X10_entryAt 1595000 x4 x5 m2 (fun r3 m3 => P_X10_takeNumbers x2 1590500 r3 m3 (fun r4 m4 => P_X10_put r1 m4 (fun r5 m5 => (RI x4) ∧ (if x4 = x5 then P_X10_set (r1 + 2) 1 m5 (fun r6 m6 => P_X10_characterize_31 Q K22 n x1 x2 x3 x4 (x5 + 1) m6) else P_X10_characterize_31 Q K22 n x1 x2 x3 x4 (x5 + 1) m5)))))))
def P_X10_characterize_107 (Q : Int → MM → Prop) (x1 : Int) (x2 : Int) (x3 : Int) (m : MM) : Prop := P_X10_det 1590300 x1 x2 1 x3 m (fun r1 m1 => P_X10_clear x1 882 m1 (fun r2 m2 => (RI (m2 582 84)) ∧ (if (m2 582 84) = 0 then P_X10_copy x1 1590300 98 m2 (fun r3 m3 => Q 0 m3) else Q 0 m2)))
def P_X10_characterize_22 (Q : Int → MM → Prop) : Nat → Int → Int → Int → Int → MM → Prop
  | 0, _, _, _, _, _ => False
  | n + 1, x1, x2, x3, x4, m => (RI x4) ∧ (RI x3) ∧ (if x3 ≤ x4 then P_X10_characterize_107 Q x1 x2 x3 m else ∃ nn, P_X10_characterize_31 Q (fun z0 z1 z2 z3 z4 => P_X10_characterize_22 Q n z0 z1 z2 z3 z4) nn x1 x2 x3 x4 0 m)
def P_X10_characterize (x1 : Int) (x2 : Int) (x3 : Int) (m : MM) (Q : Int → MM → Prop) : Prop := P_X10_copy 1595000 x1 882 m (fun r1 m1 => P_X10_clear x1 882 m1 (fun r2 m2 => ∃ nn, P_X10_characterize_22 Q nn x1 x2 x3 0 m2))
theorem pl_X10_characterize_31 {f : Nat} {Q : Int → MM → Prop} {T : MM → Prop} (hf : 8 ≤ f) {K22 : Int → Int → Int → Int → MM → Prop} (hK22 : ∀ (x1 : Int) (x2 : Int) (x3 : Int) (x4 : Int) (m : MM), K22 x1 x2 x3 x4 m → B f M_X10_characterize 22 [vR 582, vI x1, vI x2, vI x3, vI x4, vU, vU] [] m Q T) : ∀ (n : Nat) (x1 : Int) (x2 : Int) (x3 : Int) (x4 : Int) (x5 : Int) (m : MM), P_X10_characterize_31 Q K22 n x1 x2 x3 x4 x5 m → B f M_X10_characterize 31 [vR 582, vI x1, vI x2, vI x3, vI x4, vI x5, vU] [] m Q T := by
  intro n
  induction n with
  | zero => intro x1 x2 x3 x4 x5 m h; exact h.elim
  | succ n ih =>
    intro x1 x2 x3 x4 x5 m h
    have h : (RI x5) ∧ (RI x3) ∧ (if x3 ≤ x5 then K22 x1 x2 x3 (x4 + 1) m else P_X10_entryAt x1 x4 x5 m (fun r1 m1 => P_X10_clear 1590500 2 m1 (fun r2 m2 => P_X10_entryAt 1595000 x4 x5 m2 (fun r3 m3 => P_X10_takeNumbers x2 1590500 r3 m3 (fun r4 m4 => P_X10_put r1 m4 (fun r5 m5 => (RI x4) ∧ (if x4 = x5 then P_X10_set (r1 + 2) 1 m5 (fun r6 m6 => P_X10_characterize_31 Q K22 n x1 x2 x3 x4 (x5 + 1) m6) else P_X10_characterize_31 Q K22 n x1 x2 x3 x4 (x5 + 1) m5))))))) := h
    refine b_iload dX10_characterize_31 rfl ?_
    refine b_iload_n dX10_characterize_33 rfl ?_
    obtain ⟨g1, h⟩ := h
    obtain ⟨g2, h⟩ := h
    refine b_icmp_ge 101 dX10_characterize_34 g1 g2 (by decide) (fun c1 => ?_) (fun c1 => ?_)
    · have h := ifT c1 h
      refine b_iinc (ls' := [vR 582, vI x1, vI x2, vI x3, vI (x4 + 1), vI x5, vU]) dX10_characterize_101 rfl rfl ?_
      refine b_goto 22 dX10_characterize_104 (by decide) ?_
      refine b_fgt [true, true, true, true, true, false, false] (ls' := [vR 582, vI x1, vI x2, vI x3, vI (x4 + 1), vU, vU]) rfl rfl ?_
      exact hK22 _ _ _ _ _ h
    · have h := ifF c1 h
      refine b_iload_n dX10_characterize_37 rfl ?_
      refine b_iload dX10_characterize_38 rfl ?_
      refine b_iload dX10_characterize_40 rfl ?_
      refine b_cSi (as := [vI x1, vI x4, vI x5]) (st := []) dX10_characterize_42 mf_X10_entryAt lk_X10_677 (p_X10_entryAt (f := 1) (Nat.le_refl _) _ _ _ _ h) (by omega) rfl rfl (Nat.le_of_ble_eq_true rfl) (by decide) rfl (fun _ => rfl) (fun r1 m1 h => ?_) (fun _ h => h)
      refine b_istore (ls' := [vR 582, vI x1, vI x2, vI x3, vI x4, vI x5, vI r1]) dX10_characterize_45 (Nat.le_of_ble_eq_true rfl) rfl ?_
      refine b_aload_n dX10_characterize_47 rfl ?_
      refine b_ldcw (1590500) dX10_characterize_48 q2527 (by decide) ?_
      refine b_iconst dX10_characterize_51 ?_
      refine b_cVv (as := [vI 1590500, vI 2]) (st := []) dX10_characterize_52 mf_X10_clear qs162 lk_X10_685 ly_582 rfl (p_X10_clear (f := 2) (Nat.le_refl _) _ _ _ h) (by omega) rfl rfl (Nat.le_of_ble_eq_true rfl) (by decide) rfl (fun _ => rfl) (fun r2 m2 h => ?_) (fun _ h => h)
      refine b_aload_n dX10_characterize_55 rfl ?_
      refine b_iload_n dX10_characterize_56 rfl ?_
      refine b_ldcw (1590500) dX10_characterize_57 q2527 (by decide) ?_
      refine b_ldcw (1595000) dX10_characterize_60 q2508 (by decide) ?_
      refine b_iload dX10_characterize_63 rfl ?_
      refine b_iload dX10_characterize_65 rfl ?_
      refine b_cSi (as := [vI 1595000, vI x4, vI x5]) (st := [vI 1590500, vI x2, vR 582]) dX10_characterize_67 mf_X10_entryAt lk_X10_677 (p_X10_entryAt (f := 1) (Nat.le_refl _) _ _ _ _ h) (by omega) rfl rfl (Nat.le_of_ble_eq_true rfl) (by decide) rfl (fun _ => rfl) (fun r3 m3 h => ?_) (fun _ h => h)
      refine b_cVv (as := [vI x2, vI 1590500, vI r3]) (st := []) dX10_characterize_70 mf_X10_takeNumbers qs188 lk_X10_647 ly_582 rfl (p_X10_takeNumbers (f := 3) (Nat.le_refl _) _ _ _ _ h) (by omega) rfl rfl (Nat.le_of_ble_eq_true rfl) (by decide) rfl (fun _ => rfl) (fun r4 m4 h => ?_) (fun _ h => h)
      refine b_aload_n dX10_characterize_73 rfl ?_
      refine b_iload dX10_characterize_74 rfl ?_
      refine b_cVv (as := [vI r1]) (st := []) dX10_characterize_76 mf_X10_put qs175 lk_X10_644 ly_582 rfl (p_X10_put (f := 1) (Nat.le_refl _) _ _ h) (by omega) rfl rfl (Nat.le_of_ble_eq_true rfl) (by decide) rfl (fun _ => rfl) (fun r5 m5 h => ?_) (fun _ h => h)
      refine b_iload dX10_characterize_79 rfl ?_
      refine b_iload dX10_characterize_81 rfl ?_
      obtain ⟨g3, h⟩ := h
      refine b_icmp_ne 95 dX10_characterize_83 g3 g1 (by decide) (fun c2 => ?_) (fun c2 => ?_)
      · have h := ifF c2 h
        refine b_iinc (ls' := [vR 582, vI x1, vI x2, vI x3, vI x4, vI (x5 + 1), vI r1]) dX10_characterize_95 rfl rfl ?_
        refine b_goto 31 dX10_characterize_98 (by decide) ?_
        refine b_fgt [true, true, true, true, true, true, false] (ls' := [vR 582, vI x1, vI x2, vI x3, vI x4, vI (x5 + 1), vU]) rfl rfl ?_
        exact ih _ _ _ _ _ _ h
      · have h := ifT (Decidable.of_not_not c2) h
        refine b_aload_n dX10_characterize_86 rfl ?_
        refine b_iload dX10_characterize_87 rfl ?_
        refine b_iconst dX10_characterize_89 ?_
        refine b_iadd dX10_characterize_90 ?_
        refine b_lconst 1 dX10_characterize_91 (by decide) ?_
        refine b_cVv (as := [vI (r1 + 2), vL 1]) (st := []) dX10_characterize_92 mf_X10_set qs163 lk_X10_633 ly_582 rfl (p_X10_set (f := 1) (Nat.le_refl _) _ _ _ h) (by omega) rfl rfl (Nat.le_of_ble_eq_true rfl) (by decide) rfl (fun _ => rfl) (fun r6 m6 h => ?_) (fun _ h => h)
        refine b_iinc (ls' := [vR 582, vI x1, vI x2, vI x3, vI x4, vI (x5 + 1), vI r1]) dX10_characterize_95 rfl rfl ?_
        refine b_goto 31 dX10_characterize_98 (by decide) ?_
        refine b_fgt [true, true, true, true, true, true, false] (ls' := [vR 582, vI x1, vI x2, vI x3, vI x4, vI (x5 + 1), vU]) rfl rfl ?_
        exact ih _ _ _ _ _ _ h
theorem pl_X10_characterize_107 {f : Nat} {Q : Int → MM → Prop} {T : MM → Prop} (hf : 8 ≤ f) : ∀ (x1 : Int) (x2 : Int) (x3 : Int) (m : MM), P_X10_characterize_107 Q x1 x2 x3 m → B f M_X10_characterize 107 [vR 582, vI x1, vI x2, vI x3, vU, vU, vU] [] m Q T := by
  intro x1 x2 x3 m h
  have h : P_X10_det 1590300 x1 x2 1 x3 m (fun r1 m1 => P_X10_clear x1 882 m1 (fun r2 m2 => (RI (m2 582 84)) ∧ (if (m2 582 84) = 0 then P_X10_copy x1 1590300 98 m2 (fun r3 m3 => Q 0 m3) else Q 0 m2))) := h
  refine b_aload_n dX10_characterize_107 rfl ?_
  refine b_ldcw (1590300) dX10_characterize_108 q2363 (by decide) ?_
  refine b_iload_n dX10_characterize_111 rfl ?_
  refine b_iload_n dX10_characterize_112 rfl ?_
  refine b_iconst dX10_characterize_113 ?_
  refine b_iload_n dX10_characterize_114 rfl ?_
  refine b_cVv (as := [vI 1590300, vI x1, vI x2, vI 1, vI x3]) (st := []) dX10_characterize_115 mf_X10_det qs203 lk_X10_845 ly_582 rfl (p_X10_det (f := 7) (Nat.le_refl _) _ _ _ _ _ _ h) (by omega) rfl rfl (Nat.le_of_ble_eq_true rfl) (by decide) rfl (fun _ => rfl) (fun r1 m1 h => ?_) (fun _ h => h)
  refine b_aload_n dX10_characterize_118 rfl ?_
  refine b_iload_n dX10_characterize_119 rfl ?_
  refine b_sipush dX10_characterize_120 (by decide) ?_
  refine b_cVv (as := [vI x1, vI 882]) (st := []) dX10_characterize_123 mf_X10_clear qs162 lk_X10_685 ly_582 rfl (p_X10_clear (f := 2) (Nat.le_refl _) _ _ _ h) (by omega) rfl rfl (Nat.le_of_ble_eq_true rfl) (by decide) rfl (fun _ => rfl) (fun r2 m2 h => ?_) (fun _ h => h)
  refine b_aload_n dX10_characterize_126 rfl ?_
  refine b_getI dX10_characterize_127 fk_X10_601 ly_582 ?_
  obtain ⟨g1, h⟩ := h
  refine b_if_ne 143 dX10_characterize_130 g1 (by decide) (fun c1 => ?_) (fun c1 => ?_)
  · have h := ifF c1 h
    exact b_vret dX10_characterize_143 rfl h
  · have h := ifT (Decidable.of_not_not c1) h
    refine b_aload_n dX10_characterize_133 rfl ?_
    refine b_iload_n dX10_characterize_134 rfl ?_
    refine b_ldcw (1590300) dX10_characterize_135 q2363 (by decide) ?_
    refine b_bipush dX10_characterize_138 (by decide) ?_
    refine b_cVv (as := [vI x1, vI 1590300, vI 98]) (st := []) dX10_characterize_140 mf_X10_copy qs164 lk_X10_658 ly_582 rfl (p_X10_copy (f := 1) (Nat.le_refl _) _ _ _ _ h) (by omega) rfl rfl (Nat.le_of_ble_eq_true rfl) (by decide) rfl (fun _ => rfl) (fun r3 m3 h => ?_) (fun _ h => h)
    exact b_vret dX10_characterize_143 rfl h
theorem pl_X10_characterize_22 {f : Nat} {Q : Int → MM → Prop} {T : MM → Prop} (hf : 8 ≤ f) : ∀ (n : Nat) (x1 : Int) (x2 : Int) (x3 : Int) (x4 : Int) (m : MM), P_X10_characterize_22 Q n x1 x2 x3 x4 m → B f M_X10_characterize 22 [vR 582, vI x1, vI x2, vI x3, vI x4, vU, vU] [] m Q T := by
  intro n
  induction n with
  | zero => intro x1 x2 x3 x4 m h; exact h.elim
  | succ n ih =>
    intro x1 x2 x3 x4 m h
    have h : (RI x4) ∧ (RI x3) ∧ (if x3 ≤ x4 then P_X10_characterize_107 Q x1 x2 x3 m else ∃ nn, P_X10_characterize_31 Q (fun z0 z1 z2 z3 z4 => P_X10_characterize_22 Q n z0 z1 z2 z3 z4) nn x1 x2 x3 x4 0 m) := h
    refine b_iload dX10_characterize_22 rfl ?_
    refine b_iload_n dX10_characterize_24 rfl ?_
    obtain ⟨g1, h⟩ := h
    obtain ⟨g2, h⟩ := h
    refine b_icmp_ge 107 dX10_characterize_25 g1 g2 (by decide) (fun c1 => ?_) (fun c1 => ?_)
    · have h := ifT c1 h
      refine b_fgt [true, true, true, true, false, false, false] (ls' := [vR 582, vI x1, vI x2, vI x3, vU, vU, vU]) rfl rfl ?_
      exact pl_X10_characterize_107 hf _ _ _ _ h
    · have h := ifF c1 h
      refine b_iconst dX10_characterize_28 ?_
      refine b_istore (ls' := [vR 582, vI x1, vI x2, vI x3, vI x4, vI 0, vU]) dX10_characterize_29 (Nat.le_of_ble_eq_true rfl) rfl ?_
      obtain ⟨nn, h⟩ := h
      exact pl_X10_characterize_31 hf (fun _ _ _ _ _ h => ih _ _ _ _ _ h) nn _ _ _ _ _ _ h
theorem p_X10_characterize {f : Nat} {Q : Int → MM → Prop} {T : MM → Prop} (hf : 8 ≤ f) (x1 : Int) (x2 : Int) (x3 : Int) (m : MM) (h : P_X10_characterize x1 x2 x3 m Q) : CC f M_X10_characterize [vR 582, vI x1, vI x2, vI x3] m Q T := by
  refine CC.of (plainFor_of_name (by decide)) (Nat.le_of_ble_eq_true rfl) (ls := [vR 582, vI x1, vI x2, vI x3, vU, vU, vU]) rfl ?_
  have h : P_X10_copy 1595000 x1 882 m (fun r1 m1 => P_X10_clear x1 882 m1 (fun r2 m2 => ∃ nn, P_X10_characterize_22 Q nn x1 x2 x3 0 m2)) := h
  refine b_aload_n dX10_characterize_0 rfl ?_
  refine b_ldcw (1595000) dX10_characterize_1 q2508 (by decide) ?_
  refine b_iload_n dX10_characterize_4 rfl ?_
  refine b_sipush dX10_characterize_5 (by decide) ?_
  refine b_cVv (as := [vI 1595000, vI x1, vI 882]) (st := []) dX10_characterize_8 mf_X10_copy qs164 lk_X10_658 ly_582 rfl (p_X10_copy (f := 1) (Nat.le_refl _) _ _ _ _ h) (by omega) rfl rfl (Nat.le_of_ble_eq_true rfl) (by decide) rfl (fun _ => rfl) (fun r1 m1 h => ?_) (fun _ h => h)
  refine b_aload_n dX10_characterize_11 rfl ?_
  refine b_iload_n dX10_characterize_12 rfl ?_
  refine b_sipush dX10_characterize_13 (by decide) ?_
  refine b_cVv (as := [vI x1, vI 882]) (st := []) dX10_characterize_16 mf_X10_clear qs162 lk_X10_685 ly_582 rfl (p_X10_clear (f := 2) (Nat.le_refl _) _ _ _ h) (by omega) rfl rfl (Nat.le_of_ble_eq_true rfl) (by decide) rfl (fun _ => rfl) (fun r2 m2 h => ?_) (fun _ h => h)
  refine b_iconst dX10_characterize_19 ?_
  refine b_istore (ls' := [vR 582, vI x1, vI x2, vI x3, vI 0, vU, vU]) dX10_characterize_20 (Nat.le_of_ble_eq_true rfl) rfl ?_
  obtain ⟨nn, h⟩ := h
  exact pl_X10_characterize_22 hf nn _ _ _ _ _ h
theorem dX10_coefficient_0 : decode cX10_coefficient 0 = .ok (.aload_n 0, 1) := by decide +kernel
theorem dX10_coefficient_1 : decode cX10_coefficient 1 = .ok (.ldc_w 750, 3) := by decide +kernel
theorem dX10_coefficient_4 : decode cX10_coefficient 4 = .ok (.iload_n 1, 1) := by decide +kernel
theorem dX10_coefficient_5 : decode cX10_coefficient 5 = .ok (.sipush 882, 3) := by decide +kernel
theorem dX10_coefficient_8 : decode cX10_coefficient 8 = .ok (.invokevirtual 658, 3) := by decide +kernel
theorem dX10_coefficient_11 : decode cX10_coefficient 11 = .ok (.aload_n 0, 1) := by decide +kernel
theorem dX10_coefficient_12 : decode cX10_coefficient 12 = .ok (.iload_n 1, 1) := by decide +kernel
theorem dX10_coefficient_13 : decode cX10_coefficient 13 = .ok (.sipush 882, 3) := by decide +kernel
theorem dX10_coefficient_16 : decode cX10_coefficient 16 = .ok (.invokevirtual 685, 3) := by decide +kernel
theorem dX10_coefficient_19 : decode cX10_coefficient 19 = .ok (.lload_n 2, 1) := by decide +kernel
theorem dX10_coefficient_20 : decode cX10_coefficient 20 = .ok (.lconst 0, 1) := by decide +kernel
theorem dX10_coefficient_21 : decode cX10_coefficient 21 = .ok (.lcmp, 1) := by decide +kernel
theorem dX10_coefficient_22 : decode cX10_coefficient 22 = .ok (.ifCond .lt 11, 3) := by decide +kernel
theorem dX10_coefficient_25 : decode cX10_coefficient 25 = .ok (.lload_n 2, 1) := by decide +kernel
theorem dX10_coefficient_26 : decode cX10_coefficient 26 = .ok (.ldc2_w 709, 3) := by decide +kernel
theorem dX10_coefficient_29 : decode cX10_coefficient 29 = .ok (.lcmp, 1) := by decide +kernel
theorem dX10_coefficient_30 : decode cX10_coefficient 30 = .ok (.ifCond .lt 4, 3) := by decide +kernel
theorem dX10_coefficient_33 : decode cX10_coefficient 33 = .ok (.return_, 1) := by decide +kernel
theorem dX10_coefficient_34 : decode cX10_coefficient 34 = .ok (.iload 4, 2) := by decide +kernel
theorem dX10_coefficient_36 : decode cX10_coefficient 36 = .ok (.iconst 1, 1) := by decide +kernel
theorem dX10_coefficient_37 : decode cX10_coefficient 37 = .ok (.if_icmp .ne 20, 3) := by decide +kernel
theorem dX10_coefficient_40 : decode cX10_coefficient 40 = .ok (.aload_n 0, 1) := by decide +kernel
theorem dX10_coefficient_41 : decode cX10_coefficient 41 = .ok (.iload_n 1, 1) := by decide +kernel
theorem dX10_coefficient_42 : decode cX10_coefficient 42 = .ok (.ldc_w 750, 3) := by decide +kernel
theorem dX10_coefficient_45 : decode cX10_coefficient 45 = .ok (.iconst 2, 1) := by decide +kernel
theorem dX10_coefficient_46 : decode cX10_coefficient 46 = .ok (.lload_n 2, 1) := by decide +kernel
theorem dX10_coefficient_47 : decode cX10_coefficient 47 = .ok (.l2i, 1) := by decide +kernel
theorem dX10_coefficient_48 : decode cX10_coefficient 48 = .ok (.imul, 1) := by decide +kernel
theorem dX10_coefficient_49 : decode cX10_coefficient 49 = .ok (.iadd, 1) := by decide +kernel
theorem dX10_coefficient_50 : decode cX10_coefficient 50 = .ok (.iconst 2, 1) := by decide +kernel
theorem dX10_coefficient_51 : decode cX10_coefficient 51 = .ok (.invokevirtual 658, 3) := by decide +kernel
theorem dX10_coefficient_54 : decode cX10_coefficient 54 = .ok (.goto 19, 3) := by decide +kernel
theorem dX10_coefficient_57 : decode cX10_coefficient 57 = .ok (.aload_n 0, 1) := by decide +kernel
theorem dX10_coefficient_58 : decode cX10_coefficient 58 = .ok (.iload_n 1, 1) := by decide +kernel
theorem dX10_coefficient_59 : decode cX10_coefficient 59 = .ok (.ldc_w 750, 3) := by decide +kernel
theorem dX10_coefficient_62 : decode cX10_coefficient 62 = .ok (.bipush 14, 2) := by decide +kernel
theorem dX10_coefficient_64 : decode cX10_coefficient 64 = .ok (.lload_n 2, 1) := by decide +kernel
theorem dX10_coefficient_65 : decode cX10_coefficient 65 = .ok (.l2i, 1) := by decide +kernel
theorem dX10_coefficient_66 : decode cX10_coefficient 66 = .ok (.imul, 1) := by decide +kernel
theorem dX10_coefficient_67 : decode cX10_coefficient 67 = .ok (.iadd, 1) := by decide +kernel
theorem dX10_coefficient_68 : decode cX10_coefficient 68 = .ok (.bipush 14, 2) := by decide +kernel
theorem dX10_coefficient_70 : decode cX10_coefficient 70 = .ok (.invokevirtual 658, 3) := by decide +kernel
theorem dX10_coefficient_73 : decode cX10_coefficient 73 = .ok (.return_, 1) := by decide +kernel
/-! AlgebraHouseModel.coefficient(IJI)V -/
def P_X10_coefficient (x1 : Int) (x2 : Int) (x4 : Int) (m : MM) (Q : Int → MM → Prop) : Prop := P_X10_copy 1593000 x1 882 m (fun r1 m1 => P_X10_clear x1 882 m1 (fun r2 m2 => (RL x2) ∧ (if x2 < 0 then Q 0 m2 else (if x2 < 7 then (RI x4) ∧ (if x4 = 1 then P_X10_copy x1 (1593000 + (2 * x2)) 2 m2 (fun r4 m4 => Q 0 m4) else P_X10_copy x1 (1593000 + (14 * x2)) 14 m2 (fun r3 m3 => Q 0 m3)) else Q 0 m2))))
theorem p_X10_coefficient {f : Nat} {Q : Int → MM → Prop} {T : MM → Prop} (hf : 3 ≤ f) (x1 : Int) (x2 : Int) (x4 : Int) (m : MM) (h : P_X10_coefficient x1 x2 x4 m Q) : CC f M_X10_coefficient [vR 582, vI x1, vL x2, vI x4] m Q T := by
  refine CC.of (plainFor_of_name (by decide)) (Nat.le_of_ble_eq_true rfl) (ls := [vR 582, vI x1, vL x2, vU, vI x4]) rfl ?_
  have h : P_X10_copy 1593000 x1 882 m (fun r1 m1 => P_X10_clear x1 882 m1 (fun r2 m2 => (RL x2) ∧ (if x2 < 0 then Q 0 m2 else (if x2 < 7 then (RI x4) ∧ (if x4 = 1 then P_X10_copy x1 (1593000 + (2 * x2)) 2 m2 (fun r4 m4 => Q 0 m4) else P_X10_copy x1 (1593000 + (14 * x2)) 14 m2 (fun r3 m3 => Q 0 m3)) else Q 0 m2)))) := h
  refine b_aload_n dX10_coefficient_0 rfl ?_
  refine b_ldcw (1593000) dX10_coefficient_1 q2347 (by decide) ?_
  refine b_iload_n dX10_coefficient_4 rfl ?_
  refine b_sipush dX10_coefficient_5 (by decide) ?_
  refine b_cVv (as := [vI 1593000, vI x1, vI 882]) (st := []) dX10_coefficient_8 mf_X10_copy qs164 lk_X10_658 ly_582 rfl (p_X10_copy (f := 1) (Nat.le_refl _) _ _ _ _ h) (by omega) rfl rfl (Nat.le_of_ble_eq_true rfl) (by decide) rfl (fun _ => rfl) (fun r1 m1 h => ?_) (fun _ h => h)
  refine b_aload_n dX10_coefficient_11 rfl ?_
  refine b_iload_n dX10_coefficient_12 rfl ?_
  refine b_sipush dX10_coefficient_13 (by decide) ?_
  refine b_cVv (as := [vI x1, vI 882]) (st := []) dX10_coefficient_16 mf_X10_clear qs162 lk_X10_685 ly_582 rfl (p_X10_clear (f := 2) (Nat.le_refl _) _ _ _ h) (by omega) rfl rfl (Nat.le_of_ble_eq_true rfl) (by decide) rfl (fun _ => rfl) (fun r2 m2 h => ?_) (fun _ h => h)
  refine b_lload_n dX10_coefficient_19 rfl ?_
  refine b_lconst 0 dX10_coefficient_20 (by decide) ?_
  obtain ⟨g1, h⟩ := h
  refine b_lc_lt 33 dX10_coefficient_21 dX10_coefficient_22 g1 (by decide) (by decide) (fun c1 => ?_) (fun c1 => ?_)
  · have h := ifT c1 h
    exact b_vret dX10_coefficient_33 rfl h
  · have h := ifF c1 h
    refine b_lload_n dX10_coefficient_25 rfl ?_
    refine b_ldc2 (7) dX10_coefficient_26 q2305 (by decide) ?_
    refine b_lc_lt 34 dX10_coefficient_29 dX10_coefficient_30 g1 (by decide) (by decide) (fun c2 => ?_) (fun c2 => ?_)
    · have h := ifT c2 h
      refine b_iload dX10_coefficient_34 rfl ?_
      refine b_iconst dX10_coefficient_36 ?_
      obtain ⟨g2, h⟩ := h
      refine b_icmp_ne 57 dX10_coefficient_37 g2 (by decide) (by decide) (fun c3 => ?_) (fun c3 => ?_)
      · have h := ifF c3 h
        refine b_aload_n dX10_coefficient_57 rfl ?_
        refine b_iload_n dX10_coefficient_58 rfl ?_
        refine b_ldcw (1593000) dX10_coefficient_59 q2347 (by decide) ?_
        refine b_bipush dX10_coefficient_62 (by decide) ?_
        refine b_lload_n dX10_coefficient_64 rfl ?_
        refine b_l2i dX10_coefficient_65 ?_
        refine b_imul dX10_coefficient_66 ?_
        refine b_iadd dX10_coefficient_67 ?_
        refine b_bipush dX10_coefficient_68 (by decide) ?_
        refine b_cVv (as := [vI x1, vI (1593000 + (14 * x2)), vI 14]) (st := []) dX10_coefficient_70 mf_X10_copy qs164 lk_X10_658 ly_582 rfl (p_X10_copy (f := 1) (Nat.le_refl _) _ _ _ _ h) (by omega) rfl rfl (Nat.le_of_ble_eq_true rfl) (by decide) rfl (fun _ => rfl) (fun r3 m3 h => ?_) (fun _ h => h)
        exact b_vret dX10_coefficient_73 rfl h
      · have h := ifT (Decidable.of_not_not c3) h
        refine b_aload_n dX10_coefficient_40 rfl ?_
        refine b_iload_n dX10_coefficient_41 rfl ?_
        refine b_ldcw (1593000) dX10_coefficient_42 q2347 (by decide) ?_
        refine b_iconst dX10_coefficient_45 ?_
        refine b_lload_n dX10_coefficient_46 rfl ?_
        refine b_l2i dX10_coefficient_47 ?_
        refine b_imul dX10_coefficient_48 ?_
        refine b_iadd dX10_coefficient_49 ?_
        refine b_iconst dX10_coefficient_50 ?_
        refine b_cVv (as := [vI x1, vI (1593000 + (2 * x2)), vI 2]) (st := []) dX10_coefficient_51 mf_X10_copy qs164 lk_X10_658 ly_582 rfl (p_X10_copy (f := 1) (Nat.le_refl _) _ _ _ _ h) (by omega) rfl rfl (Nat.le_of_ble_eq_true rfl) (by decide) rfl (fun _ => rfl) (fun r4 m4 h => ?_) (fun _ h => h)
        refine b_goto 73 dX10_coefficient_54 (by decide) ?_
        exact b_vret dX10_coefficient_73 rfl h
    · have h := ifF c2 h
      exact b_vret dX10_coefficient_33 rfl h
theorem dX10_degreeOf_0 : decode cX10_degreeOf 0 = .ok (.bipush 6, 2) := by decide +kernel
theorem dX10_degreeOf_2 : decode cX10_degreeOf 2 = .ok (.istore_n 2, 1) := by decide +kernel
theorem dX10_degreeOf_3 : decode cX10_degreeOf 3 = .ok (.iload_n 2, 1) := by decide +kernel
theorem dX10_degreeOf_4 : decode cX10_degreeOf 4 = .ok (.ifCond .lt 24, 3) := by decide +kernel
theorem dX10_degreeOf_7 : decode cX10_degreeOf 7 = .ok (.aload_n 0, 1) := by decide +kernel
theorem dX10_degreeOf_8 : decode cX10_degreeOf 8 = .ok (.getfield 250, 3) := by decide +kernel
theorem dX10_degreeOf_11 : decode cX10_degreeOf 11 = .ok (.iload_n 1, 1) := by decide +kernel
theorem dX10_degreeOf_12 : decode cX10_degreeOf 12 = .ok (.iconst 2, 1) := by decide +kernel
theorem dX10_degreeOf_13 : decode cX10_degreeOf 13 = .ok (.iload_n 2, 1) := by decide +kernel
theorem dX10_degreeOf_14 : decode cX10_degreeOf 14 = .ok (.imul, 1) := by decide +kernel
theorem dX10_degreeOf_15 : decode cX10_degreeOf 15 = .ok (.iadd, 1) := by decide +kernel
theorem dX10_degreeOf_16 : decode cX10_degreeOf 16 = .ok (.laload, 1) := by decide +kernel
theorem dX10_degreeOf_17 : decode cX10_degreeOf 17 = .ok (.lconst 0, 1) := by decide +kernel
theorem dX10_degreeOf_18 : decode cX10_degreeOf 18 = .ok (.lcmp, 1) := by decide +kernel
theorem dX10_degreeOf_19 : decode cX10_degreeOf 19 = .ok (.ifCond .ne 9, 3) := by decide +kernel
theorem dX10_degreeOf_22 : decode cX10_degreeOf 22 = .ok (.iinc 2 (-1), 3) := by decide +kernel
theorem dX10_degreeOf_25 : decode cX10_degreeOf 25 = .ok (.goto (-22), 3) := by decide +kernel
theorem dX10_degreeOf_28 : decode cX10_degreeOf 28 = .ok (.iload_n 2, 1) := by decide +kernel
theorem dX10_degreeOf_29 : decode cX10_degreeOf 29 = .ok (.ireturn, 1) := by decide +kernel
/-! AlgebraHouseModel.degreeOf(I)I -/
def P_X10_degreeOf_3 (Q : Int → MM → Prop) : Nat → Int → Int → MM → Prop
  | 0, _, _, _ => False
  | n + 1, x1, x2, m => (RI x2) ∧ (if x2 < 0 then Q x2 m else (0 ≤ (x1 + (2 * x2)) ∧ (x1 + (2 * x2)) < 1600000) ∧ (RL (m 635 (x1 + (2 * x2)))) ∧ (if (m 635 (x1 + (2 * x2))) = 0 then P_X10_degreeOf_3 Q n x1 (x2 + (-1)) m else Q x2 m))
def P_X10_degreeOf (x1 : Int) (m : MM) (Q : Int → MM → Prop) : Prop := ∃ nn, P_X10_degreeOf_3 Q nn x1 6 m
theorem pl_X10_degreeOf_3 {f : Nat} {Q : Int → MM → Prop} {T : MM → Prop} (hf : 1 ≤ f) : ∀ (n : Nat) (x1 : Int) (x2 : Int) (m : MM), P_X10_degreeOf_3 Q n x1 x2 m → B f M_X10_degreeOf 3 [vR 582, vI x1, vI x2] [] m Q T := by
  intro n
  induction n with
  | zero => intro x1 x2 m h; exact h.elim
  | succ n ih =>
    intro x1 x2 m h
    have h : (RI x2) ∧ (if x2 < 0 then Q x2 m else (0 ≤ (x1 + (2 * x2)) ∧ (x1 + (2 * x2)) < 1600000) ∧ (RL (m 635 (x1 + (2 * x2)))) ∧ (if (m 635 (x1 + (2 * x2))) = 0 then P_X10_degreeOf_3 Q n x1 (x2 + (-1)) m else Q x2 m)) := h
    refine b_iload_n dX10_degreeOf_3 rfl ?_
    obtain ⟨g1, h⟩ := h
    refine b_if_lt 28 dX10_degreeOf_4 g1 (by decide) (fun c1 => ?_) (fun c1 => ?_)
    · have h := ifT c1 h
      refine b_iload_n dX10_degreeOf_28 rfl ?_
      exact b_iret dX10_degreeOf_29 rfl h
    · have h := ifF c1 h
      refine b_aload_n dX10_degreeOf_7 rfl ?_
      refine b_getR dX10_degreeOf_8 fk_X10_250 ly_582 gg_582_85 ?_
      refine b_iload_n dX10_degreeOf_11 rfl ?_
      refine b_iconst dX10_degreeOf_12 ?_
      refine b_iload_n dX10_degreeOf_13 rfl ?_
      refine b_imul dX10_degreeOf_14 ?_
      refine b_iadd dX10_degreeOf_15 ?_
      obtain ⟨g2, h⟩ := h
      refine b_lald dX10_degreeOf_16 ly_635 g2 ?_
      refine b_lconst 0 dX10_degreeOf_17 (by decide) ?_
      obtain ⟨g3, h⟩ := h
      refine b_lc_ne 28 dX10_degreeOf_18 dX10_degreeOf_19 g3 (by decide) (by decide) (fun c2 => ?_) (fun c2 => ?_)
      · have h := ifF c2 h
        refine b_iload_n dX10_degreeOf_28 rfl ?_
        exact b_iret dX10_degreeOf_29 rfl h
      · have h := ifT (Decidable.of_not_not c2) h
        refine b_iinc (ls' := [vR 582, vI x1, vI (x2 + (-1))]) dX10_degreeOf_22 rfl rfl ?_
        refine b_goto 3 dX10_degreeOf_25 (by decide) ?_
        exact ih _ _ _ h
theorem p_X10_degreeOf {f : Nat} {Q : Int → MM → Prop} {T : MM → Prop} (hf : 1 ≤ f) (x1 : Int) (m : MM) (h : P_X10_degreeOf x1 m Q) : CC f M_X10_degreeOf [vR 582, vI x1] m Q T := by
  refine CC.of (plainFor_of_name (by decide)) (Nat.le_of_ble_eq_true rfl) (ls := [vR 582, vI x1, vU]) rfl ?_
  have h : ∃ nn, P_X10_degreeOf_3 Q nn x1 6 m := h
  refine b_bipush dX10_degreeOf_0 (by decide) ?_
  refine b_istore_n (ls' := [vR 582, vI x1, vI 6]) dX10_degreeOf_2 (Nat.le_of_ble_eq_true rfl) rfl ?_
  obtain ⟨nn, h⟩ := h
  exact pl_X10_degreeOf_3 hf nn _ _ _ h
theorem dX10_derive_0 : decode cX10_derive 0 = .ok (.aload_n 0, 1) := by decide +kernel
theorem dX10_derive_1 : decode cX10_derive 1 = .ok (.ldc_w 750, 3) := by decide +kernel
theorem dX10_derive_4 : decode cX10_derive 4 = .ok (.iload_n 1, 1) := by decide +kernel
theorem dX10_derive_5 : decode cX10_derive 5 = .ok (.bipush 98, 2) := by decide +kernel
theorem dX10_derive_7 : decode cX10_derive 7 = .ok (.invokevirtual 658, 3) := by decide +kernel
theorem dX10_derive_10 : decode cX10_derive 10 = .ok (.aload_n 0, 1) := by decide +kernel
theorem dX10_derive_11 : decode cX10_derive 11 = .ok (.iload_n 1, 1) := by decide +kernel
theorem dX10_derive_12 : decode cX10_derive 12 = .ok (.bipush 98, 2) := by decide +kernel
theorem dX10_derive_14 : decode cX10_derive 14 = .ok (.invokevirtual 685, 3) := by decide +kernel
theorem dX10_derive_17 : decode cX10_derive 17 = .ok (.iconst 0, 1) := by decide +kernel
theorem dX10_derive_18 : decode cX10_derive 18 = .ok (.istore 4, 2) := by decide +kernel
theorem dX10_derive_20 : decode cX10_derive 20 = .ok (.iload 4, 2) := by decide +kernel
theorem dX10_derive_22 : decode cX10_derive 22 = .ok (.iload_n 3, 1) := by decide +kernel
theorem dX10_derive_23 : decode cX10_derive 23 = .ok (.invokestatic 637, 3) := by decide +kernel
theorem dX10_derive_26 : decode cX10_derive 26 = .ok (.iconst 2, 1) := by decide +kernel
theorem dX10_derive_27 : decode cX10_derive 27 = .ok (.idiv, 1) := by decide +kernel
theorem dX10_derive_28 : decode cX10_derive 28 = .ok (.if_icmp .ge 103, 3) := by decide +kernel
theorem dX10_derive_31 : decode cX10_derive 31 = .ok (.iload_n 3, 1) := by decide +kernel
theorem dX10_derive_32 : decode cX10_derive 32 = .ok (.iconst 1, 1) := by decide +kernel
theorem dX10_derive_33 : decode cX10_derive 33 = .ok (.if_icmp .ne 8, 3) := by decide +kernel
theorem dX10_derive_36 : decode cX10_derive 36 = .ok (.iload 4, 2) := by decide +kernel
theorem dX10_derive_38 : decode cX10_derive 38 = .ok (.goto 8, 3) := by decide +kernel
theorem dX10_derive_41 : decode cX10_derive 41 = .ok (.iload 4, 2) := by decide +kernel
theorem dX10_derive_43 : decode cX10_derive 43 = .ok (.bipush 7, 2) := by decide +kernel
theorem dX10_derive_45 : decode cX10_derive 45 = .ok (.idiv, 1) := by decide +kernel
theorem dX10_derive_46 : decode cX10_derive 46 = .ok (.istore 5, 2) := by decide +kernel
theorem dX10_derive_48 : decode cX10_derive 48 = .ok (.iload 5, 2) := by decide +kernel
theorem dX10_derive_50 : decode cX10_derive 50 = .ok (.ifCond .eq 75, 3) := by decide +kernel
theorem dX10_derive_53 : decode cX10_derive 53 = .ok (.aload_n 0, 1) := by decide +kernel
theorem dX10_derive_54 : decode cX10_derive 54 = .ok (.getfield 601, 3) := by decide +kernel
theorem dX10_derive_57 : decode cX10_derive 57 = .ok (.ifCond .le 6, 3) := by decide +kernel
theorem dX10_derive_60 : decode cX10_derive 60 = .ok (.goto 65, 3) := by decide +kernel
theorem dX10_derive_63 : decode cX10_derive 63 = .ok (.aload_n 0, 1) := by decide +kernel
theorem dX10_derive_64 : decode cX10_derive 64 = .ok (.iload_n 2, 1) := by decide +kernel
theorem dX10_derive_65 : decode cX10_derive 65 = .ok (.iload 5, 2) := by decide +kernel
theorem dX10_derive_67 : decode cX10_derive 67 = .ok (.i2l, 1) := by decide +kernel
theorem dX10_derive_68 : decode cX10_derive 68 = .ok (.aload_n 0, 1) := by decide +kernel
theorem dX10_derive_69 : decode cX10_derive 69 = .ok (.getfield 250, 3) := by decide +kernel
theorem dX10_derive_72 : decode cX10_derive 72 = .ok (.ldc_w 750, 3) := by decide +kernel
theorem dX10_derive_75 : decode cX10_derive 75 = .ok (.iconst 2, 1) := by decide +kernel
theorem dX10_derive_76 : decode cX10_derive 76 = .ok (.iload 4, 2) := by decide +kernel
theorem dX10_derive_78 : decode cX10_derive 78 = .ok (.imul, 1) := by decide +kernel
theorem dX10_derive_79 : decode cX10_derive 79 = .ok (.iadd, 1) := by decide +kernel
theorem dX10_derive_80 : decode cX10_derive 80 = .ok (.laload, 1) := by decide +kernel
theorem dX10_derive_81 : decode cX10_derive 81 = .ok (.lmul, 1) := by decide +kernel
theorem dX10_derive_82 : decode cX10_derive 82 = .ok (.aload_n 0, 1) := by decide +kernel
theorem dX10_derive_83 : decode cX10_derive 83 = .ok (.getfield 250, 3) := by decide +kernel
theorem dX10_derive_86 : decode cX10_derive 86 = .ok (.ldc_w 750, 3) := by decide +kernel
theorem dX10_derive_89 : decode cX10_derive 89 = .ok (.iconst 2, 1) := by decide +kernel
theorem dX10_derive_90 : decode cX10_derive 90 = .ok (.iload 4, 2) := by decide +kernel
theorem dX10_derive_92 : decode cX10_derive 92 = .ok (.imul, 1) := by decide +kernel
theorem dX10_derive_93 : decode cX10_derive 93 = .ok (.iadd, 1) := by decide +kernel
theorem dX10_derive_94 : decode cX10_derive 94 = .ok (.iconst 1, 1) := by decide +kernel
theorem dX10_derive_95 : decode cX10_derive 95 = .ok (.iadd, 1) := by decide +kernel
theorem dX10_derive_96 : decode cX10_derive 96 = .ok (.laload, 1) := by decide +kernel
theorem dX10_derive_97 : decode cX10_derive 97 = .ok (.invokevirtual 626, 3) := by decide +kernel
theorem dX10_derive_100 : decode cX10_derive 100 = .ok (.aload_n 0, 1) := by decide +kernel
theorem dX10_derive_101 : decode cX10_derive 101 = .ok (.iload_n 1, 1) := by decide +kernel
theorem dX10_derive_102 : decode cX10_derive 102 = .ok (.iconst 2, 1) := by decide +kernel
theorem dX10_derive_103 : decode cX10_derive 103 = .ok (.iload_n 3, 1) := by decide +kernel
theorem dX10_derive_104 : decode cX10_derive 104 = .ok (.iconst 1, 1) := by decide +kernel
theorem dX10_derive_105 : decode cX10_derive 105 = .ok (.if_icmp .ne 10, 3) := by decide +kernel
theorem dX10_derive_108 : decode cX10_derive 108 = .ok (.iload 4, 2) := by decide +kernel
theorem dX10_derive_110 : decode cX10_derive 110 = .ok (.iconst 1, 1) := by decide +kernel
theorem dX10_derive_111 : decode cX10_derive 111 = .ok (.isub, 1) := by decide +kernel
theorem dX10_derive_112 : decode cX10_derive 112 = .ok (.goto 8, 3) := by decide +kernel
theorem dX10_derive_115 : decode cX10_derive 115 = .ok (.iload 4, 2) := by decide +kernel
theorem dX10_derive_117 : decode cX10_derive 117 = .ok (.bipush 7, 2) := by decide +kernel
theorem dX10_derive_119 : decode cX10_derive 119 = .ok (.isub, 1) := by decide +kernel
theorem dX10_derive_120 : decode cX10_derive 120 = .ok (.imul, 1) := by decide +kernel
theorem dX10_derive_121 : decode cX10_derive 121 = .ok (.iadd, 1) := by decide +kernel
theorem dX10_derive_122 : decode cX10_derive 122 = .ok (.invokevirtual 644, 3) := by decide +kernel
theorem dX10_derive_125 : decode cX10_derive 125 = .ok (.iinc 4 1, 3) := by decide +kernel
theorem dX10_derive_128 : decode cX10_derive 128 = .ok (.goto (-108), 3) := by decide +kernel
theorem dX10_derive_131 : decode cX10_derive 131 = .ok (.return_, 1) := by decide +kernel
/-! AlgebraHouseModel.derive(III)V -/
def P_X10_derive_20 (Q : Int → MM → Prop) : Nat → Int → Int → Int → Int → MM → Prop
  | 0, _, _, _, _, _ => False
  | n + 1, x1, x2, x3, x4, m => P_X10_width x3 m (fun r1 m1 => (RI r1) ∧ (RI x4) ∧ (RI (Int.tdiv r1 2)) ∧ (if (Int.tdiv r1 2) ≤ x4 then Q 0 m1 else ((RI x3)) ∧ (RI (if x3 = 1 then x4 else (Int.tdiv x4 7) : Int)) ∧ (if (if x3 = 1 then x4 else (Int.tdiv x4 7) : Int) = 0 then P_X10_derive_20 Q n x1 x2 x3 (x4 + 1) m1 else (RI (m1 582 84)) ∧ (if (m1 582 84) ≤ 0 then (0 ≤ (1593000 + (2 * x4)) ∧ (1593000 + (2 * x4)) < 1600000) ∧ (0 ≤ ((1593000 + (2 * x4)) + 1) ∧ ((1593000 + (2 * x4)) + 1) < 1600000) ∧ P_X10_number x2 ((if x3 = 1 then x4 else (Int.tdiv x4 7) : Int) * (m1 635 (1593000 + (2 * x4)))) (m1 635 ((1593000 + (2 * x4)) + 1)) m1 (fun r2 m2 => ((RI x3)) ∧ P_X10_put (x1 + (2 * (if x3 = 1 then (x4 - 1) else (x4 - 7) : Int))) m2 (fun r3 m3 => P_X10_derive_20 Q n x1 x2 x3 (x4 + 1) m3)) else P_X10_derive_20 Q n x1 x2 x3 (x4 + 1) m1))))
def P_X10_derive (x1 : Int) (x2 : Int) (x3 : Int) (m : MM) (Q : Int → MM → Prop) : Prop := P_X10_copy 1593000 x1 98 m (fun r1 m1 => P_X10_clear x1 98 m1 (fun r2 m2 => ∃ nn, P_X10_derive_20 Q nn x1 x2 x3 0 m2))
theorem pl_X10_derive_20 {f : Nat} {Q : Int → MM → Prop} {T : MM → Prop} (hf : 3 ≤ f) : ∀ (n : Nat) (x1 : Int) (x2 : Int) (x3 : Int) (x4 : Int) (m : MM), P_X10_derive_20 Q n x1 x2 x3 x4 m → B f M_X10_derive 20 [vR 582, vI x1, vI x2, vI x3, vI x4, vU] [] m Q T := by
  intro n
  induction n with
  | zero => intro x1 x2 x3 x4 m h; exact h.elim
  | succ n ih =>
    intro x1 x2 x3 x4 m h
    have h : P_X10_width x3 m (fun r1 m1 => (RI r1) ∧ (RI x4) ∧ (RI (Int.tdiv r1 2)) ∧ (if (Int.tdiv r1 2) ≤ x4 then Q 0 m1 else ((RI x3)) ∧ (RI (if x3 = 1 then x4 else (Int.tdiv x4 7) : Int)) ∧ (if (if x3 = 1 then x4 else (Int.tdiv x4 7) : Int) = 0 then P_X10_derive_20 Q n x1 x2 x3 (x4 + 1) m1 else (RI (m1 582 84)) ∧ (if (m1 582 84) ≤ 0 then (0 ≤ (1593000 + (2 * x4)) ∧ (1593000 + (2 * x4)) < 1600000) ∧ (0 ≤ ((1593000 + (2 * x4)) + 1) ∧ ((1593000 + (2 * x4)) + 1) < 1600000) ∧ P_X10_number x2 ((if x3 = 1 then x4 else (Int.tdiv x4 7) : Int) * (m1 635 (1593000 + (2 * x4)))) (m1 635 ((1593000 + (2 * x4)) + 1)) m1 (fun r2 m2 => ((RI x3)) ∧ P_X10_put (x1 + (2 * (if x3 = 1 then (x4 - 1) else (x4 - 7) : Int))) m2 (fun r3 m3 => P_X10_derive_20 Q n x1 x2 x3 (x4 + 1) m3)) else P_X10_derive_20 Q n x1 x2 x3 (x4 + 1) m1)))) := h
    refine b_iload dX10_derive_20 rfl ?_
    refine b_iload_n dX10_derive_22 rfl ?_
    refine b_cSi (as := [vI x3]) (st := [vI x4]) dX10_derive_23 mf_X10_width lk_X10_637 (p_X10_width (f := 1) (Nat.le_refl _) _ _ h) (by omega) rfl rfl (Nat.le_of_ble_eq_true rfl) (by decide) rfl (fun _ => rfl) (fun r1 m1 h => ?_) (fun _ h => h)
    refine b_iconst dX10_derive_26 ?_
    obtain ⟨g1, h⟩ := h
    refine b_idiv dX10_derive_27 g1 (by decide) (by decide) ?_
    obtain ⟨g2, h⟩ := h
    obtain ⟨g3, h⟩ := h
    refine b_icmp_ge 131 dX10_derive_28 g2 g3 (by decide) (fun c1 => ?_) (fun c1 => ?_)
    · have h := ifT c1 h
      exact b_vret dX10_derive_131 rfl h
    · have h := ifF c1 h
      refine b_iload_n dX10_derive_31 rfl ?_
      refine b_iconst dX10_derive_32 ?_
      obtain ⟨hs, h⟩ := h
      have K : B f M_X10_derive 46 [vR 582, vI x1, vI x2, vI x3, vI x4, vU] [vI (if x3 = 1 then x4 else (Int.tdiv x4 7) : Int)] m1 Q T := by
        clear hs
        refine b_istore (ls' := [vR 582, vI x1, vI x2, vI x3, vI x4, vI (if x3 = 1 then x4 else (Int.tdiv x4 7) : Int)]) dX10_derive_46 (Nat.le_of_ble_eq_true rfl) rfl ?_
        refine b_iload dX10_derive_48 rfl ?_
        obtain ⟨g5, h⟩ := h
        refine b_if_eq 125 dX10_derive_50 g5 (by decide) (fun c2 => ?_) (fun c2 => ?_)
        · have h := ifT c2 h
          refine b_iinc (ls' := [vR 582, vI x1, vI x2, vI x3, vI (x4 + 1), vI (if x3 = 1 then x4 else (Int.tdiv x4 7) : Int)]) dX10_derive_125 rfl rfl ?_
          refine b_goto 20 dX10_derive_128 (by decide) ?_
          refine b_fgt [true, true, true, true, true, false] (ls' := [vR 582, vI x1, vI x2, vI x3, vI (x4 + 1), vU]) rfl rfl ?_
          exact ih _ _ _ _ _ h
        · have h := ifF c2 h
          refine b_aload_n dX10_derive_53 rfl ?_
          refine b_getI dX10_derive_54 fk_X10_601 ly_582 ?_
          obtain ⟨g6, h⟩ := h
          refine b_if_le 63 dX10_derive_57 g6 (by decide) (fun c3 => ?_) (fun c3 => ?_)
          · have h := ifT c3 h
            refine b_aload_n dX10_derive_63 rfl ?_
            refine b_iload_n dX10_derive_64 rfl ?_
            refine b_iload dX10_derive_65 rfl ?_
            refine b_i2l dX10_derive_67 g5 ?_
            refine b_aload_n dX10_derive_68 rfl ?_
            refine b_getR dX10_derive_69 fk_X10_250 ly_582 gg_582_85 ?_
            refine b_ldcw (1593000) dX10_derive_72 q2347 (by decide) ?_
            refine b_iconst dX10_derive_75 ?_
            refine b_iload dX10_derive_76 rfl ?_
            refine b_imul dX10_derive_78 ?_
            refine b_iadd dX10_derive_79 ?_
            obtain ⟨g7, h⟩ := h
            refine b_lald dX10_derive_80 ly_635 g7 ?_
            refine b_lmul dX10_derive_81 ?_
            refine b_aload_n dX10_derive_82 rfl ?_
            refine b_getR dX10_derive_83 fk_X10_250 ly_582 gg_582_85 ?_
            refine b_ldcw (1593000) dX10_derive_86 q2347 (by decide) ?_
            refine b_iconst dX10_derive_89 ?_
            refine b_iload dX10_derive_90 rfl ?_
            refine b_imul dX10_derive_92 ?_
            refine b_iadd dX10_derive_93 ?_
            refine b_iconst dX10_derive_94 ?_
            refine b_iadd dX10_derive_95 ?_
            obtain ⟨g8, h⟩ := h
            refine b_lald dX10_derive_96 ly_635 g8 ?_
            refine b_cVv (as := [vI x2, vL ((if x3 = 1 then x4 else (Int.tdiv x4 7) : Int) * (m1 635 (1593000 + (2 * x4)))), vL (m1 635 ((1593000 + (2 * x4)) + 1))]) (st := []) dX10_derive_97 mf_X10_number qs173 lk_X10_626 ly_582 rfl (p_X10_number (f := 2) (Nat.le_refl _) _ _ _ _ h) (by omega) rfl rfl (Nat.le_of_ble_eq_true rfl) (by decide) rfl (fun _ => rfl) (fun r2 m2 h => ?_) (fun _ h => h)
            refine b_aload_n dX10_derive_100 rfl ?_
            refine b_iload_n dX10_derive_101 rfl ?_
            refine b_iconst dX10_derive_102 ?_
            refine b_iload_n dX10_derive_103 rfl ?_
            refine b_iconst dX10_derive_104 ?_
            obtain ⟨hs, h⟩ := h
            have K : B f M_X10_derive 120 [vR 582, vI x1, vI x2, vI x3, vI x4, vI (if x3 = 1 then x4 else (Int.tdiv x4 7) : Int)] [vI (if x3 = 1 then (x4 - 1) else (x4 - 7) : Int), vI 2, vI x1, vR 582] m2 Q T := by
              clear hs
              refine b_imul dX10_derive_120 ?_
              refine b_iadd dX10_derive_121 ?_
              refine b_cVv (as := [vI (x1 + (2 * (if x3 = 1 then (x4 - 1) else (x4 - 7) : Int)))]) (st := []) dX10_derive_122 mf_X10_put qs175 lk_X10_644 ly_582 rfl (p_X10_put (f := 1) (Nat.le_refl _) _ _ h) (by omega) rfl rfl (Nat.le_of_ble_eq_true rfl) (by decide) rfl (fun _ => rfl) (fun r3 m3 h => ?_) (fun _ h => h)
              refine b_iinc (ls' := [vR 582, vI x1, vI x2, vI x3, vI (x4 + 1), vI (if x3 = 1 then x4 else (Int.tdiv x4 7) : Int)]) dX10_derive_125 rfl rfl ?_
              refine b_goto 20 dX10_derive_128 (by decide) ?_
              refine b_fgt [true, true, true, true, true, false] (ls' := [vR 582, vI x1, vI x2, vI x3, vI (x4 + 1), vU]) rfl rfl ?_
              exact ih _ _ _ _ _ h
            have g9 := hs
            refine b_icmp_ne 115 dX10_derive_105 g9 (by decide) (by decide) (fun c4 => ?_) (fun c4 => ?_)
            ·
              refine b_iload dX10_derive_115 rfl ?_
              refine b_bipush dX10_derive_117 (by decide) ?_
              refine b_isub dX10_derive_119 ?_
              exact Eq.mp (congrArg (fun z => B f M_X10_derive 120 [vR 582, vI x1, vI x2, vI x3, vI x4, vI (if x3 = 1 then x4 else (Int.tdiv x4 7) : Int)] (vI z :: [vI 2, vI x1, vR 582]) m2 Q T) (show (if x3 = 1 then (x4 - 1) else (x4 - 7) : Int) = (x4 - 7) by rw [if_neg c4])) K
            ·
              have c4 := Decidable.of_not_not c4
              refine b_iload dX10_derive_108 rfl ?_
              refine b_iconst dX10_derive_110 ?_
              refine b_isub dX10_derive_111 ?_
              refine b_goto 120 dX10_derive_112 (by decide) ?_
              exact Eq.mp (congrArg (fun z => B f M_X10_derive 120 [vR 582, vI x1, vI x2, vI x3, vI x4, vI (if x3 = 1 then x4 else (Int.tdiv x4 7) : Int)] (vI z :: [vI 2, vI x1, vR 582]) m2 Q T) (show (if x3 = 1 then (x4 - 1) else (x4 - 7) : Int) = (x4 - 1) by rw [if_pos c4])) K
          · have h := ifF c3 h
            refine b_goto 125 dX10_derive_60 (by decide) ?_
            refine b_iinc (ls' := [vR 582, vI x1, vI x2, vI x3, vI (x4 + 1), vI (if x3 = 1 then x4 else (Int.tdiv x4 7) : Int)]) dX10_derive_125 rfl rfl ?_
            refine b_goto 20 dX10_derive_128 (by decide) ?_
            refine b_fgt [true, true, true, true, true, false] (ls' := [vR 582, vI x1, vI x2, vI x3, vI (x4 + 1), vU]) rfl rfl ?_
            exact ih _ _ _ _ _ h
      have g4 := hs
      refine b_icmp_ne 41 dX10_derive_33 g4 (by decide) (by decide) (fun c5 => ?_) (fun c5 => ?_)
      ·
        refine b_iload dX10_derive_41 rfl ?_
        refine b_bipush dX10_derive_43 (by decide) ?_
        refine b_idiv dX10_derive_45 g2 (by decide) (by decide) ?_
        exact Eq.mp (congrArg (fun z => B f M_X10_derive 46 [vR 582, vI x1, vI x2, vI x3, vI x4, vU] (vI z :: []) m1 Q T) (show (if x3 = 1 then x4 else (Int.tdiv x4 7) : Int) = (Int.tdiv x4 7) by rw [if_neg c5])) K
      ·
        have c5 := Decidable.of_not_not c5
        refine b_iload dX10_derive_36 rfl ?_
        refine b_goto 46 dX10_derive_38 (by decide) ?_
        exact Eq.mp (congrArg (fun z => B f M_X10_derive 46 [vR 582, vI x1, vI x2, vI x3, vI x4, vU] (vI z :: []) m1 Q T) (show (if x3 = 1 then x4 else (Int.tdiv x4 7) : Int) = x4 by rw [if_pos c5])) K
theorem p_X10_derive {f : Nat} {Q : Int → MM → Prop} {T : MM → Prop} (hf : 3 ≤ f) (x1 : Int) (x2 : Int) (x3 : Int) (m : MM) (h : P_X10_derive x1 x2 x3 m Q) : CC f M_X10_derive [vR 582, vI x1, vI x2, vI x3] m Q T := by
  refine CC.of (plainFor_of_name (by decide)) (Nat.le_of_ble_eq_true rfl) (ls := [vR 582, vI x1, vI x2, vI x3, vU, vU]) rfl ?_
  have h : P_X10_copy 1593000 x1 98 m (fun r1 m1 => P_X10_clear x1 98 m1 (fun r2 m2 => ∃ nn, P_X10_derive_20 Q nn x1 x2 x3 0 m2)) := h
  refine b_aload_n dX10_derive_0 rfl ?_
  refine b_ldcw (1593000) dX10_derive_1 q2347 (by decide) ?_
  refine b_iload_n dX10_derive_4 rfl ?_
  refine b_bipush dX10_derive_5 (by decide) ?_
  refine b_cVv (as := [vI 1593000, vI x1, vI 98]) (st := []) dX10_derive_7 mf_X10_copy qs164 lk_X10_658 ly_582 rfl (p_X10_copy (f := 1) (Nat.le_refl _) _ _ _ _ h) (by omega) rfl rfl (Nat.le_of_ble_eq_true rfl) (by decide) rfl (fun _ => rfl) (fun r1 m1 h => ?_) (fun _ h => h)
  refine b_aload_n dX10_derive_10 rfl ?_
  refine b_iload_n dX10_derive_11 rfl ?_
  refine b_bipush dX10_derive_12 (by decide) ?_
  refine b_cVv (as := [vI x1, vI 98]) (st := []) dX10_derive_14 mf_X10_clear qs162 lk_X10_685 ly_582 rfl (p_X10_clear (f := 2) (Nat.le_refl _) _ _ _ h) (by omega) rfl rfl (Nat.le_of_ble_eq_true rfl) (by decide) rfl (fun _ => rfl) (fun r2 m2 h => ?_) (fun _ h => h)
  refine b_iconst dX10_derive_17 ?_
  refine b_istore (ls' := [vR 582, vI x1, vI x2, vI x3, vI 0, vU]) dX10_derive_18 (Nat.le_of_ble_eq_true rfl) rfl ?_
  obtain ⟨nn, h⟩ := h
  exact pl_X10_derive_20 hf nn _ _ _ _ _ h
theorem dX10_go_0 : decode cX10_go 0 = .ok (.iload_n 2, 1) := by decide +kernel
theorem dX10_go_1 : decode cX10_go 1 = .ok (.iload 5, 2) := by decide +kernel
theorem dX10_go_3 : decode cX10_go 3 = .ok (.if_icmp .eq 52, 3) := by decide +kernel
theorem dX10_go_6 : decode cX10_go 6 = .ok (.iload 5, 2) := by decide +kernel
theorem dX10_go_8 : decode cX10_go 8 = .ok (.iconst 1, 1) := by decide +kernel
theorem dX10_go_9 : decode cX10_go 9 = .ok (.if_icmp .le 46, 3) := by decide +kernel
theorem dX10_go_12 : decode cX10_go 12 = .ok (.iconst 0, 1) := by decide +kernel
theorem dX10_go_13 : decode cX10_go 13 = .ok (.istore 8, 2) := by decide +kernel
theorem dX10_go_15 : decode cX10_go 15 = .ok (.iload 8, 2) := by decide +kernel
theorem dX10_go_17 : decode cX10_go 17 = .ok (.sipush 882, 3) := by decide +kernel
theorem dX10_go_20 : decode cX10_go 20 = .ok (.if_icmp .ge 35, 3) := by decide +kernel
theorem dX10_go_23 : decode cX10_go 23 = .ok (.aload_n 0, 1) := by decide +kernel
theorem dX10_go_24 : decode cX10_go 24 = .ok (.iload_n 1, 1) := by decide +kernel
theorem dX10_go_25 : decode cX10_go 25 = .ok (.iload 8, 2) := by decide +kernel
theorem dX10_go_27 : decode cX10_go 27 = .ok (.iadd, 1) := by decide +kernel
theorem dX10_go_28 : decode cX10_go 28 = .ok (.aload_n 0, 1) := by decide +kernel
theorem dX10_go_29 : decode cX10_go 29 = .ok (.getfield 250, 3) := by decide +kernel
theorem dX10_go_32 : decode cX10_go 32 = .ok (.iload_n 1, 1) := by decide +kernel
theorem dX10_go_33 : decode cX10_go 33 = .ok (.iload 8, 2) := by decide +kernel
theorem dX10_go_35 : decode cX10_go 35 = .ok (.iadd, 1) := by decide +kernel
theorem dX10_go_36 : decode cX10_go 36 = .ok (.laload, 1) := by decide +kernel
theorem dX10_go_37 : decode cX10_go 37 = .ok (.aload_n 0, 1) := by decide +kernel
theorem dX10_go_38 : decode cX10_go 38 = .ok (.iload 5, 2) := by decide +kernel
theorem dX10_go_40 : decode cX10_go 40 = .ok (.invokevirtual 611, 3) := by decide +kernel
theorem dX10_go_43 : decode cX10_go 43 = .ok (.invokestatic 615, 3) := by decide +kernel
theorem dX10_go_46 : decode cX10_go 46 = .ok (.invokevirtual 633, 3) := by decide +kernel
theorem dX10_go_49 : decode cX10_go 49 = .ok (.iinc 8 2, 3) := by decide +kernel
theorem dX10_go_52 : decode cX10_go 52 = .ok (.goto (-37), 3) := by decide +kernel
theorem dX10_go_55 : decode cX10_go 55 = .ok (.iload 4, 2) := by decide +kernel
theorem dX10_go_57 : decode cX10_go 57 = .ok (.ifCond .ne 39, 3) := by decide +kernel
theorem dX10_go_60 : decode cX10_go 60 = .ok (.iload 7, 2) := by decide +kernel
theorem dX10_go_62 : decode cX10_go 62 = .ok (.ifCond .le 34, 3) := by decide +kernel
theorem dX10_go_65 : decode cX10_go 65 = .ok (.iconst 1, 1) := by decide +kernel
theorem dX10_go_66 : decode cX10_go 66 = .ok (.istore 8, 2) := by decide +kernel
theorem dX10_go_68 : decode cX10_go 68 = .ok (.iload 8, 2) := by decide +kernel
theorem dX10_go_70 : decode cX10_go 70 = .ok (.iload 7, 2) := by decide +kernel
theorem dX10_go_72 : decode cX10_go 72 = .ok (.if_icmp .ge 24, 3) := by decide +kernel
theorem dX10_go_75 : decode cX10_go 75 = .ok (.aload_n 0, 1) := by decide +kernel
theorem dX10_go_76 : decode cX10_go 76 = .ok (.iload_n 1, 1) := by decide +kernel
theorem dX10_go_77 : decode cX10_go 77 = .ok (.iload 8, 2) := by decide +kernel
theorem dX10_go_79 : decode cX10_go 79 = .ok (.iload 8, 2) := by decide +kernel
theorem dX10_go_81 : decode cX10_go 81 = .ok (.invokestatic 677, 3) := by decide +kernel
theorem dX10_go_84 : decode cX10_go 84 = .ok (.iload_n 1, 1) := by decide +kernel
theorem dX10_go_85 : decode cX10_go 85 = .ok (.bipush 98, 2) := by decide +kernel
theorem dX10_go_87 : decode cX10_go 87 = .ok (.invokevirtual 658, 3) := by decide +kernel
theorem dX10_go_90 : decode cX10_go 90 = .ok (.iinc 8 1, 3) := by decide +kernel
theorem dX10_go_93 : decode cX10_go 93 = .ok (.goto (-25), 3) := by decide +kernel
theorem dX10_go_96 : decode cX10_go 96 = .ok (.return_, 1) := by decide +kernel
/-! AlgebraHouseModel.go(IIIIIII)V -/
def P_X10_go_68 (Q : Int → MM → Prop) : Nat → Int → Int → Int → MM → Prop
  | 0, _, _, _, _ => False
  | n + 1, x1, x7, x8, m => (RI x8) ∧ (RI x7) ∧ (if x7 ≤ x8 then Q 0 m else P_X10_entryAt x1 x8 x8 m (fun r1 m1 => P_X10_copy r1 x1 98 m1 (fun r2 m2 => P_X10_go_68 Q n x1 x7 (x8 + 1) m2)))
def P_X10_go_55 (Q : Int → MM → Prop) (x1 : Int) (x4 : Int) (x7 : Int) (m : MM) : Prop := (RI x4) ∧ (if x4 = 0 then (RI x7) ∧ (if x7 ≤ 0 then Q 0 m else ∃ nn, P_X10_go_68 Q nn x1 x7 1 m) else Q 0 m)
def P_X10_go_15 (Q : Int → MM → Prop) : Nat → Int → Int → Int → Int → Int → MM → Prop
  | 0, _, _, _, _, _, _ => False
  | n + 1, x1, x4, x5, x7, x8, m => (RI x8) ∧ (if 882 ≤ x8 then P_X10_go_55 Q x1 x4 x7 m else (0 ≤ (x1 + x8) ∧ (x1 + x8) < 1600000) ∧ P_X10_modulo x5 m (fun r1 m1 => P_J4_floorMod_2 (m 635 (x1 + x8)) r1 m1 (fun r2 m2 => P_X10_set (x1 + x8) r2 m2 (fun r3 m3 => P_X10_go_15 Q n x1 x4 x5 x7 (x8 + 2) m3))))
def P_X10_go (x1 : Int) (x2 : Int) (x3 : Int) (x4 : Int) (x5 : Int) (x6 : Int) (x7 : Int) (m : MM) (Q : Int → MM → Prop) : Prop := (RI x2) ∧ (RI x5) ∧ (if x2 = x5 then P_X10_go_55 Q x1 x4 x7 m else (if x5 ≤ 1 then P_X10_go_55 Q x1 x4 x7 m else ∃ nn, P_X10_go_15 Q nn x1 x4 x5 x7 0 m))
theorem pl_X10_go_68 {f : Nat} {Q : Int → MM → Prop} {T : MM → Prop} (hf : 2 ≤ f) : ∀ (n : Nat) (x1 : Int) (x7 : Int) (x8 : Int) (m : MM), P_X10_go_68 Q n x1 x7 x8 m → B f M_X10_go 68 [vR 582, vI x1, vU, vU, vU, vU, vU, vI x7, vI x8] [] m Q T := by
  intro n
  induction n with
  | zero => intro x1 x7 x8 m h; exact h.elim
  | succ n ih =>
    intro x1 x7 x8 m h
    have h : (RI x8) ∧ (RI x7) ∧ (if x7 ≤ x8 then Q 0 m else P_X10_entryAt x1 x8 x8 m (fun r1 m1 => P_X10_copy r1 x1 98 m1 (fun r2 m2 => P_X10_go_68 Q n x1 x7 (x8 + 1) m2))) := h
    refine b_iload dX10_go_68 rfl ?_
    refine b_iload dX10_go_70 rfl ?_
    obtain ⟨g1, h⟩ := h
    obtain ⟨g2, h⟩ := h
    refine b_icmp_ge 96 dX10_go_72 g1 g2 (by decide) (fun c1 => ?_) (fun c1 => ?_)
    · have h := ifT c1 h
      exact b_vret dX10_go_96 rfl h
    · have h := ifF c1 h
      refine b_aload_n dX10_go_75 rfl ?_
      refine b_iload_n dX10_go_76 rfl ?_
      refine b_iload dX10_go_77 rfl ?_
      refine b_iload dX10_go_79 rfl ?_
      refine b_cSi (as := [vI x1, vI x8, vI x8]) (st := [vR 582]) dX10_go_81 mf_X10_entryAt lk_X10_677 (p_X10_entryAt (f := 1) (Nat.le_refl _) _ _ _ _ h) (by omega) rfl rfl (Nat.le_of_ble_eq_true rfl) (by decide) rfl (fun _ => rfl) (fun r1 m1 h => ?_) (fun _ h => h)
      refine b_iload_n dX10_go_84 rfl ?_
      refine b_bipush dX10_go_85 (by decide) ?_
      refine b_cVv (as := [vI r1, vI x1, vI 98]) (st := []) dX10_go_87 mf_X10_copy qs164 lk_X10_658 ly_582 rfl (p_X10_copy (f := 1) (Nat.le_refl _) _ _ _ _ h) (by omega) rfl rfl (Nat.le_of_ble_eq_true rfl) (by decide) rfl (fun _ => rfl) (fun r2 m2 h => ?_) (fun _ h => h)
      refine b_iinc (ls' := [vR 582, vI x1, vU, vU, vU, vU, vU, vI x7, vI (x8 + 1)]) dX10_go_90 rfl rfl ?_
      refine b_goto 68 dX10_go_93 (by decide) ?_
      exact ih _ _ _ _ h
theorem pl_X10_go_55 {f : Nat} {Q : Int → MM → Prop} {T : MM → Prop} (hf : 2 ≤ f) : ∀ (x1 : Int) (x4 : Int) (x7 : Int) (m : MM), P_X10_go_55 Q x1 x4 x7 m → B f M_X10_go 55 [vR 582, vI x1, vU, vU, vI x4, vU, vU, vI x7, vU] [] m Q T := by
  intro x1 x4 x7 m h
  have h : (RI x4) ∧ (if x4 = 0 then (RI x7) ∧ (if x7 ≤ 0 then Q 0 m else ∃ nn, P_X10_go_68 Q nn x1 x7 1 m) else Q 0 m) := h
  refine b_iload dX10_go_55 rfl ?_
  obtain ⟨g1, h⟩ := h
  refine b_if_ne 96 dX10_go_57 g1 (by decide) (fun c1 => ?_) (fun c1 => ?_)
  · have h := ifF c1 h
    exact b_vret dX10_go_96 rfl h
  · have h := ifT (Decidable.of_not_not c1) h
    refine b_iload dX10_go_60 rfl ?_
    obtain ⟨g2, h⟩ := h
    refine b_if_le 96 dX10_go_62 g2 (by decide) (fun c2 => ?_) (fun c2 => ?_)
    · have h := ifT c2 h
      exact b_vret dX10_go_96 rfl h
    · have h := ifF c2 h
      refine b_iconst dX10_go_65 ?_
      refine b_istore (ls' := [vR 582, vI x1, vU, vU, vI x4, vU, vU, vI x7, vI 1]) dX10_go_66 (Nat.le_of_ble_eq_true rfl) rfl ?_
      refine b_fgt [true, true, false, false, false, false, false, true, true] (ls' := [vR 582, vI x1, vU, vU, vU, vU, vU, vI x7, vI 1]) rfl rfl ?_
      obtain ⟨nn, h⟩ := h
      exact pl_X10_go_68 hf nn _ _ _ _ h
theorem pl_X10_go_15 {f : Nat} {Q : Int → MM → Prop} {T : MM → Prop} (hf : 2 ≤ f) : ∀ (n : Nat) (x1 : Int) (x4 : Int) (x5 : Int) (x7 : Int) (x8 : Int) (m : MM), P_X10_go_15 Q n x1 x4 x5 x7 x8 m → B f M_X10_go 15 [vR 582, vI x1, vU, vU, vI x4, vI x5, vU, vI x7, vI x8] [] m Q T := by
  intro n
  induction n with
  | zero => intro x1 x4 x5 x7 x8 m h; exact h.elim
  | succ n ih =>
    intro x1 x4 x5 x7 x8 m h
    have h : (RI x8) ∧ (if 882 ≤ x8 then P_X10_go_55 Q x1 x4 x7 m else (0 ≤ (x1 + x8) ∧ (x1 + x8) < 1600000) ∧ P_X10_modulo x5 m (fun r1 m1 => P_J4_floorMod_2 (m 635 (x1 + x8)) r1 m1 (fun r2 m2 => P_X10_set (x1 + x8) r2 m2 (fun r3 m3 => P_X10_go_15 Q n x1 x4 x5 x7 (x8 + 2) m3)))) := h
    refine b_iload dX10_go_15 rfl ?_
    refine b_sipush dX10_go_17 (by decide) ?_
    obtain ⟨g1, h⟩ := h
    refine b_icmp_ge 55 dX10_go_20 g1 (by decide) (by decide) (fun c1 => ?_) (fun c1 => ?_)
    · have h := ifT c1 h
      refine b_fgt [true, true, false, false, true, false, false, true, false] (ls' := [vR 582, vI x1, vU, vU, vI x4, vU, vU, vI x7, vU]) rfl rfl ?_
      exact pl_X10_go_55 hf _ _ _ _ h
    · have h := ifF c1 h
      refine b_aload_n dX10_go_23 rfl ?_
      refine b_iload_n dX10_go_24 rfl ?_
      refine b_iload dX10_go_25 rfl ?_
      refine b_iadd dX10_go_27 ?_
      refine b_aload_n dX10_go_28 rfl ?_
      refine b_getR dX10_go_29 fk_X10_250 ly_582 gg_582_85 ?_
      refine b_iload_n dX10_go_32 rfl ?_
      refine b_iload dX10_go_33 rfl ?_
      refine b_iadd dX10_go_35 ?_
      obtain ⟨g2, h⟩ := h
      refine b_lald dX10_go_36 ly_635 g2 ?_
      refine b_aload_n dX10_go_37 rfl ?_
      refine b_iload dX10_go_38 rfl ?_
      refine b_cVl (as := [vI x5]) (st := [vL (m 635 (x1 + x8)), vI (x1 + x8), vR 582]) dX10_go_40 mf_X10_modulo qs174 lk_X10_611 ly_582 rfl (p_X10_modulo (f := 1) (Nat.le_refl _) _ _ h) (by omega) rfl rfl (Nat.le_of_ble_eq_true rfl) (by decide) rfl (fun _ => rfl) (fun r1 m1 h => ?_) (fun _ h => h)
      refine b_cSl (as := [vL (m 635 (x1 + x8)), vL r1]) (st := [vI (x1 + x8), vR 582]) dX10_go_43 mf_J4_floorMod_2 lk_X10_615 (p_J4_floorMod_2 (f := 1) (Nat.le_refl _) _ _ _ h) (by omega) rfl rfl (Nat.le_of_ble_eq_true rfl) (by decide) rfl (fun _ => rfl) (fun r2 m2 h => ?_) (fun _ h => h)
      refine b_cVv (as := [vI (x1 + x8), vL r2]) (st := []) dX10_go_46 mf_X10_set qs163 lk_X10_633 ly_582 rfl (p_X10_set (f := 1) (Nat.le_refl _) _ _ _ h) (by omega) rfl rfl (Nat.le_of_ble_eq_true rfl) (by decide) rfl (fun _ => rfl) (fun r3 m3 h => ?_) (fun _ h => h)
      refine b_iinc (ls' := [vR 582, vI x1, vU, vU, vI x4, vI x5, vU, vI x7, vI (x8 + 2)]) dX10_go_49 rfl rfl ?_
      refine b_goto 15 dX10_go_52 (by decide) ?_
      exact ih _ _ _ _ _ _ h
theorem p_X10_go {f : Nat} {Q : Int → MM → Prop} {T : MM → Prop} (hf : 2 ≤ f) (x1 : Int) (x2 : Int) (x3 : Int) (x4 : Int) (x5 : Int) (x6 : Int) (x7 : Int) (m : MM) (h : P_X10_go x1 x2 x3 x4 x5 x6 x7 m Q) : CC f M_X10_go [vR 582, vI x1, vI x2, vI x3, vI x4, vI x5, vI x6, vI x7] m Q T := by
  refine CC.of (plainFor_of_name (by decide)) (Nat.le_of_ble_eq_true rfl) (ls := [vR 582, vI x1, vI x2, vI x3, vI x4, vI x5, vI x6, vI x7, vU]) rfl ?_
  have h : (RI x2) ∧ (RI x5) ∧ (if x2 = x5 then P_X10_go_55 Q x1 x4 x7 m else (if x5 ≤ 1 then P_X10_go_55 Q x1 x4 x7 m else ∃ nn, P_X10_go_15 Q nn x1 x4 x5 x7 0 m)) := h
  refine b_iload_n dX10_go_0 rfl ?_
  refine b_iload dX10_go_1 rfl ?_
  obtain ⟨g1, h⟩ := h
  obtain ⟨g2, h⟩ := h
  refine b_icmp_eq 55 dX10_go_3 g1 g2 (by decide) (fun c1 => ?_) (fun c1 => ?_)
  · have h := ifT c1 h
    refine b_fgt [true, true, false, false, true, false, false, true, false] (ls' := [vR 582, vI x1, vU, vU, vI x4, vU, vU, vI x7, vU]) rfl rfl ?_
    exact pl_X10_go_55 hf _ _ _ _ h
  · have h := ifF c1 h
    refine b_iload dX10_go_6 rfl ?_
    refine b_iconst dX10_go_8 ?_
    refine b_icmp_le 55 dX10_go_9 g2 (by decide) (by decide) (fun c2 => ?_) (fun c2 => ?_)
    · have h := ifT c2 h
      refine b_fgt [true, true, false, false, true, false, false, true, false] (ls' := [vR 582, vI x1, vU, vU, vI x4, vU, vU, vI x7, vU]) rfl rfl ?_
      exact pl_X10_go_55 hf _ _ _ _ h
    · have h := ifF c2 h
      refine b_iconst dX10_go_12 ?_
      refine b_istore (ls' := [vR 582, vI x1, vI x2, vI x3, vI x4, vI x5, vI x6, vI x7, vI 0]) dX10_go_13 (Nat.le_of_ble_eq_true rfl) rfl ?_
      refine b_fgt [true, true, false, false, true, true, false, true, true] (ls' := [vR 582, vI x1, vU, vU, vI x4, vI x5, vU, vI x7, vI 0]) rfl rfl ?_
      obtain ⟨nn, h⟩ := h
      exact pl_X10_go_15 hf nn _ _ _ _ _ _ h
theorem dX10_multiplyValues_0 : decode cX10_multiplyValues 0 = .ok (.aload_n 0, 1) := by decide +kernel
theorem dX10_multiplyValues_1 : decode cX10_multiplyValues 1 = .ok (.ldc_w 684, 3) := by decide +kernel
theorem dX10_multiplyValues_4 : decode cX10_multiplyValues 4 = .ok (.sipush 882, 3) := by decide +kernel
theorem dX10_multiplyValues_7 : decode cX10_multiplyValues 7 = .ok (.invokevirtual 685, 3) := by decide +kernel
theorem dX10_multiplyValues_10 : decode cX10_multiplyValues 10 = .ok (.iconst 0, 1) := by decide +kernel
theorem dX10_multiplyValues_11 : decode cX10_multiplyValues 11 = .ok (.istore 7, 2) := by decide +kernel
theorem dX10_multiplyValues_13 : decode cX10_multiplyValues 13 = .ok (.iload 7, 2) := by decide +kernel
theorem dX10_multiplyValues_15 : decode cX10_multiplyValues 15 = .ok (.iload 6, 2) := by decide +kernel
theorem dX10_multiplyValues_17 : decode cX10_multiplyValues 17 = .ok (.invokestatic 674, 3) := by decide +kernel
theorem dX10_multiplyValues_20 : decode cX10_multiplyValues 20 = .ok (.if_icmp .ge 157, 3) := by decide +kernel
theorem dX10_multiplyValues_23 : decode cX10_multiplyValues 23 = .ok (.iconst 0, 1) := by decide +kernel
theorem dX10_multiplyValues_24 : decode cX10_multiplyValues 24 = .ok (.istore 8, 2) := by decide +kernel
theorem dX10_multiplyValues_26 : decode cX10_multiplyValues 26 = .ok (.iload 8, 2) := by decide +kernel
theorem dX10_multiplyValues_28 : decode cX10_multiplyValues 28 = .ok (.iload 6, 2) := by decide +kernel
theorem dX10_multiplyValues_30 : decode cX10_multiplyValues 30 = .ok (.invokestatic 674, 3) := by decide +kernel
theorem dX10_multiplyValues_33 : decode cX10_multiplyValues 33 = .ok (.if_icmp .ge 138, 3) := by decide +kernel
theorem dX10_multiplyValues_36 : decode cX10_multiplyValues 36 = .ok (.aload_n 0, 1) := by decide +kernel
theorem dX10_multiplyValues_37 : decode cX10_multiplyValues 37 = .ok (.getfield 601, 3) := by decide +kernel
theorem dX10_multiplyValues_40 : decode cX10_multiplyValues 40 = .ok (.ifCond .ne 131, 3) := by decide +kernel
theorem dX10_multiplyValues_43 : decode cX10_multiplyValues 43 = .ok (.iconst 0, 1) := by decide +kernel
theorem dX10_multiplyValues_44 : decode cX10_multiplyValues 44 = .ok (.istore 9, 2) := by decide +kernel
theorem dX10_multiplyValues_46 : decode cX10_multiplyValues 46 = .ok (.iload 9, 2) := by decide +kernel
theorem dX10_multiplyValues_48 : decode cX10_multiplyValues 48 = .ok (.iload 6, 2) := by decide +kernel
theorem dX10_multiplyValues_50 : decode cX10_multiplyValues 50 = .ok (.invokestatic 674, 3) := by decide +kernel
theorem dX10_multiplyValues_53 : decode cX10_multiplyValues 53 = .ok (.if_icmp .ge 112, 3) := by decide +kernel
theorem dX10_multiplyValues_56 : decode cX10_multiplyValues 56 = .ok (.aload_n 0, 1) := by decide +kernel
theorem dX10_multiplyValues_57 : decode cX10_multiplyValues 57 = .ok (.getfield 601, 3) := by decide +kernel
theorem dX10_multiplyValues_60 : decode cX10_multiplyValues 60 = .ok (.ifCond .ne 105, 3) := by decide +kernel
theorem dX10_multiplyValues_63 : decode cX10_multiplyValues 63 = .ok (.aload_n 0, 1) := by decide +kernel
theorem dX10_multiplyValues_64 : decode cX10_multiplyValues 64 = .ok (.ldc_w 688, 3) := by decide +kernel
theorem dX10_multiplyValues_67 : decode cX10_multiplyValues 67 = .ok (.iload_n 2, 1) := by decide +kernel
theorem dX10_multiplyValues_68 : decode cX10_multiplyValues 68 = .ok (.iload 7, 2) := by decide +kernel
theorem dX10_multiplyValues_70 : decode cX10_multiplyValues 70 = .ok (.iload 9, 2) := by decide +kernel
theorem dX10_multiplyValues_72 : decode cX10_multiplyValues 72 = .ok (.invokestatic 677, 3) := by decide +kernel
theorem dX10_multiplyValues_75 : decode cX10_multiplyValues 75 = .ok (.iload_n 3, 1) := by decide +kernel
theorem dX10_multiplyValues_76 : decode cX10_multiplyValues 76 = .ok (.iload 9, 2) := by decide +kernel
theorem dX10_multiplyValues_78 : decode cX10_multiplyValues 78 = .ok (.iload 8, 2) := by decide +kernel
theorem dX10_multiplyValues_80 : decode cX10_multiplyValues 80 = .ok (.invokestatic 677, 3) := by decide +kernel
theorem dX10_multiplyValues_83 : decode cX10_multiplyValues 83 = .ok (.iload 4, 2) := by decide +kernel
theorem dX10_multiplyValues_85 : decode cX10_multiplyValues 85 = .ok (.iload 5, 2) := by decide +kernel
theorem dX10_multiplyValues_87 : decode cX10_multiplyValues 87 = .ok (.invokevirtual 689, 3) := by decide +kernel
theorem dX10_multiplyValues_90 : decode cX10_multiplyValues 90 = .ok (.aload_n 0, 1) := by decide +kernel
theorem dX10_multiplyValues_91 : decode cX10_multiplyValues 91 = .ok (.getfield 601, 3) := by decide +kernel
theorem dX10_multiplyValues_94 : decode cX10_multiplyValues 94 = .ok (.ifCond .le 4, 3) := by decide +kernel
theorem dX10_multiplyValues_97 : decode cX10_multiplyValues 97 = .ok (.return_, 1) := by decide +kernel
theorem dX10_multiplyValues_98 : decode cX10_multiplyValues 98 = .ok (.iload 9, 2) := by decide +kernel
theorem dX10_multiplyValues_100 : decode cX10_multiplyValues 100 = .ok (.ifCond .ne 28, 3) := by decide +kernel
theorem dX10_multiplyValues_103 : decode cX10_multiplyValues 103 = .ok (.aload_n 0, 1) := by decide +kernel
theorem dX10_multiplyValues_104 : decode cX10_multiplyValues 104 = .ok (.ldc_w 684, 3) := by decide +kernel
theorem dX10_multiplyValues_107 : decode cX10_multiplyValues 107 = .ok (.iload 7, 2) := by decide +kernel
theorem dX10_multiplyValues_109 : decode cX10_multiplyValues 109 = .ok (.iload 8, 2) := by decide +kernel
theorem dX10_multiplyValues_111 : decode cX10_multiplyValues 111 = .ok (.invokestatic 677, 3) := by decide +kernel
theorem dX10_multiplyValues_114 : decode cX10_multiplyValues 114 = .ok (.ldc_w 688, 3) := by decide +kernel
theorem dX10_multiplyValues_117 : decode cX10_multiplyValues 117 = .ok (.iload 5, 2) := by decide +kernel
theorem dX10_multiplyValues_119 : decode cX10_multiplyValues 119 = .ok (.invokestatic 637, 3) := by decide +kernel
theorem dX10_multiplyValues_122 : decode cX10_multiplyValues 122 = .ok (.invokevirtual 658, 3) := by decide +kernel
theorem dX10_multiplyValues_125 : decode cX10_multiplyValues 125 = .ok (.goto 34, 3) := by decide +kernel
theorem dX10_multiplyValues_128 : decode cX10_multiplyValues 128 = .ok (.aload_n 0, 1) := by decide +kernel
theorem dX10_multiplyValues_129 : decode cX10_multiplyValues 129 = .ok (.ldc_w 684, 3) := by decide +kernel
theorem dX10_multiplyValues_132 : decode cX10_multiplyValues 132 = .ok (.iload 7, 2) := by decide +kernel
theorem dX10_multiplyValues_134 : decode cX10_multiplyValues 134 = .ok (.iload 8, 2) := by decide +kernel
theorem dX10_multiplyValues_136 : decode cX10_multiplyValues 136 = .ok (.invokestatic 677, 3) := by decide +kernel
theorem dX10_multiplyValues_139 : decode cX10_multiplyValues 139 = .ok (.ldc_w 684, 3) := by decide +kernel
theorem dX10_multiplyValues_142 : decode cX10_multiplyValues 142 = .ok (.iload 7, 2) := by decide +kernel
theorem dX10_multiplyValues_144 : decode cX10_multiplyValues 144 = .ok (.iload 8, 2) := by decide +kernel
theorem dX10_multiplyValues_146 : decode cX10_multiplyValues 146 = .ok (.invokestatic 677, 3) := by decide +kernel
theorem dX10_multiplyValues_149 : decode cX10_multiplyValues 149 = .ok (.ldc_w 688, 3) := by decide +kernel
theorem dX10_multiplyValues_152 : decode cX10_multiplyValues 152 = .ok (.iload 4, 2) := by decide +kernel
theorem dX10_multiplyValues_154 : decode cX10_multiplyValues 154 = .ok (.iload 5, 2) := by decide +kernel
theorem dX10_multiplyValues_156 : decode cX10_multiplyValues 156 = .ok (.invokevirtual 667, 3) := by decide +kernel
theorem dX10_multiplyValues_159 : decode cX10_multiplyValues 159 = .ok (.iinc 9 1, 3) := by decide +kernel
theorem dX10_multiplyValues_162 : decode cX10_multiplyValues 162 = .ok (.goto (-116), 3) := by decide +kernel
theorem dX10_multiplyValues_165 : decode cX10_multiplyValues 165 = .ok (.iinc 8 1, 3) := by decide +kernel
theorem dX10_multiplyValues_168 : decode cX10_multiplyValues 168 = .ok (.goto (-142), 3) := by decide +kernel
theorem dX10_multiplyValues_171 : decode cX10_multiplyValues 171 = .ok (.iinc 7 1, 3) := by decide +kernel
theorem dX10_multiplyValues_174 : decode cX10_multiplyValues 174 = .ok (.goto (-161), 3) := by decide +kernel
theorem dX10_multiplyValues_177 : decode cX10_multiplyValues 177 = .ok (.aload_n 0, 1) := by decide +kernel
theorem dX10_multiplyValues_178 : decode cX10_multiplyValues 178 = .ok (.getfield 601, 3) := by decide +kernel
theorem dX10_multiplyValues_181 : decode cX10_multiplyValues 181 = .ok (.ifCond .ne 14, 3) := by decide +kernel
theorem dX10_multiplyValues_184 : decode cX10_multiplyValues 184 = .ok (.aload_n 0, 1) := by decide +kernel
theorem dX10_multiplyValues_185 : decode cX10_multiplyValues 185 = .ok (.iload_n 1, 1) := by decide +kernel
theorem dX10_multiplyValues_186 : decode cX10_multiplyValues 186 = .ok (.ldc_w 684, 3) := by decide +kernel
theorem dX10_multiplyValues_189 : decode cX10_multiplyValues 189 = .ok (.sipush 882, 3) := by decide +kernel
theorem dX10_multiplyValues_192 : decode cX10_multiplyValues 192 = .ok (.invokevirtual 658, 3) := by decide +kernel
theorem dX10_multiplyValues_195 : decode cX10_multiplyValues 195 = .ok (.return_, 1) := by decide +kernel
/-! AlgebraHouseModel.multiplyValues(IIIIII)V -/
def P_X10_multiplyValues_46 (Q : Int → MM → Prop) (K13 : Int → Int → Int → Int → Int → Int → Int → MM → Prop) (K26 : Int → Int → Int → Int → Int → Int → Int → Int → MM → Prop) : Nat → Int → Int → Int → Int → Int → Int → Int → Int → Int → MM → Prop
  | 0, _, _, _, _, _, _, _, _, _, _ => False
  | n + 1, x1, x2, x3, x4, x5, x6, x7, x8, x9, m => P_X10_rows x6 m (fun r1 m1 => (RI x9) ∧ (RI r1) ∧ (if r1 ≤ x9 then K26 x1 x2 x3 x4 x5 x6 x7 (x8 + 1) m1 else (RI (m1 582 84)) ∧ (if (m1 582 84) = 0 then P_X10_entryAt x2 x7 x9 m1 (fun r2 m2 => P_X10_entryAt x3 x9 x8 m2 (fun r3 m3 => P_X10_multiplyBlocks 1590300 r2 r3 x4 x5 m3 (fun r4 m4 => (RI (m4 582 84)) ∧ (if (m4 582 84) ≤ 0 then (if x9 = 0 then P_X10_entryAt 1591000 x7 x8 m4 (fun r8 m8 => P_X10_width x5 m8 (fun r9 m9 => P_X10_copy r8 1590300 r9 m9 (fun r10 m10 => P_X10_multiplyValues_46 Q K13 K26 n x1 x2 x3 x4 x5 x6 x7 x8 (x9 + 1) m10))) else P_X10_entryAt 1591000 x7 x8 m4 (fun r5 m5 => P_X10_entryAt 1591000 x7 x8 m5 (fun r6 m6 => P_X10_addBlocks r5 r6 1590300 x4 x5 m6 (fun r7 m7 => P_X10_multiplyValues_46 Q K13 K26 n x1 x2 x3 x4 x5 x6 x7 x8 (x9 + 1) m7)))) else Q 0 m4)))) else K26 x1 x2 x3 x4 x5 x6 x7 (x8 + 1) m1)))
def P_X10_multiplyValues_26 (Q : Int → MM → Prop) (K13 : Int → Int → Int → Int → Int → Int → Int → MM → Prop) : Nat → Int → Int → Int → Int → Int → Int → Int → Int → MM → Prop
  | 0, _, _, _, _, _, _, _, _, _ => False
  | n + 1, x1, x2, x3, x4, x5, x6, x7, x8, m => P_X10_rows x6 m (fun r1 m1 => (RI x8) ∧ (RI r1) ∧ (if r1 ≤ x8 then K13 x1 x2 x3 x4 x5 x6 (x7 + 1) m1 else (RI (m1 582 84)) ∧ (if (m1 582 84) = 0 then ∃ nn, P_X10_multiplyValues_46 Q K13 (fun z0 z1 z2 z3 z4 z5 z6 z7 z8 => P_X10_multiplyValues_26 Q K13 n z0 z1 z2 z3 z4 z5 z6 z7 z8) nn x1 x2 x3 x4 x5 x6 x7 x8 0 m1 else K13 x1 x2 x3 x4 x5 x6 (x7 + 1) m1)))
def P_X10_multiplyValues_177 (Q : Int → MM → Prop) (x1 : Int) (m : MM) : Prop := (RI (m 582 84)) ∧ (if (m 582 84) = 0 then P_X10_copy x1 1591000 882 m (fun r1 m1 => Q 0 m1) else Q 0 m)
def P_X10_multiplyValues_13 (Q : Int → MM → Prop) : Nat → Int → Int → Int → Int → Int → Int → Int → MM → Prop
  | 0, _, _, _, _, _, _, _, _ => False
  | n + 1, x1, x2, x3, x4, x5, x6, x7, m => P_X10_rows x6 m (fun r1 m1 => (RI x7) ∧ (RI r1) ∧ (if r1 ≤ x7 then P_X10_multiplyValues_177 Q x1 m1 else ∃ nn, P_X10_multiplyValues_26 Q (fun z0 z1 z2 z3 z4 z5 z6 z7 => P_X10_multiplyValues_13 Q n z0 z1 z2 z3 z4 z5 z6 z7) nn x1 x2 x3 x4 x5 x6 x7 0 m1))
def P_X10_multiplyValues (x1 : Int) (x2 : Int) (x3 : Int) (x4 : Int) (x5 : Int) (x6 : Int) (m : MM) (Q : Int → MM → Prop) : Prop := P_X10_clear 1591000 882 m (fun r1 m1 => ∃ nn, P_X10_multiplyValues_13 Q nn x1 x2 x3 x4 x5 x6 0 m1)
theorem pl_X10_multiplyValues_46 {f : Nat} {Q : Int → MM → Prop} {T : MM → Prop} (hf : 6 ≤ f) {K13 : Int → Int → Int → Int → Int → Int → Int → MM → Prop} {K26 : Int → Int → Int → Int → Int → Int → Int → Int → MM → Prop} (hK13 : ∀ (x1 : Int) (x2 : Int) (x3 : Int) (x4 : Int) (x5 : Int) (x6 : Int) (x7 : Int) (m : MM), K13 x1 x2 x3 x4 x5 x6 x7 m → B f M_X10_multiplyValues 13 [vR 582, vI x1, vI x2, vI x3, vI x4, vI x5, vI x6, vI x7, vU, vU] [] m Q T) (hK26 : ∀ (x1 : Int) (x2 : Int) (x3 : Int) (x4 : Int) (x5 : Int) (x6 : Int) (x7 : Int) (x8 : Int) (m : MM), K26 x1 x2 x3 x4 x5 x6 x7 x8 m → B f M_X10_multiplyValues 26 [vR 582, vI x1, vI x2, vI x3, vI x4, vI x5, vI x6, vI x7, vI x8, vU] [] m Q T) : ∀ (n : Nat) (x1 : Int) (x2 : Int) (x3 : Int) (x4 : Int) (x5 : Int) (x6 : Int) (x7 : Int) (x8 : Int) (x9 : Int) (m : MM), P_X10_multiplyValues_46 Q K13 K26 n x1 x2 x3 x4 x5 x6 x7 x8 x9 m → B f M_X10_multiplyValues 46 [vR 582, vI x1, vI x2, vI x3, vI x4, vI x5, vI x6, vI x7, vI x8, vI x9] [] m Q T := by
  intro n
  induction n with
  | zero => intro x1 x2 x3 x4 x5 x6 x7 x8 x9 m h; exact h.elim
  | succ n ih =>
    intro x1 x2 x3 x4 x5 x6 x7 x8 x9 m h
    have h : P_X10_rows x6 m (fun r1 m1 => (RI x9) ∧ (RI r1) ∧ (if r1 ≤ x9 then K26 x1 x2 x3 x4 x5 x6 x7 (x8 + 1) m1 else (RI (m1 582 84)) ∧ (if (m1 582 84) = 0 then P_X10_entryAt x2 x7 x9 m1 (fun r2 m2 => P_X10_entryAt x3 x9 x8 m2 (fun r3 m3 => P_X10_multiplyBlocks 1590300 r2 r3 x4 x5 m3 (fun r4 m4 => (RI (m4 582 84)) ∧ (if (m4 582 84) ≤ 0 then (if x9 = 0 then P_X10_entryAt 1591000 x7 x8 m4 (fun r8 m8 => P_X10_width x5 m8 (fun r9 m9 => P_X10_copy r8 1590300 r9 m9 (fun r10 m10 => P_X10_multiplyValues_46 Q K13 K26 n x1 x2 x3 x4 x5 x6 x7 x8 (x9 + 1) m10))) else P_X10_entryAt 1591000 x7 x8 m4 (fun r5 m5 => P_X10_entryAt 1591000 x7 x8 m5 (fun r6 m6 => P_X10_addBlocks r5 r6 1590300 x4 x5 m6 (fun r7 m7 => P_X10_multiplyValues_46 Q K13 K26 n x1 x2 x3 x4 x5 x6 x7 x8 (x9 + 1) m7)))) else Q 0 m4)))) else K26 x1 x2 x3 x4 x5 x6 x7 (x8 + 1) m1))) := h
    refine b_iload dX10_multiplyValues_46 rfl ?_
    refine b_iload dX10_multiplyValues_48 rfl ?_
    refine b_cSi (as := [vI x6]) (st := [vI x9]) dX10_multiplyValues_50 mf_X10_rows lk_X10_674 (p_X10_rows (f := 1) (Nat.le_refl _) _ _ h) (by omega) rfl rfl (Nat.le_of_ble_eq_true rfl) (by decide) rfl (fun _ => rfl) (fun r1 m1 h => ?_) (fun _ h => h)
    obtain ⟨g1, h⟩ := h
    obtain ⟨g2, h⟩ := h
    refine b_icmp_ge 165 dX10_multiplyValues_53 g1 g2 (by decide) (fun c1 => ?_) (fun c1 => ?_)
    · have h := ifT c1 h
      refine b_iinc (ls' := [vR 582, vI x1, vI x2, vI x3, vI x4, vI x5, vI x6, vI x7, vI (x8 + 1), vI x9]) dX10_multiplyValues_165 rfl rfl ?_
      refine b_goto 26 dX10_multiplyValues_168 (by decide) ?_
      refine b_fgt [true, true, true, true, true, true, true, true, true, false] (ls' := [vR 582, vI x1, vI x2, vI x3, vI x4, vI x5, vI x6, vI x7, vI (x8 + 1), vU]) rfl rfl ?_
      exact hK26 _ _ _ _ _ _ _ _ _ h
    · have h := ifF c1 h
      refine b_aload_n dX10_multiplyValues_56 rfl ?_
      refine b_getI dX10_multiplyValues_57 fk_X10_601 ly_582 ?_
      obtain ⟨g3, h⟩ := h
      refine b_if_ne 165 dX10_multiplyValues_60 g3 (by decide) (fun c2 => ?_) (fun c2 => ?_)
      · have h := ifF c2 h
        refine b_iinc (ls' := [vR 582, vI x1, vI x2, vI x3, vI x4, vI x5, vI x6, vI x7, vI (x8 + 1), vI x9]) dX10_multiplyValues_165 rfl rfl ?_
        refine b_goto 26 dX10_multiplyValues_168 (by decide) ?_
        refine b_fgt [true, true, true, true, true, true, true, true, true, false] (ls' := [vR 582, vI x1, vI x2, vI x3, vI x4, vI x5, vI x6, vI x7, vI (x8 + 1), vU]) rfl rfl ?_
        exact hK26 _ _ _ _ _ _ _ _ _ h
      · have h := ifT (Decidable.of_not_not c2) h
        refine b_aload_n dX10_multiplyValues_63 rfl ?_
        refine b_ldcw (1590300) dX10_multiplyValues_64 q2363 (by decide) ?_
        refine b_iload_n dX10_multiplyValues_67 rfl ?_
        refine b_iload dX10_multiplyValues_68 rfl ?_
        refine b_iload dX10_multiplyValues_70 rfl ?_
        refine b_cSi (as := [vI x2, vI x7, vI x9]) (st := [vI 1590300, vR 582]) dX10_multiplyValues_72 mf_X10_entryAt lk_X10_677 (p_X10_entryAt (f := 1) (Nat.le_refl _) _ _ _ _ h) (by omega) rfl rfl (Nat.le_of_ble_eq_true rfl) (by decide) rfl (fun _ => rfl) (fun r2 m2 h => ?_) (fun _ h => h)
        refine b_iload_n dX10_multiplyValues_75 rfl ?_
        refine b_iload dX10_multiplyValues_76 rfl ?_
        refine b_iload dX10_multiplyValues_78 rfl ?_
        refine b_cSi (as := [vI x3, vI x9, vI x8]) (st := [vI r2, vI 1590300, vR 582]) dX10_multiplyValues_80 mf_X10_entryAt lk_X10_677 (p_X10_entryAt (f := 1) (Nat.le_refl _) _ _ _ _ h) (by omega) rfl rfl (Nat.le_of_ble_eq_true rfl) (by decide) rfl (fun _ => rfl) (fun r3 m3 h => ?_) (fun _ h => h)
        refine b_iload dX10_multiplyValues_83 rfl ?_
        refine b_iload dX10_multiplyValues_85 rfl ?_
        refine b_cVv (as := [vI 1590300, vI r2, vI r3, vI x4, vI x5]) (st := []) dX10_multiplyValues_87 mf_X10_multiplyBlocks qs171 lk_X10_689 ly_582 rfl (p_X10_multiplyBlocks (f := 5) (Nat.le_refl _) _ _ _ _ _ _ h) (by omega) rfl rfl (Nat.le_of_ble_eq_true rfl) (by decide) rfl (fun _ => rfl) (fun r4 m4 h => ?_) (fun _ h => h)
        refine b_aload_n dX10_multiplyValues_90 rfl ?_
        refine b_getI dX10_multiplyValues_91 fk_X10_601 ly_582 ?_
        obtain ⟨g4, h⟩ := h
        refine b_if_le 98 dX10_multiplyValues_94 g4 (by decide) (fun c3 => ?_) (fun c3 => ?_)
        · have h := ifT c3 h
          refine b_iload dX10_multiplyValues_98 rfl ?_
          refine b_if_ne 128 dX10_multiplyValues_100 g1 (by decide) (fun c4 => ?_) (fun c4 => ?_)
          · have h := ifF c4 h
            refine b_aload_n dX10_multiplyValues_128 rfl ?_
            refine b_ldcw (1591000) dX10_multiplyValues_129 q2362 (by decide) ?_
            refine b_iload dX10_multiplyValues_132 rfl ?_
            refine b_iload dX10_multiplyValues_134 rfl ?_
            refine b_cSi (as := [vI 1591000, vI x7, vI x8]) (st := [vR 582]) dX10_multiplyValues_136 mf_X10_entryAt lk_X10_677 (p_X10_entryAt (f := 1) (Nat.le_refl _) _ _ _ _ h) (by omega) rfl rfl (Nat.le_of_ble_eq_true rfl) (by decide) rfl (fun _ => rfl) (fun r5 m5 h => ?_) (fun _ h => h)
            refine b_ldcw (1591000) dX10_multiplyValues_139 q2362 (by decide) ?_
            refine b_iload dX10_multiplyValues_142 rfl ?_
            refine b_iload dX10_multiplyValues_144 rfl ?_
            refine b_cSi (as := [vI 1591000, vI x7, vI x8]) (st := [vI r5, vR 582]) dX10_multiplyValues_146 mf_X10_entryAt lk_X10_677 (p_X10_entryAt (f := 1) (Nat.le_refl _) _ _ _ _ h) (by omega) rfl rfl (Nat.le_of_ble_eq_true rfl) (by decide) rfl (fun _ => rfl) (fun r6 m6 h => ?_) (fun _ h => h)
            refine b_ldcw (1590300) dX10_multiplyValues_149 q2363 (by decide) ?_
            refine b_iload dX10_multiplyValues_152 rfl ?_
            refine b_iload dX10_multiplyValues_154 rfl ?_
            refine b_cVv (as := [vI r5, vI r6, vI 1590300, vI x4, vI x5]) (st := []) dX10_multiplyValues_156 mf_X10_addBlocks qs178 lk_X10_667 ly_582 rfl (p_X10_addBlocks (f := 4) (Nat.le_refl _) _ _ _ _ _ _ h) (by omega) rfl rfl (Nat.le_of_ble_eq_true rfl) (by decide) rfl (fun _ => rfl) (fun r7 m7 h => ?_) (fun _ h => h)
            refine b_iinc (ls' := [vR 582, vI x1, vI x2, vI x3, vI x4, vI x5, vI x6, vI x7, vI x8, vI (x9 + 1)]) dX10_multiplyValues_159 rfl rfl ?_
            refine b_goto 46 dX10_multiplyValues_162 (by decide) ?_
            exact ih _ _ _ _ _ _ _ _ _ _ h
          · have h := ifT (Decidable.of_not_not c4) h
            refine b_aload_n dX10_multiplyValues_103 rfl ?_
            refine b_ldcw (1591000) dX10_multiplyValues_104 q2362 (by decide) ?_
            refine b_iload dX10_multiplyValues_107 rfl ?_
            refine b_iload dX10_multiplyValues_109 rfl ?_
            refine b_cSi (as := [vI 1591000, vI x7, vI x8]) (st := [vR 582]) dX10_multiplyValues_111 mf_X10_entryAt lk_X10_677 (p_X10_entryAt (f := 1) (Nat.le_refl _) _ _ _ _ h) (by omega) rfl rfl (Nat.le_of_ble_eq_true rfl) (by decide) rfl (fun _ => rfl) (fun r8 m8 h => ?_) (fun _ h => h)
            refine b_ldcw (1590300) dX10_multiplyValues_114 q2363 (by decide) ?_
            refine b_iload dX10_multiplyValues_117 rfl ?_
            refine b_cSi (as := [vI x5]) (st := [vI 1590300, vI r8, vR 582]) dX10_multiplyValues_119 mf_X10_width lk_X10_637 (p_X10_width (f := 1) (Nat.le_refl _) _ _ h) (by omega) rfl rfl (Nat.le_of_ble_eq_true rfl) (by decide) rfl (fun _ => rfl) (fun r9 m9 h => ?_) (fun _ h => h)
            refine b_cVv (as := [vI r8, vI 1590300, vI r9]) (st := []) dX10_multiplyValues_122 mf_X10_copy qs164 lk_X10_658 ly_582 rfl (p_X10_copy (f := 1) (Nat.le_refl _) _ _ _ _ h) (by omega) rfl rfl (Nat.le_of_ble_eq_true rfl) (by decide) rfl (fun _ => rfl) (fun r10 m10 h => ?_) (fun _ h => h)
            refine b_goto 159 dX10_multiplyValues_125 (by decide) ?_
            refine b_iinc (ls' := [vR 582, vI x1, vI x2, vI x3, vI x4, vI x5, vI x6, vI x7, vI x8, vI (x9 + 1)]) dX10_multiplyValues_159 rfl rfl ?_
            refine b_goto 46 dX10_multiplyValues_162 (by decide) ?_
            exact ih _ _ _ _ _ _ _ _ _ _ h
        · have h := ifF c3 h
          exact b_vret dX10_multiplyValues_97 rfl h
theorem pl_X10_multiplyValues_26 {f : Nat} {Q : Int → MM → Prop} {T : MM → Prop} (hf : 6 ≤ f) {K13 : Int → Int → Int → Int → Int → Int → Int → MM → Prop} (hK13 : ∀ (x1 : Int) (x2 : Int) (x3 : Int) (x4 : Int) (x5 : Int) (x6 : Int) (x7 : Int) (m : MM), K13 x1 x2 x3 x4 x5 x6 x7 m → B f M_X10_multiplyValues 13 [vR 582, vI x1, vI x2, vI x3, vI x4, vI x5, vI x6, vI x7, vU, vU] [] m Q T) : ∀ (n : Nat) (x1 : Int) (x2 : Int) (x3 : Int) (x4 : Int) (x5 : Int) (x6 : Int) (x7 : Int) (x8 : Int) (m : MM), P_X10_multiplyValues_26 Q K13 n x1 x2 x3 x4 x5 x6 x7 x8 m → B f M_X10_multiplyValues 26 [vR 582, vI x1, vI x2, vI x3, vI x4, vI x5, vI x6, vI x7, vI x8, vU] [] m Q T := by
  intro n
  induction n with
  | zero => intro x1 x2 x3 x4 x5 x6 x7 x8 m h; exact h.elim
  | succ n ih =>
    intro x1 x2 x3 x4 x5 x6 x7 x8 m h
    have h : P_X10_rows x6 m (fun r1 m1 => (RI x8) ∧ (RI r1) ∧ (if r1 ≤ x8 then K13 x1 x2 x3 x4 x5 x6 (x7 + 1) m1 else (RI (m1 582 84)) ∧ (if (m1 582 84) = 0 then ∃ nn, P_X10_multiplyValues_46 Q K13 (fun z0 z1 z2 z3 z4 z5 z6 z7 z8 => P_X10_multiplyValues_26 Q K13 n z0 z1 z2 z3 z4 z5 z6 z7 z8) nn x1 x2 x3 x4 x5 x6 x7 x8 0 m1 else K13 x1 x2 x3 x4 x5 x6 (x7 + 1) m1))) := h
    refine b_iload dX10_multiplyValues_26 rfl ?_
    refine b_iload dX10_multiplyValues_28 rfl ?_
    refine b_cSi (as := [vI x6]) (st := [vI x8]) dX10_multiplyValues_30 mf_X10_rows lk_X10_674 (p_X10_rows (f := 1) (Nat.le_refl _) _ _ h) (by omega) rfl rfl (Nat.le_of_ble_eq_true rfl) (by decide) rfl (fun _ => rfl) (fun r1 m1 h => ?_) (fun _ h => h)
    obtain ⟨g1, h⟩ := h
    obtain ⟨g2, h⟩ := h
    refine b_icmp_ge 171 dX10_multiplyValues_33 g1 g2 (by decide) (fun c1 => ?_) (fun c1 => ?_)
    · have h := ifT c1 h
      refine b_iinc (ls' := [vR 582, vI x1, vI x2, vI x3, vI x4, vI x5, vI x6, vI (x7 + 1), vI x8, vU]) dX10_multiplyValues_171 rfl rfl ?_
      refine b_goto 13 dX10_multiplyValues_174 (by decide) ?_
      refine b_fgt [true, true, true, true, true, true, true, true, false, false] (ls' := [vR 582, vI x1, vI x2, vI x3, vI x4, vI x5, vI x6, vI (x7 + 1), vU, vU]) rfl rfl ?_
      exact hK13 _ _ _ _ _ _ _ _ h
    · have h := ifF c1 h
      refine b_aload_n dX10_multiplyValues_36 rfl ?_
      refine b_getI dX10_multiplyValues_37 fk_X10_601 ly_582 ?_
      obtain ⟨g3, h⟩ := h
      refine b_if_ne 171 dX10_multiplyValues_40 g3 (by decide) (fun c2 => ?_) (fun c2 => ?_)
      · have h := ifF c2 h
        refine b_iinc (ls' := [vR 582, vI x1, vI x2, vI x3, vI x4, vI x5, vI x6, vI (x7 + 1), vI x8, vU]) dX10_multiplyValues_171 rfl rfl ?_
        refine b_goto 13 dX10_multiplyValues_174 (by decide) ?_
        refine b_fgt [true, true, true, true, true, true, true, true, false, false] (ls' := [vR 582, vI x1, vI x2, vI x3, vI x4, vI x5, vI x6, vI (x7 + 1), vU, vU]) rfl rfl ?_
        exact hK13 _ _ _ _ _ _ _ _ h
      · have h := ifT (Decidable.of_not_not c2) h
        refine b_iconst dX10_multiplyValues_43 ?_
        refine b_istore (ls' := [vR 582, vI x1, vI x2, vI x3, vI x4, vI x5, vI x6, vI x7, vI x8, vI 0]) dX10_multiplyValues_44 (Nat.le_of_ble_eq_true rfl) rfl ?_
        obtain ⟨nn, h⟩ := h
        exact pl_X10_multiplyValues_46 hf hK13 (fun _ _ _ _ _ _ _ _ _ h => ih _ _ _ _ _ _ _ _ _ h) nn _ _ _ _ _ _ _ _ _ _ h
theorem pl_X10_multiplyValues_177 {f : Nat} {Q : Int → MM → Prop} {T : MM → Prop} (hf : 6 ≤ f) : ∀ (x1 : Int) (m : MM), P_X10_multiplyValues_177 Q x1 m → B f M_X10_multiplyValues 177 [vR 582, vI x1, vU, vU, vU, vU, vU, vU, vU, vU] [] m Q T := by
  intro x1 m h
  have h : (RI (m 582 84)) ∧ (if (m 582 84) = 0 then P_X10_copy x1 1591000 882 m (fun r1 m1 => Q 0 m1) else Q 0 m) := h
  refine b_aload_n dX10_multiplyValues_177 rfl ?_
  refine b_getI dX10_multiplyValues_178 fk_X10_601 ly_582 ?_
  obtain ⟨g1, h⟩ := h
  refine b_if_ne 195 dX10_multiplyValues_181 g1 (by decide) (fun c1 => ?_) (fun c1 => ?_)
  · have h := ifF c1 h
    exact b_vret dX10_multiplyValues_195 rfl h
  · have h := ifT (Decidable.of_not_not c1) h
    refine b_aload_n dX10_multiplyValues_184 rfl ?_
    refine b_iload_n dX10_multiplyValues_185 rfl ?_
    refine b_ldcw (1591000) dX10_multiplyValues_186 q2362 (by decide) ?_
    refine b_sipush dX10_multiplyValues_189 (by decide) ?_
    refine b_cVv (as := [vI x1, vI 1591000, vI 882]) (st := []) dX10_multiplyValues_192 mf_X10_copy qs164 lk_X10_658 ly_582 rfl (p_X10_copy (f := 1) (Nat.le_refl _) _ _ _ _ h) (by omega) rfl rfl (Nat.le_of_ble_eq_true rfl) (by decide) rfl (fun _ => rfl) (fun r1 m1 h => ?_) (fun _ h => h)
    exact b_vret dX10_multiplyValues_195 rfl h
theorem pl_X10_multiplyValues_13 {f : Nat} {Q : Int → MM → Prop} {T : MM → Prop} (hf : 6 ≤ f) : ∀ (n : Nat) (x1 : Int) (x2 : Int) (x3 : Int) (x4 : Int) (x5 : Int) (x6 : Int) (x7 : Int) (m : MM), P_X10_multiplyValues_13 Q n x1 x2 x3 x4 x5 x6 x7 m → B f M_X10_multiplyValues 13 [vR 582, vI x1, vI x2, vI x3, vI x4, vI x5, vI x6, vI x7, vU, vU] [] m Q T := by
  intro n
  induction n with
  | zero => intro x1 x2 x3 x4 x5 x6 x7 m h; exact h.elim
  | succ n ih =>
    intro x1 x2 x3 x4 x5 x6 x7 m h
    have h : P_X10_rows x6 m (fun r1 m1 => (RI x7) ∧ (RI r1) ∧ (if r1 ≤ x7 then P_X10_multiplyValues_177 Q x1 m1 else ∃ nn, P_X10_multiplyValues_26 Q (fun z0 z1 z2 z3 z4 z5 z6 z7 => P_X10_multiplyValues_13 Q n z0 z1 z2 z3 z4 z5 z6 z7) nn x1 x2 x3 x4 x5 x6 x7 0 m1)) := h
    refine b_iload dX10_multiplyValues_13 rfl ?_
    refine b_iload dX10_multiplyValues_15 rfl ?_
    refine b_cSi (as := [vI x6]) (st := [vI x7]) dX10_multiplyValues_17 mf_X10_rows lk_X10_674 (p_X10_rows (f := 1) (Nat.le_refl _) _ _ h) (by omega) rfl rfl (Nat.le_of_ble_eq_true rfl) (by decide) rfl (fun _ => rfl) (fun r1 m1 h => ?_) (fun _ h => h)
    obtain ⟨g1, h⟩ := h
    obtain ⟨g2, h⟩ := h
    refine b_icmp_ge 177 dX10_multiplyValues_20 g1 g2 (by decide) (fun c1 => ?_) (fun c1 => ?_)
    · have h := ifT c1 h
      refine b_fgt [true, true, false, false, false, false, false, false, false, false] (ls' := [vR 582, vI x1, vU, vU, vU, vU, vU, vU, vU, vU]) rfl rfl ?_
      exact pl_X10_multiplyValues_177 hf _ _ h
    · have h := ifF c1 h
      refine b_iconst dX10_multiplyValues_23 ?_
      refine b_istore (ls' := [vR 582, vI x1, vI x2, vI x3, vI x4, vI x5, vI x6, vI x7, vI 0, vU]) dX10_multiplyValues_24 (Nat.le_of_ble_eq_true rfl) rfl ?_
      obtain ⟨nn, h⟩ := h
      exact pl_X10_multiplyValues_26 hf (fun _ _ _ _ _ _ _ _ h => ih _ _ _ _ _ _ _ _ h) nn _ _ _ _ _ _ _ _ _ h
theorem p_X10_multiplyValues {f : Nat} {Q : Int → MM → Prop} {T : MM → Prop} (hf : 6 ≤ f) (x1 : Int) (x2 : Int) (x3 : Int) (x4 : Int) (x5 : Int) (x6 : Int) (m : MM) (h : P_X10_multiplyValues x1 x2 x3 x4 x5 x6 m Q) : CC f M_X10_multiplyValues [vR 582, vI x1, vI x2, vI x3, vI x4, vI x5, vI x6] m Q T := by
  refine CC.of (plainFor_of_name (by decide)) (Nat.le_of_ble_eq_true rfl) (ls := [vR 582, vI x1, vI x2, vI x3, vI x4, vI x5, vI x6, vU, vU, vU]) rfl ?_
  have h : P_X10_clear 1591000 882 m (fun r1 m1 => ∃ nn, P_X10_multiplyValues_13 Q nn x1 x2 x3 x4 x5 x6 0 m1) := h
  refine b_aload_n dX10_multiplyValues_0 rfl ?_
  refine b_ldcw (1591000) dX10_multiplyValues_1 q2362 (by decide) ?_
  refine b_sipush dX10_multiplyValues_4 (by decide) ?_
  refine b_cVv (as := [vI 1591000, vI 882]) (st := []) dX10_multiplyValues_7 mf_X10_clear qs162 lk_X10_685 ly_582 rfl (p_X10_clear (f := 2) (Nat.le_refl _) _ _ _ h) (by omega) rfl rfl (Nat.le_of_ble_eq_true rfl) (by decide) rfl (fun _ => rfl) (fun r1 m1 h => ?_) (fun _ h => h)
  refine b_iconst dX10_multiplyValues_10 ?_
  refine b_istore (ls' := [vR 582, vI x1, vI x2, vI x3, vI x4, vI x5, vI x6, vI 0, vU, vU]) dX10_multiplyValues_11 (Nat.le_of_ble_eq_true rfl) rfl ?_
  obtain ⟨nn, h⟩ := h
  exact pl_X10_multiplyValues_13 hf nn _ _ _ _ _ _ _ _ h
theorem dX10_evalAt_0 : decode cX10_evalAt 0 = .ok (.aload_n 0, 1) := by decide +kernel
theorem dX10_evalAt_1 : decode cX10_evalAt 1 = .ok (.ldc_w 862, 3) := by decide +kernel
theorem dX10_evalAt_4 : decode cX10_evalAt 4 = .ok (.iload_n 3, 1) := by decide +kernel
theorem dX10_evalAt_5 : decode cX10_evalAt 5 = .ok (.bipush 98, 2) := by decide +kernel
theorem dX10_evalAt_7 : decode cX10_evalAt 7 = .ok (.invokevirtual 658, 3) := by decide +kernel
theorem dX10_evalAt_10 : decode cX10_evalAt 10 = .ok (.aload_n 0, 1) := by decide +kernel
theorem dX10_evalAt_11 : decode cX10_evalAt 11 = .ok (.iload_n 3, 1) := by decide +kernel
theorem dX10_evalAt_12 : decode cX10_evalAt 12 = .ok (.sipush 882, 3) := by decide +kernel
theorem dX10_evalAt_15 : decode cX10_evalAt 15 = .ok (.invokevirtual 685, 3) := by decide +kernel
theorem dX10_evalAt_18 : decode cX10_evalAt 18 = .ok (.bipush 6, 2) := by decide +kernel
theorem dX10_evalAt_20 : decode cX10_evalAt 20 = .ok (.istore 5, 2) := by decide +kernel
theorem dX10_evalAt_22 : decode cX10_evalAt 22 = .ok (.iload 5, 2) := by decide +kernel
theorem dX10_evalAt_24 : decode cX10_evalAt 24 = .ok (.ifCond .lt 175, 3) := by decide +kernel
theorem dX10_evalAt_27 : decode cX10_evalAt 27 = .ok (.aload_n 0, 1) := by decide +kernel
theorem dX10_evalAt_28 : decode cX10_evalAt 28 = .ok (.getfield 601, 3) := by decide +kernel
theorem dX10_evalAt_31 : decode cX10_evalAt 31 = .ok (.ifCond .ne 168, 3) := by decide +kernel
theorem dX10_evalAt_34 : decode cX10_evalAt 34 = .ok (.aload_n 0, 1) := by decide +kernel
theorem dX10_evalAt_35 : decode cX10_evalAt 35 = .ok (.iload_n 3, 1) := by decide +kernel
theorem dX10_evalAt_36 : decode cX10_evalAt 36 = .ok (.iload_n 3, 1) := by decide +kernel
theorem dX10_evalAt_37 : decode cX10_evalAt 37 = .ok (.iload 4, 2) := by decide +kernel
theorem dX10_evalAt_39 : decode cX10_evalAt 39 = .ok (.aload_n 0, 1) := by decide +kernel
theorem dX10_evalAt_40 : decode cX10_evalAt 40 = .ok (.getfield 130, 3) := by decide +kernel
theorem dX10_evalAt_43 : decode cX10_evalAt 43 = .ok (.iload_n 1, 1) := by decide +kernel
theorem dX10_evalAt_44 : decode cX10_evalAt 44 = .ok (.iaload, 1) := by decide +kernel
theorem dX10_evalAt_45 : decode cX10_evalAt 45 = .ok (.aload_n 0, 1) := by decide +kernel
theorem dX10_evalAt_46 : decode cX10_evalAt 46 = .ok (.getfield 133, 3) := by decide +kernel
theorem dX10_evalAt_49 : decode cX10_evalAt 49 = .ok (.iload_n 1, 1) := by decide +kernel
theorem dX10_evalAt_50 : decode cX10_evalAt 50 = .ok (.iaload, 1) := by decide +kernel
theorem dX10_evalAt_51 : decode cX10_evalAt 51 = .ok (.aload_n 0, 1) := by decide +kernel
theorem dX10_evalAt_52 : decode cX10_evalAt 52 = .ok (.getfield 136, 3) := by decide +kernel
theorem dX10_evalAt_55 : decode cX10_evalAt 55 = .ok (.iload_n 1, 1) := by decide +kernel
theorem dX10_evalAt_56 : decode cX10_evalAt 56 = .ok (.iaload, 1) := by decide +kernel
theorem dX10_evalAt_57 : decode cX10_evalAt 57 = .ok (.invokevirtual 779, 3) := by decide +kernel
theorem dX10_evalAt_60 : decode cX10_evalAt 60 = .ok (.aload_n 0, 1) := by decide +kernel
theorem dX10_evalAt_61 : decode cX10_evalAt 61 = .ok (.getfield 601, 3) := by decide +kernel
theorem dX10_evalAt_64 : decode cX10_evalAt 64 = .ok (.ifCond .le 4, 3) := by decide +kernel
theorem dX10_evalAt_67 : decode cX10_evalAt 67 = .ok (.return_, 1) := by decide +kernel
theorem dX10_evalAt_68 : decode cX10_evalAt 68 = .ok (.aload_n 0, 1) := by decide +kernel
theorem dX10_evalAt_69 : decode cX10_evalAt 69 = .ok (.ldc_w 750, 3) := by decide +kernel
theorem dX10_evalAt_72 : decode cX10_evalAt 72 = .ok (.sipush 882, 3) := by decide +kernel
theorem dX10_evalAt_75 : decode cX10_evalAt 75 = .ok (.invokevirtual 685, 3) := by decide +kernel
theorem dX10_evalAt_78 : decode cX10_evalAt 78 = .ok (.aload_n 0, 1) := by decide +kernel
theorem dX10_evalAt_79 : decode cX10_evalAt 79 = .ok (.getfield 133, 3) := by decide +kernel
theorem dX10_evalAt_82 : decode cX10_evalAt 82 = .ok (.iload_n 2, 1) := by decide +kernel
theorem dX10_evalAt_83 : decode cX10_evalAt 83 = .ok (.iaload, 1) := by decide +kernel
theorem dX10_evalAt_84 : decode cX10_evalAt 84 = .ok (.iconst 1, 1) := by decide +kernel
theorem dX10_evalAt_85 : decode cX10_evalAt 85 = .ok (.if_icmp .ne 22, 3) := by decide +kernel
theorem dX10_evalAt_88 : decode cX10_evalAt 88 = .ok (.aload_n 0, 1) := by decide +kernel
theorem dX10_evalAt_89 : decode cX10_evalAt 89 = .ok (.ldc_w 750, 3) := by decide +kernel
theorem dX10_evalAt_92 : decode cX10_evalAt 92 = .ok (.ldc_w 862, 3) := by decide +kernel
theorem dX10_evalAt_95 : decode cX10_evalAt 95 = .ok (.iconst 2, 1) := by decide +kernel
theorem dX10_evalAt_96 : decode cX10_evalAt 96 = .ok (.iload 5, 2) := by decide +kernel
theorem dX10_evalAt_98 : decode cX10_evalAt 98 = .ok (.imul, 1) := by decide +kernel
theorem dX10_evalAt_99 : decode cX10_evalAt 99 = .ok (.iadd, 1) := by decide +kernel
theorem dX10_evalAt_100 : decode cX10_evalAt 100 = .ok (.iconst 2, 1) := by decide +kernel
theorem dX10_evalAt_101 : decode cX10_evalAt 101 = .ok (.invokevirtual 658, 3) := by decide +kernel
theorem dX10_evalAt_104 : decode cX10_evalAt 104 = .ok (.goto 21, 3) := by decide +kernel
theorem dX10_evalAt_107 : decode cX10_evalAt 107 = .ok (.aload_n 0, 1) := by decide +kernel
theorem dX10_evalAt_108 : decode cX10_evalAt 108 = .ok (.ldc_w 750, 3) := by decide +kernel
theorem dX10_evalAt_111 : decode cX10_evalAt 111 = .ok (.ldc_w 862, 3) := by decide +kernel
theorem dX10_evalAt_114 : decode cX10_evalAt 114 = .ok (.bipush 14, 2) := by decide +kernel
theorem dX10_evalAt_116 : decode cX10_evalAt 116 = .ok (.iload 5, 2) := by decide +kernel
theorem dX10_evalAt_118 : decode cX10_evalAt 118 = .ok (.imul, 1) := by decide +kernel
theorem dX10_evalAt_119 : decode cX10_evalAt 119 = .ok (.iadd, 1) := by decide +kernel
theorem dX10_evalAt_120 : decode cX10_evalAt 120 = .ok (.bipush 14, 2) := by decide +kernel
theorem dX10_evalAt_122 : decode cX10_evalAt 122 = .ok (.invokevirtual 658, 3) := by decide +kernel
theorem dX10_evalAt_125 : decode cX10_evalAt 125 = .ok (.aload_n 0, 1) := by decide +kernel
theorem dX10_evalAt_126 : decode cX10_evalAt 126 = .ok (.ldc_w 750, 3) := by decide +kernel
theorem dX10_evalAt_129 : decode cX10_evalAt 129 = .ok (.aload_n 0, 1) := by decide +kernel
theorem dX10_evalAt_130 : decode cX10_evalAt 130 = .ok (.getfield 130, 3) := by decide +kernel
theorem dX10_evalAt_133 : decode cX10_evalAt 133 = .ok (.iload_n 2, 1) := by decide +kernel
theorem dX10_evalAt_134 : decode cX10_evalAt 134 = .ok (.iaload, 1) := by decide +kernel
theorem dX10_evalAt_135 : decode cX10_evalAt 135 = .ok (.aload_n 0, 1) := by decide +kernel
theorem dX10_evalAt_136 : decode cX10_evalAt 136 = .ok (.getfield 133, 3) := by decide +kernel
theorem dX10_evalAt_139 : decode cX10_evalAt 139 = .ok (.iload_n 2, 1) := by decide +kernel
theorem dX10_evalAt_140 : decode cX10_evalAt 140 = .ok (.iaload, 1) := by decide +kernel
theorem dX10_evalAt_141 : decode cX10_evalAt 141 = .ok (.iconst 1, 1) := by decide +kernel
theorem dX10_evalAt_142 : decode cX10_evalAt 142 = .ok (.isub, 1) := by decide +kernel
theorem dX10_evalAt_143 : decode cX10_evalAt 143 = .ok (.iconst 0, 1) := by decide +kernel
theorem dX10_evalAt_144 : decode cX10_evalAt 144 = .ok (.aload_n 0, 1) := by decide +kernel
theorem dX10_evalAt_145 : decode cX10_evalAt 145 = .ok (.getfield 130, 3) := by decide +kernel
theorem dX10_evalAt_148 : decode cX10_evalAt 148 = .ok (.iload_n 1, 1) := by decide +kernel
theorem dX10_evalAt_149 : decode cX10_evalAt 149 = .ok (.iaload, 1) := by decide +kernel
theorem dX10_evalAt_150 : decode cX10_evalAt 150 = .ok (.aload_n 0, 1) := by decide +kernel
theorem dX10_evalAt_151 : decode cX10_evalAt 151 = .ok (.getfield 133, 3) := by decide +kernel
theorem dX10_evalAt_154 : decode cX10_evalAt 154 = .ok (.iload_n 1, 1) := by decide +kernel
theorem dX10_evalAt_155 : decode cX10_evalAt 155 = .ok (.iaload, 1) := by decide +kernel
theorem dX10_evalAt_156 : decode cX10_evalAt 156 = .ok (.aload_n 0, 1) := by decide +kernel
theorem dX10_evalAt_157 : decode cX10_evalAt 157 = .ok (.getfield 136, 3) := by decide +kernel
theorem dX10_evalAt_160 : decode cX10_evalAt 160 = .ok (.iload_n 1, 1) := by decide +kernel
theorem dX10_evalAt_161 : decode cX10_evalAt 161 = .ok (.iaload, 1) := by decide +kernel
theorem dX10_evalAt_162 : decode cX10_evalAt 162 = .ok (.invokevirtual 724, 3) := by decide +kernel
theorem dX10_evalAt_165 : decode cX10_evalAt 165 = .ok (.aload_n 0, 1) := by decide +kernel
theorem dX10_evalAt_166 : decode cX10_evalAt 166 = .ok (.iload_n 3, 1) := by decide +kernel
theorem dX10_evalAt_167 : decode cX10_evalAt 167 = .ok (.iload_n 3, 1) := by decide +kernel
theorem dX10_evalAt_168 : decode cX10_evalAt 168 = .ok (.ldc_w 750, 3) := by decide +kernel
theorem dX10_evalAt_171 : decode cX10_evalAt 171 = .ok (.aload_n 0, 1) := by decide +kernel
theorem dX10_evalAt_172 : decode cX10_evalAt 172 = .ok (.getfield 130, 3) := by decide +kernel
theorem dX10_evalAt_175 : decode cX10_evalAt 175 = .ok (.iload_n 1, 1) := by decide +kernel
theorem dX10_evalAt_176 : decode cX10_evalAt 176 = .ok (.iaload, 1) := by decide +kernel
theorem dX10_evalAt_177 : decode cX10_evalAt 177 = .ok (.aload_n 0, 1) := by decide +kernel
theorem dX10_evalAt_178 : decode cX10_evalAt 178 = .ok (.getfield 133, 3) := by decide +kernel
theorem dX10_evalAt_181 : decode cX10_evalAt 181 = .ok (.iload_n 1, 1) := by decide +kernel
theorem dX10_evalAt_182 : decode cX10_evalAt 182 = .ok (.iaload, 1) := by decide +kernel
theorem dX10_evalAt_183 : decode cX10_evalAt 183 = .ok (.aload_n 0, 1) := by decide +kernel
theorem dX10_evalAt_184 : decode cX10_evalAt 184 = .ok (.getfield 136, 3) := by decide +kernel
theorem dX10_evalAt_187 : decode cX10_evalAt 187 = .ok (.iload_n 1, 1) := by decide +kernel
theorem dX10_evalAt_188 : decode cX10_evalAt 188 = .ok (.iaload, 1) := by decide +kernel
theorem dX10_evalAt_189 : decode cX10_evalAt 189 = .ok (.iconst 0, 1) := by decide +kernel
theorem dX10_evalAt_190 : decode cX10_evalAt 190 = .ok (.invokevirtual 751, 3) := by decide +kernel
theorem dX10_evalAt_193 : decode cX10_evalAt 193 = .ok (.iinc 5 (-1), 3) := by decide +kernel
theorem dX10_evalAt_196 : decode cX10_evalAt 196 = .ok (.goto (-174), 3) := by decide +kernel
theorem dX10_evalAt_199 : decode cX10_evalAt 199 = .ok (.return_, 1) := by decide +kernel
/-! AlgebraHouseModel.evalAt(IIII)V -/
def P_X10_evalAt_125 (Q : Int → MM → Prop) (K22 : Int → Int → Int → Int → Int → MM → Prop) (x1 : Int) (x2 : Int) (x3 : Int) (x4 : Int) (x5 : Int) (m : MM) : Prop := (0 ≤ x2 ∧ x2 < 12000) ∧ (0 ≤ x1 ∧ x1 < 12000) ∧ P_X10_go 1593000 (m 598 x2) ((m 599 x2) - 1) 0 (m 598 x1) (m 599 x1) (m 600 x1) m (fun r1 m1 => P_X10_addValues x3 x3 1593000 (m1 598 x1) (m1 599 x1) (m1 600 x1) 0 m1 (fun r2 m2 => K22 x1 x2 x3 x4 (x5 + (-1)) m2))
def P_X10_evalAt_22 (Q : Int → MM → Prop) : Nat → Int → Int → Int → Int → Int → MM → Prop
  | 0, _, _, _, _, _, _ => False
  | n + 1, x1, x2, x3, x4, x5, m => (RI x5) ∧ (if x5 < 0 then Q 0 m else (RI (m 582 84)) ∧ (if (m 582 84) = 0 then (0 ≤ x1 ∧ x1 < 12000) ∧ P_X10_multiplyValues x3 x3 x4 (m 598 x1) (m 599 x1) (m 600 x1) m (fun r1 m1 => (RI (m1 582 84)) ∧ (if (m1 582 84) ≤ 0 then P_X10_clear 1593000 882 m1 (fun r2 m2 => (0 ≤ x2 ∧ x2 < 12000) ∧ (RI (m2 599 x2)) ∧ (if (m2 599 x2) = 1 then P_X10_copy 1593000 (1595000 + (2 * x5)) 2 m2 (fun r4 m4 => P_X10_evalAt_125 Q (fun z0 z1 z2 z3 z4 z5 => P_X10_evalAt_22 Q n z0 z1 z2 z3 z4 z5) x1 x2 x3 x4 x5 m4) else P_X10_copy 1593000 (1595000 + (14 * x5)) 14 m2 (fun r3 m3 => P_X10_evalAt_125 Q (fun z0 z1 z2 z3 z4 z5 => P_X10_evalAt_22 Q n z0 z1 z2 z3 z4 z5) x1 x2 x3 x4 x5 m3))) else Q 0 m1)) else Q 0 m))
def P_X10_evalAt (x1 : Int) (x2 : Int) (x3 : Int) (x4 : Int) (m : MM) (Q : Int → MM → Prop) : Prop := P_X10_copy 1595000 x3 98 m (fun r1 m1 => P_X10_clear x3 882 m1 (fun r2 m2 => ∃ nn, P_X10_evalAt_22 Q nn x1 x2 x3 x4 6 m2))
theorem pl_X10_evalAt_125 {f : Nat} {Q : Int → MM → Prop} {T : MM → Prop} (hf : 7 ≤ f) {K22 : Int → Int → Int → Int → Int → MM → Prop} (hK22 : ∀ (x1 : Int) (x2 : Int) (x3 : Int) (x4 : Int) (x5 : Int) (m : MM), K22 x1 x2 x3 x4 x5 m → B f M_X10_evalAt 22 [vR 582, vI x1, vI x2, vI x3, vI x4, vI x5] [] m Q T) : ∀ (x1 : Int) (x2 : Int) (x3 : Int) (x4 : Int) (x5 : Int) (m : MM), P_X10_evalAt_125 Q K22 x1 x2 x3 x4 x5 m → B f M_X10_evalAt 125 [vR 582, vI x1, vI x2, vI x3, vI x4, vI x5] [] m Q T := by
  intro x1 x2 x3 x4 x5 m h
  have h : (0 ≤ x2 ∧ x2 < 12000) ∧ (0 ≤ x1 ∧ x1 < 12000) ∧ P_X10_go 1593000 (m 598 x2) ((m 599 x2) - 1) 0 (m 598 x1) (m 599 x1) (m 600 x1) m (fun r1 m1 => P_X10_addValues x3 x3 1593000 (m1 598 x1) (m1 599 x1) (m1 600 x1) 0 m1 (fun r2 m2 => K22 x1 x2 x3 x4 (x5 + (-1)) m2)) := h
  refine b_aload_n dX10_evalAt_125 rfl ?_
  refine b_ldcw (1593000) dX10_evalAt_126 q2347 (by decide) ?_
  refine b_aload_n dX10_evalAt_129 rfl ?_
  refine b_getR dX10_evalAt_130 fk_X10_130 ly_582 gg_582_24 ?_
  refine b_iload_n dX10_evalAt_133 rfl ?_
  obtain ⟨g1, h⟩ := h
  refine b_iald dX10_evalAt_134 ly_598 g1 ?_
  refine b_aload_n dX10_evalAt_135 rfl ?_
  refine b_getR dX10_evalAt_136 fk_X10_133 ly_582 gg_582_25 ?_
  refine b_iload_n dX10_evalAt_139 rfl ?_
  refine b_iald dX10_evalAt_140 ly_599 g1 ?_
  refine b_iconst dX10_evalAt_141 ?_
  refine b_isub dX10_evalAt_142 ?_
  refine b_iconst dX10_evalAt_143 ?_
  refine b_aload_n dX10_evalAt_144 rfl ?_
  refine b_getR dX10_evalAt_145 fk_X10_130 ly_582 gg_582_24 ?_
  refine b_iload_n dX10_evalAt_148 rfl ?_
  obtain ⟨g2, h⟩ := h
  refine b_iald dX10_evalAt_149 ly_598 g2 ?_
  refine b_aload_n dX10_evalAt_150 rfl ?_
  refine b_getR dX10_evalAt_151 fk_X10_133 ly_582 gg_582_25 ?_
  refine b_iload_n dX10_evalAt_154 rfl ?_
  refine b_iald dX10_evalAt_155 ly_599 g2 ?_
  refine b_aload_n dX10_evalAt_156 rfl ?_
  refine b_getR dX10_evalAt_157 fk_X10_136 ly_582 gg_582_26 ?_
  refine b_iload_n dX10_evalAt_160 rfl ?_
  refine b_iald dX10_evalAt_161 ly_600 g2 ?_
  refine b_cVv (as := [vI 1593000, vI (m 598 x2), vI ((m 599 x2) - 1), vI 0, vI (m 598 x1), vI (m 599 x1), vI (m 600 x1)]) (st := []) dX10_evalAt_162 mf_X10_go qs181 lk_X10_724 ly_582 rfl (p_X10_go (f := 2) (Nat.le_refl _) _ _ _ _ _ _ _ _ h) (by omega) rfl rfl (Nat.le_of_ble_eq_true rfl) (by decide) rfl (fun _ => rfl) (fun r1 m1 h => ?_) (fun _ h => h)
  refine b_aload_n dX10_evalAt_165 rfl ?_
  refine b_iload_n dX10_evalAt_166 rfl ?_
  refine b_iload_n dX10_evalAt_167 rfl ?_
  refine b_ldcw (1593000) dX10_evalAt_168 q2347 (by decide) ?_
  refine b_aload_n dX10_evalAt_171 rfl ?_
  refine b_getR dX10_evalAt_172 fk_X10_130 ly_582 gg_582_24 ?_
  refine b_iload_n dX10_evalAt_175 rfl ?_
  refine b_iald dX10_evalAt_176 ly_598 g2 ?_
  refine b_aload_n dX10_evalAt_177 rfl ?_
  refine b_getR dX10_evalAt_178 fk_X10_133 ly_582 gg_582_25 ?_
  refine b_iload_n dX10_evalAt_181 rfl ?_
  refine b_iald dX10_evalAt_182 ly_599 g2 ?_
  refine b_aload_n dX10_evalAt_183 rfl ?_
  refine b_getR dX10_evalAt_184 fk_X10_136 ly_582 gg_582_26 ?_
  refine b_iload_n dX10_evalAt_187 rfl ?_
  refine b_iald dX10_evalAt_188 ly_600 g2 ?_
  refine b_iconst dX10_evalAt_189 ?_
  refine b_cVv (as := [vI x3, vI x3, vI 1593000, vI (m1 598 x1), vI (m1 599 x1), vI (m1 600 x1), vI 0]) (st := []) dX10_evalAt_190 mf_X10_addValues qs186 lk_X10_751 ly_582 rfl (p_X10_addValues (f := 5) (Nat.le_refl _) _ _ _ _ _ _ _ _ h) (by omega) rfl rfl (Nat.le_of_ble_eq_true rfl) (by decide) rfl (fun _ => rfl) (fun r2 m2 h => ?_) (fun _ h => h)
  refine b_iinc (ls' := [vR 582, vI x1, vI x2, vI x3, vI x4, vI (x5 + (-1))]) dX10_evalAt_193 rfl rfl ?_
  refine b_goto 22 dX10_evalAt_196 (by decide) ?_
  exact hK22 _ _ _ _ _ _ h
theorem pl_X10_evalAt_22 {f : Nat} {Q : Int → MM → Prop} {T : MM → Prop} (hf : 7 ≤ f) : ∀ (n : Nat) (x1 : Int) (x2 : Int) (x3 : Int) (x4 : Int) (x5 : Int) (m : MM), P_X10_evalAt_22 Q n x1 x2 x3 x4 x5 m → B f M_X10_evalAt 22 [vR 582, vI x1, vI x2, vI x3, vI x4, vI x5] [] m Q T := by
  intro n
  induction n with
  | zero => intro x1 x2 x3 x4 x5 m h; exact h.elim
  | succ n ih =>
    intro x1 x2 x3 x4 x5 m h
    have h : (RI x5) ∧ (if x5 < 0 then Q 0 m else (RI (m 582 84)) ∧ (if (m 582 84) = 0 then (0 ≤ x1 ∧ x1 < 12000) ∧ P_X10_multiplyValues x3 x3 x4 (m 598 x1) (m 599 x1) (m 600 x1) m (fun r1 m1 => (RI (m1 582 84)) ∧ (if (m1 582 84) ≤ 0 then P_X10_clear 1593000 882 m1 (fun r2 m2 => (0 ≤ x2 ∧ x2 < 12000) ∧ (RI (m2 599 x2)) ∧ (if (m2 599 x2) = 1 then P_X10_copy 1593000 (1595000 + (2 * x5)) 2 m2 (fun r4 m4 => P_X10_evalAt_125 Q (fun z0 z1 z2 z3 z4 z5 => P_X10_evalAt_22 Q n z0 z1 z2 z3 z4 z5) x1 x2 x3 x4 x5 m4) else P_X10_copy 1593000 (1595000 + (14 * x5)) 14 m2 (fun r3 m3 => P_X10_evalAt_125 Q (fun z0 z1 z2 z3 z4 z5 => P_X10_evalAt_22 Q n z0 z1 z2 z3 z4 z5) x1 x2 x3 x4 x5 m3))) else Q 0 m1)) else Q 0 m)) := h
    refine b_iload dX10_evalAt_22 rfl ?_
    obtain ⟨g1, h⟩ := h
    refine b_if_lt 199 dX10_evalAt_24 g1 (by decide) (fun c1 => ?_) (fun c1 => ?_)
    · have h := ifT c1 h
      exact b_vret dX10_evalAt_199 rfl h
    · have h := ifF c1 h
      refine b_aload_n dX10_evalAt_27 rfl ?_
      refine b_getI dX10_evalAt_28 fk_X10_601 ly_582 ?_
      obtain ⟨g2, h⟩ := h
      refine b_if_ne 199 dX10_evalAt_31 g2 (by decide) (fun c2 => ?_) (fun c2 => ?_)
      · have h := ifF c2 h
        exact b_vret dX10_evalAt_199 rfl h
      · have h := ifT (Decidable.of_not_not c2) h
        refine b_aload_n dX10_evalAt_34 rfl ?_
        refine b_iload_n dX10_evalAt_35 rfl ?_
        refine b_iload_n dX10_evalAt_36 rfl ?_
        refine b_iload dX10_evalAt_37 rfl ?_
        refine b_aload_n dX10_evalAt_39 rfl ?_
        refine b_getR dX10_evalAt_40 fk_X10_130 ly_582 gg_582_24 ?_
        refine b_iload_n dX10_evalAt_43 rfl ?_
        obtain ⟨g3, h⟩ := h
        refine b_iald dX10_evalAt_44 ly_598 g3 ?_
        refine b_aload_n dX10_evalAt_45 rfl ?_
        refine b_getR dX10_evalAt_46 fk_X10_133 ly_582 gg_582_25 ?_
        refine b_iload_n dX10_evalAt_49 rfl ?_
        refine b_iald dX10_evalAt_50 ly_599 g3 ?_
        refine b_aload_n dX10_evalAt_51 rfl ?_
        refine b_getR dX10_evalAt_52 fk_X10_136 ly_582 gg_582_26 ?_
        refine b_iload_n dX10_evalAt_55 rfl ?_
        refine b_iald dX10_evalAt_56 ly_600 g3 ?_
        refine b_cVv (as := [vI x3, vI x3, vI x4, vI (m 598 x1), vI (m 599 x1), vI (m 600 x1)]) (st := []) dX10_evalAt_57 mf_X10_multiplyValues qs170 lk_X10_779 ly_582 rfl (p_X10_multiplyValues (f := 6) (Nat.le_refl _) _ _ _ _ _ _ _ h) (by omega) rfl rfl (Nat.le_of_ble_eq_true rfl) (by decide) rfl (fun _ => rfl) (fun r1 m1 h => ?_) (fun _ h => h)
        refine b_aload_n dX10_evalAt_60 rfl ?_
        refine b_getI dX10_evalAt_61 fk_X10_601 ly_582 ?_
        obtain ⟨g4, h⟩ := h
        refine b_if_le 68 dX10_evalAt_64 g4 (by decide) (fun c3 => ?_) (fun c3 => ?_)
        · have h := ifT c3 h
          refine b_aload_n dX10_evalAt_68 rfl ?_
          refine b_ldcw (1593000) dX10_evalAt_69 q2347 (by decide) ?_
          refine b_sipush dX10_evalAt_72 (by decide) ?_
          refine b_cVv (as := [vI 1593000, vI 882]) (st := []) dX10_evalAt_75 mf_X10_clear qs162 lk_X10_685 ly_582 rfl (p_X10_clear (f := 2) (Nat.le_refl _) _ _ _ h) (by omega) rfl rfl (Nat.le_of_ble_eq_true rfl) (by decide) rfl (fun _ => rfl) (fun r2 m2 h => ?_) (fun _ h => h)
          refine b_aload_n dX10_evalAt_78 rfl ?_
          refine b_getR dX10_evalAt_79 fk_X10_133 ly_582 gg_582_25 ?_
          refine b_iload_n dX10_evalAt_82 rfl ?_
          obtain ⟨g5, h⟩ := h
          refine b_iald dX10_evalAt_83 ly_599 g5 ?_
          refine b_iconst dX10_evalAt_84 ?_
          obtain ⟨g6, h⟩ := h
          refine b_icmp_ne 107 dX10_evalAt_85 g6 (by decide) (by decide) (fun c4 => ?_) (fun c4 => ?_)
          · have h := ifF c4 h
            refine b_aload_n dX10_evalAt_107 rfl ?_
            refine b_ldcw (1593000) dX10_evalAt_108 q2347 (by decide) ?_
            refine b_ldcw (1595000) dX10_evalAt_111 q2508 (by decide) ?_
            refine b_bipush dX10_evalAt_114 (by decide) ?_
            refine b_iload dX10_evalAt_116 rfl ?_
            refine b_imul dX10_evalAt_118 ?_
            refine b_iadd dX10_evalAt_119 ?_
            refine b_bipush dX10_evalAt_120 (by decide) ?_
            refine b_cVv (as := [vI 1593000, vI (1595000 + (14 * x5)), vI 14]) (st := []) dX10_evalAt_122 mf_X10_copy qs164 lk_X10_658 ly_582 rfl (p_X10_copy (f := 1) (Nat.le_refl _) _ _ _ _ h) (by omega) rfl rfl (Nat.le_of_ble_eq_true rfl) (by decide) rfl (fun _ => rfl) (fun r3 m3 h => ?_) (fun _ h => h)
            exact pl_X10_evalAt_125 hf (fun _ _ _ _ _ _ h => ih _ _ _ _ _ _ h) _ _ _ _ _ _ h
          · have h := ifT (Decidable.of_not_not c4) h
            refine b_aload_n dX10_evalAt_88 rfl ?_
            refine b_ldcw (1593000) dX10_evalAt_89 q2347 (by decide) ?_
            refine b_ldcw (1595000) dX10_evalAt_92 q2508 (by decide) ?_
            refine b_iconst dX10_evalAt_95 ?_
            refine b_iload dX10_evalAt_96 rfl ?_
            refine b_imul dX10_evalAt_98 ?_
            refine b_iadd dX10_evalAt_99 ?_
            refine b_iconst dX10_evalAt_100 ?_
            refine b_cVv (as := [vI 1593000, vI (1595000 + (2 * x5)), vI 2]) (st := []) dX10_evalAt_101 mf_X10_copy qs164 lk_X10_658 ly_582 rfl (p_X10_copy (f := 1) (Nat.le_refl _) _ _ _ _ h) (by omega) rfl rfl (Nat.le_of_ble_eq_true rfl) (by decide) rfl (fun _ => rfl) (fun r4 m4 h => ?_) (fun _ h => h)
            refine b_goto 125 dX10_evalAt_104 (by decide) ?_
            exact pl_X10_evalAt_125 hf (fun _ _ _ _ _ _ h => ih _ _ _ _ _ _ h) _ _ _ _ _ _ h
        · have h := ifF c3 h
          exact b_vret dX10_evalAt_67 rfl h
theorem p_X10_evalAt {f : Nat} {Q : Int → MM → Prop} {T : MM → Prop} (hf : 7 ≤ f) (x1 : Int) (x2 : Int) (x3 : Int) (x4 : Int) (m : MM) (h : P_X10_evalAt x1 x2 x3 x4 m Q) : CC f M_X10_evalAt [vR 582, vI x1, vI x2, vI x3, vI x4] m Q T := by
  refine CC.of (plainFor_of_name (by decide)) (Nat.le_of_ble_eq_true rfl) (ls := [vR 582, vI x1, vI x2, vI x3, vI x4, vU]) rfl ?_
  have h : P_X10_copy 1595000 x3 98 m (fun r1 m1 => P_X10_clear x3 882 m1 (fun r2 m2 => ∃ nn, P_X10_evalAt_22 Q nn x1 x2 x3 x4 6 m2)) := h
  refine b_aload_n dX10_evalAt_0 rfl ?_
  refine b_ldcw (1595000) dX10_evalAt_1 q2508 (by decide) ?_
  refine b_iload_n dX10_evalAt_4 rfl ?_
  refine b_bipush dX10_evalAt_5 (by decide) ?_
  refine b_cVv (as := [vI 1595000, vI x3, vI 98]) (st := []) dX10_evalAt_7 mf_X10_copy qs164 lk_X10_658 ly_582 rfl (p_X10_copy (f := 1) (Nat.le_refl _) _ _ _ _ h) (by omega) rfl rfl (Nat.le_of_ble_eq_true rfl) (by decide) rfl (fun _ => rfl) (fun r1 m1 h => ?_) (fun _ h => h)
  refine b_aload_n dX10_evalAt_10 rfl ?_
  refine b_iload_n dX10_evalAt_11 rfl ?_
  refine b_sipush dX10_evalAt_12 (by decide) ?_
  refine b_cVv (as := [vI x3, vI 882]) (st := []) dX10_evalAt_15 mf_X10_clear qs162 lk_X10_685 ly_582 rfl (p_X10_clear (f := 2) (Nat.le_refl _) _ _ _ h) (by omega) rfl rfl (Nat.le_of_ble_eq_true rfl) (by decide) rfl (fun _ => rfl) (fun r2 m2 h => ?_) (fun _ h => h)
  refine b_bipush dX10_evalAt_18 (by decide) ?_
  refine b_istore (ls' := [vR 582, vI x1, vI x2, vI x3, vI x4, vI 6]) dX10_evalAt_20 (Nat.le_of_ble_eq_true rfl) rfl ?_
  obtain ⟨nn, h⟩ := h
  exact pl_X10_evalAt_22 hf nn _ _ _ _ _ _ h
theorem dX10_inverse_0 : decode cX10_inverse 0 = .ok (.lconst 1, 1) := by decide +kernel
theorem dX10_inverse_1 : decode cX10_inverse 1 = .ok (.lstore 4, 2) := by decide +kernel
theorem dX10_inverse_3 : decode cX10_inverse 3 = .ok (.lload_n 0, 1) := by decide +kernel
theorem dX10_inverse_4 : decode cX10_inverse 4 = .ok (.lstore 6, 2) := by decide +kernel
theorem dX10_inverse_6 : decode cX10_inverse 6 = .ok (.lload_n 2, 1) := by decide +kernel
theorem dX10_inverse_7 : decode cX10_inverse 7 = .ok (.ldc2_w 505, 3) := by decide +kernel
theorem dX10_inverse_10 : decode cX10_inverse 10 = .ok (.lsub, 1) := by decide +kernel
theorem dX10_inverse_11 : decode cX10_inverse 11 = .ok (.lstore 8, 2) := by decide +kernel
theorem dX10_inverse_13 : decode cX10_inverse 13 = .ok (.lload 8, 2) := by decide +kernel
theorem dX10_inverse_15 : decode cX10_inverse 15 = .ok (.lconst 0, 1) := by decide +kernel
theorem dX10_inverse_16 : decode cX10_inverse 16 = .ok (.lcmp, 1) := by decide +kernel
theorem dX10_inverse_17 : decode cX10_inverse 17 = .ok (.ifCond .le 39, 3) := by decide +kernel
theorem dX10_inverse_20 : decode cX10_inverse 20 = .ok (.lload 8, 2) := by decide +kernel
theorem dX10_inverse_22 : decode cX10_inverse 22 = .ok (.lconst 1, 1) := by decide +kernel
theorem dX10_inverse_23 : decode cX10_inverse 23 = .ok (.land, 1) := by decide +kernel
theorem dX10_inverse_24 : decode cX10_inverse 24 = .ok (.lconst 1, 1) := by decide +kernel
theorem dX10_inverse_25 : decode cX10_inverse 25 = .ok (.lcmp, 1) := by decide +kernel
theorem dX10_inverse_26 : decode cX10_inverse 26 = .ok (.ifCond .ne 12, 3) := by decide +kernel
theorem dX10_inverse_29 : decode cX10_inverse 29 = .ok (.lload 4, 2) := by decide +kernel
theorem dX10_inverse_31 : decode cX10_inverse 31 = .ok (.lload 6, 2) := by decide +kernel
theorem dX10_inverse_33 : decode cX10_inverse 33 = .ok (.lmul, 1) := by decide +kernel
theorem dX10_inverse_34 : decode cX10_inverse 34 = .ok (.lload_n 2, 1) := by decide +kernel
theorem dX10_inverse_35 : decode cX10_inverse 35 = .ok (.lrem, 1) := by decide +kernel
theorem dX10_inverse_36 : decode cX10_inverse 36 = .ok (.lstore 4, 2) := by decide +kernel
theorem dX10_inverse_38 : decode cX10_inverse 38 = .ok (.lload 6, 2) := by decide +kernel
theorem dX10_inverse_40 : decode cX10_inverse 40 = .ok (.lload 6, 2) := by decide +kernel
theorem dX10_inverse_42 : decode cX10_inverse 42 = .ok (.lmul, 1) := by decide +kernel
theorem dX10_inverse_43 : decode cX10_inverse 43 = .ok (.lload_n 2, 1) := by decide +kernel
theorem dX10_inverse_44 : decode cX10_inverse 44 = .ok (.lrem, 1) := by decide +kernel
theorem dX10_inverse_45 : decode cX10_inverse 45 = .ok (.lstore 6, 2) := by decide +kernel
theorem dX10_inverse_47 : decode cX10_inverse 47 = .ok (.lload 8, 2) := by decide +kernel
theorem dX10_inverse_49 : decode cX10_inverse 49 = .ok (.iconst 1, 1) := by decide +kernel
theorem dX10_inverse_50 : decode cX10_inverse 50 = .ok (.lshr, 1) := by decide +kernel
theorem dX10_inverse_51 : decode cX10_inverse 51 = .ok (.lstore 8, 2) := by decide +kernel
theorem dX10_inverse_53 : decode cX10_inverse 53 = .ok (.goto (-40), 3) := by decide +kernel
theorem dX10_inverse_56 : decode cX10_inverse 56 = .ok (.lload_n 2, 1) := by decide +kernel
theorem dX10_inverse_57 : decode cX10_inverse 57 = .ok (.ldc2_w 505, 3) := by decide +kernel
theorem dX10_inverse_60 : decode cX10_inverse 60 = .ok (.lcmp, 1) := by decide +kernel
theorem dX10_inverse_61 : decode cX10_inverse 61 = .ok (.ifCond .ne 7, 3) := by decide +kernel
theorem dX10_inverse_64 : decode cX10_inverse 64 = .ok (.lload_n 0, 1) := by decide +kernel
theorem dX10_inverse_65 : decode cX10_inverse 65 = .ok (.goto 5, 3) := by decide +kernel
theorem dX10_inverse_68 : decode cX10_inverse 68 = .ok (.lload 4, 2) := by decide +kernel
theorem dX10_inverse_70 : decode cX10_inverse 70 = .ok (.lreturn, 1) := by decide +kernel
/-! AlgebraHouseModel.inverse(JJ)J -/
def P_X10_inverse_38 (Q : Int → MM → Prop) (K13 : Int → Int → Int → Int → Int → MM → Prop) (x0 : Int) (x2 : Int) (x4 : Int) (x6 : Int) (x8 : Int) (m : MM) : Prop := (RL (x6 * x6)) ∧ (RL x2) ∧ (x2 ≠ 0) ∧ K13 x0 x2 x4 (Int.tmod (x6 * x6) x2) (lShr x8 1) m
def P_X10_inverse_56 (Q : Int → MM → Prop) (x0 : Int) (x2 : Int) (x4 : Int) (m : MM) : Prop := (RL x2) ∧ (if x2 = 2 then Q x0 m else Q x4 m)
def P_X10_inverse_13 (Q : Int → MM → Prop) : Nat → Int → Int → Int → Int → Int → MM → Prop
  | 0, _, _, _, _, _, _ => False
  | n + 1, x0, x2, x4, x6, x8, m => (RL x8) ∧ (if x8 ≤ 0 then P_X10_inverse_56 Q x0 x2 x4 m else (RL (lAnd x8 1)) ∧ (if (lAnd x8 1) = 1 then (RL (x4 * x6)) ∧ (RL x2) ∧ (x2 ≠ 0) ∧ P_X10_inverse_38 Q (fun z0 z1 z2 z3 z4 z5 => P_X10_inverse_13 Q n z0 z1 z2 z3 z4 z5) x0 x2 (Int.tmod (x4 * x6) x2) x6 x8 m else P_X10_inverse_38 Q (fun z0 z1 z2 z3 z4 z5 => P_X10_inverse_13 Q n z0 z1 z2 z3 z4 z5) x0 x2 x4 x6 x8 m))
def P_X10_inverse (x0 : Int) (x2 : Int) (m : MM) (Q : Int → MM → Prop) : Prop := ∃ nn, P_X10_inverse_13 Q nn x0 x2 1 x0 (x2 - 2) m
theorem pl_X10_inverse_38 {f : Nat} {Q : Int → MM → Prop} {T : MM → Prop} (hf : 1 ≤ f) {K13 : Int → Int → Int → Int → Int → MM → Prop} (hK13 : ∀ (x0 : Int) (x2 : Int) (x4 : Int) (x6 : Int) (x8 : Int) (m : MM), K13 x0 x2 x4 x6 x8 m → B f M_X10_inverse 13 [vL x0, vU, vL x2, vU, vL x4, vU, vL x6, vU, vL x8, vU] [] m Q T) : ∀ (x0 : Int) (x2 : Int) (x4 : Int) (x6 : Int) (x8 : Int) (m : MM), P_X10_inverse_38 Q K13 x0 x2 x4 x6 x8 m → B f M_X10_inverse 38 [vL x0, vU, vL x2, vU, vL x4, vU, vL x6, vU, vL x8, vU] [] m Q T := by
  intro x0 x2 x4 x6 x8 m h
  have h : (RL (x6 * x6)) ∧ (RL x2) ∧ (x2 ≠ 0) ∧ K13 x0 x2 x4 (Int.tmod (x6 * x6) x2) (lShr x8 1) m := h
  refine b_lload dX10_inverse_38 rfl ?_
  refine b_lload dX10_inverse_40 rfl ?_
  refine b_lmul dX10_inverse_42 ?_
  refine b_lload_n dX10_inverse_43 rfl ?_
  obtain ⟨g1, h⟩ := h
  obtain ⟨g2, h⟩ := h
  obtain ⟨g3, h⟩ := h
  refine b_lrem dX10_inverse_44 g1 g2 g3 ?_
  refine b_lstore (ls' := [vL x0, vU, vL x2, vU, vL x4, vU, vL (Int.tmod (x6 * x6) x2), vU, vL x8, vU]) dX10_inverse_45 (Nat.le_of_ble_eq_true rfl) rfl ?_
  refine b_lload dX10_inverse_47 rfl ?_
  refine b_iconst dX10_inverse_49 ?_
  refine b_lshr dX10_inverse_50 ?_
  refine b_lstore (ls' := [vL x0, vU, vL x2, vU, vL x4, vU, vL (Int.tmod (x6 * x6) x2), vU, vL (lShr x8 1), vU]) dX10_inverse_51 (Nat.le_of_ble_eq_true rfl) rfl ?_
  refine b_goto 13 dX10_inverse_53 (by decide) ?_
  exact hK13 _ _ _ _ _ _ h
theorem pl_X10_inverse_56 {f : Nat} {Q : Int → MM → Prop} {T : MM → Prop} (hf : 1 ≤ f) : ∀ (x0 : Int) (x2 : Int) (x4 : Int) (m : MM), P_X10_inverse_56 Q x0 x2 x4 m → B f M_X10_inverse 56 [vL x0, vU, vL x2, vU, vL x4, vU, vU, vU, vU, vU] [] m Q T := by
  intro x0 x2 x4 m h
  have h : (RL x2) ∧ (if x2 = 2 then Q x0 m else Q x4 m) := h
  refine b_lload_n dX10_inverse_56 rfl ?_
  refine b_ldc2 (2) dX10_inverse_57 q2167 (by decide) ?_
  obtain ⟨g1, h⟩ := h
  refine b_lc_ne 68 dX10_inverse_60 dX10_inverse_61 g1 (by decide) (by decide) (fun c1 => ?_) (fun c1 => ?_)
  · have h := ifF c1 h
    refine b_lload dX10_inverse_68 rfl ?_
    exact b_lret dX10_inverse_70 rfl h
  · have h := ifT (Decidable.of_not_not c1) h
    refine b_lload_n dX10_inverse_64 rfl ?_
    refine b_goto 70 dX10_inverse_65 (by decide) ?_
    exact b_lret dX10_inverse_70 rfl h
theorem pl_X10_inverse_13 {f : Nat} {Q : Int → MM → Prop} {T : MM → Prop} (hf : 1 ≤ f) : ∀ (n : Nat) (x0 : Int) (x2 : Int) (x4 : Int) (x6 : Int) (x8 : Int) (m : MM), P_X10_inverse_13 Q n x0 x2 x4 x6 x8 m → B f M_X10_inverse 13 [vL x0, vU, vL x2, vU, vL x4, vU, vL x6, vU, vL x8, vU] [] m Q T := by
  intro n
  induction n with
  | zero => intro x0 x2 x4 x6 x8 m h; exact h.elim
  | succ n ih =>
    intro x0 x2 x4 x6 x8 m h
    have h : (RL x8) ∧ (if x8 ≤ 0 then P_X10_inverse_56 Q x0 x2 x4 m else (RL (lAnd x8 1)) ∧ (if (lAnd x8 1) = 1 then (RL (x4 * x6)) ∧ (RL x2) ∧ (x2 ≠ 0) ∧ P_X10_inverse_38 Q (fun z0 z1 z2 z3 z4 z5 => P_X10_inverse_13 Q n z0 z1 z2 z3 z4 z5) x0 x2 (Int.tmod (x4 * x6) x2) x6 x8 m else P_X10_inverse_38 Q (fun z0 z1 z2 z3 z4 z5 => P_X10_inverse_13 Q n z0 z1 z2 z3 z4 z5) x0 x2 x4 x6 x8 m)) := h
    refine b_lload dX10_inverse_13 rfl ?_
    refine b_lconst 0 dX10_inverse_15 (by decide) ?_
    obtain ⟨g1, h⟩ := h
    refine b_lc_le 56 dX10_inverse_16 dX10_inverse_17 g1 (by decide) (by decide) (fun c1 => ?_) (fun c1 => ?_)
    · have h := ifT c1 h
      refine b_fgt [true, false, true, false, true, false, false, false, false, false] (ls' := [vL x0, vU, vL x2, vU, vL x4, vU, vU, vU, vU, vU]) rfl rfl ?_
      exact pl_X10_inverse_56 hf _ _ _ _ h
    · have h := ifF c1 h
      refine b_lload dX10_inverse_20 rfl ?_
      refine b_lconst 1 dX10_inverse_22 (by decide) ?_
      refine b_land dX10_inverse_23 ?_
      refine b_lconst 1 dX10_inverse_24 (by decide) ?_
      obtain ⟨g2, h⟩ := h
      refine b_lc_ne 38 dX10_inverse_25 dX10_inverse_26 g2 (by decide) (by decide) (fun c2 => ?_) (fun c2 => ?_)
      · have h := ifF c2 h
        exact pl_X10_inverse_38 hf (fun _ _ _ _ _ _ h => ih _ _ _ _ _ _ h) _ _ _ _ _ _ h
      · have h := ifT (Decidable.of_not_not c2) h
        refine b_lload dX10_inverse_29 rfl ?_
        refine b_lload dX10_inverse_31 rfl ?_
        refine b_lmul dX10_inverse_33 ?_
        refine b_lload_n dX10_inverse_34 rfl ?_
        obtain ⟨g3, h⟩ := h
        obtain ⟨g4, h⟩ := h
        obtain ⟨g5, h⟩ := h
        refine b_lrem dX10_inverse_35 g3 g4 g5 ?_
        refine b_lstore (ls' := [vL x0, vU, vL x2, vU, vL (Int.tmod (x4 * x6) x2), vU, vL x6, vU, vL x8, vU]) dX10_inverse_36 (Nat.le_of_ble_eq_true rfl) rfl ?_
        exact pl_X10_inverse_38 hf (fun _ _ _ _ _ _ h => ih _ _ _ _ _ _ h) _ _ _ _ _ _ h
theorem p_X10_inverse {f : Nat} {Q : Int → MM → Prop} {T : MM → Prop} (hf : 1 ≤ f) (x0 : Int) (x2 : Int) (m : MM) (h : P_X10_inverse x0 x2 m Q) : CC f M_X10_inverse [vL x0, vL x2] m Q T := by
  refine CC.of (plainFor_of_name (by decide)) (Nat.le_of_ble_eq_true rfl) (ls := [vL x0, vU, vL x2, vU, vU, vU, vU, vU, vU, vU]) rfl ?_
  have h : ∃ nn, P_X10_inverse_13 Q nn x0 x2 1 x0 (x2 - 2) m := h
  refine b_lconst 1 dX10_inverse_0 (by decide) ?_
  refine b_lstore (ls' := [vL x0, vU, vL x2, vU, vL 1, vU, vU, vU, vU, vU]) dX10_inverse_1 (Nat.le_of_ble_eq_true rfl) rfl ?_
  refine b_lload_n dX10_inverse_3 rfl ?_
  refine b_lstore (ls' := [vL x0, vU, vL x2, vU, vL 1, vU, vL x0, vU, vU, vU]) dX10_inverse_4 (Nat.le_of_ble_eq_true rfl) rfl ?_
  refine b_lload_n dX10_inverse_6 rfl ?_
  refine b_ldc2 (2) dX10_inverse_7 q2167 (by decide) ?_
  refine b_lsub dX10_inverse_10 ?_
  refine b_lstore (ls' := [vL x0, vU, vL x2, vU, vL 1, vU, vL x0, vU, vL (x2 - 2), vU]) dX10_inverse_11 (Nat.le_of_ble_eq_true rfl) rfl ?_
  obtain ⟨nn, h⟩ := h
  exact pl_X10_inverse_13 hf nn _ _ _ _ _ _ h
theorem dX10_divideNumbers_0 : decode cX10_divideNumbers 0 = .ok (.aload_n 0, 1) := by decide +kernel
theorem dX10_divideNumbers_1 : decode cX10_divideNumbers 1 = .ok (.getfield 250, 3) := by decide +kernel
theorem dX10_divideNumbers_4 : decode cX10_divideNumbers 4 = .ok (.iload_n 3, 1) := by decide +kernel
theorem dX10_divideNumbers_5 : decode cX10_divideNumbers 5 = .ok (.laload, 1) := by decide +kernel
theorem dX10_divideNumbers_6 : decode cX10_divideNumbers 6 = .ok (.lconst 0, 1) := by decide +kernel
theorem dX10_divideNumbers_7 : decode cX10_divideNumbers 7 = .ok (.lcmp, 1) := by decide +kernel
theorem dX10_divideNumbers_8 : decode cX10_divideNumbers 8 = .ok (.ifCond .ne 16, 3) := by decide +kernel
theorem dX10_divideNumbers_11 : decode cX10_divideNumbers 11 = .ok (.aload_n 0, 1) := by decide +kernel
theorem dX10_divideNumbers_12 : decode cX10_divideNumbers 12 = .ok (.getfield 601, 3) := by decide +kernel
theorem dX10_divideNumbers_15 : decode cX10_divideNumbers 15 = .ok (.ifCond .ne 8, 3) := by decide +kernel
theorem dX10_divideNumbers_18 : decode cX10_divideNumbers 18 = .ok (.aload_n 0, 1) := by decide +kernel
theorem dX10_divideNumbers_19 : decode cX10_divideNumbers 19 = .ok (.iconst 2, 1) := by decide +kernel
theorem dX10_divideNumbers_20 : decode cX10_divideNumbers 20 = .ok (.putfield 601, 3) := by decide +kernel
theorem dX10_divideNumbers_23 : decode cX10_divideNumbers 23 = .ok (.return_, 1) := by decide +kernel
theorem dX10_divideNumbers_24 : decode cX10_divideNumbers 24 = .ok (.iload_n 1, 1) := by decide +kernel
theorem dX10_divideNumbers_25 : decode cX10_divideNumbers 25 = .ok (.iconst 1, 1) := by decide +kernel
theorem dX10_divideNumbers_26 : decode cX10_divideNumbers 26 = .ok (.if_icmp .ne 41, 3) := by decide +kernel
theorem dX10_divideNumbers_29 : decode cX10_divideNumbers 29 = .ok (.aload_n 0, 1) := by decide +kernel
theorem dX10_divideNumbers_30 : decode cX10_divideNumbers 30 = .ok (.iload_n 1, 1) := by decide +kernel
theorem dX10_divideNumbers_31 : decode cX10_divideNumbers 31 = .ok (.aload_n 0, 1) := by decide +kernel
theorem dX10_divideNumbers_32 : decode cX10_divideNumbers 32 = .ok (.getfield 250, 3) := by decide +kernel
theorem dX10_divideNumbers_35 : decode cX10_divideNumbers 35 = .ok (.iload_n 2, 1) := by decide +kernel
theorem dX10_divideNumbers_36 : decode cX10_divideNumbers 36 = .ok (.laload, 1) := by decide +kernel
theorem dX10_divideNumbers_37 : decode cX10_divideNumbers 37 = .ok (.aload_n 0, 1) := by decide +kernel
theorem dX10_divideNumbers_38 : decode cX10_divideNumbers 38 = .ok (.getfield 250, 3) := by decide +kernel
theorem dX10_divideNumbers_41 : decode cX10_divideNumbers 41 = .ok (.iload_n 3, 1) := by decide +kernel
theorem dX10_divideNumbers_42 : decode cX10_divideNumbers 42 = .ok (.iconst 1, 1) := by decide +kernel
theorem dX10_divideNumbers_43 : decode cX10_divideNumbers 43 = .ok (.iadd, 1) := by decide +kernel
theorem dX10_divideNumbers_44 : decode cX10_divideNumbers 44 = .ok (.laload, 1) := by decide +kernel
theorem dX10_divideNumbers_45 : decode cX10_divideNumbers 45 = .ok (.lmul, 1) := by decide +kernel
theorem dX10_divideNumbers_46 : decode cX10_divideNumbers 46 = .ok (.aload_n 0, 1) := by decide +kernel
theorem dX10_divideNumbers_47 : decode cX10_divideNumbers 47 = .ok (.getfield 250, 3) := by decide +kernel
theorem dX10_divideNumbers_50 : decode cX10_divideNumbers 50 = .ok (.iload_n 2, 1) := by decide +kernel
theorem dX10_divideNumbers_51 : decode cX10_divideNumbers 51 = .ok (.iconst 1, 1) := by decide +kernel
theorem dX10_divideNumbers_52 : decode cX10_divideNumbers 52 = .ok (.iadd, 1) := by decide +kernel
theorem dX10_divideNumbers_53 : decode cX10_divideNumbers 53 = .ok (.laload, 1) := by decide +kernel
theorem dX10_divideNumbers_54 : decode cX10_divideNumbers 54 = .ok (.aload_n 0, 1) := by decide +kernel
theorem dX10_divideNumbers_55 : decode cX10_divideNumbers 55 = .ok (.getfield 250, 3) := by decide +kernel
theorem dX10_divideNumbers_58 : decode cX10_divideNumbers 58 = .ok (.iload_n 3, 1) := by decide +kernel
theorem dX10_divideNumbers_59 : decode cX10_divideNumbers 59 = .ok (.laload, 1) := by decide +kernel
theorem dX10_divideNumbers_60 : decode cX10_divideNumbers 60 = .ok (.lmul, 1) := by decide +kernel
theorem dX10_divideNumbers_61 : decode cX10_divideNumbers 61 = .ok (.invokevirtual 626, 3) := by decide +kernel
theorem dX10_divideNumbers_64 : decode cX10_divideNumbers 64 = .ok (.goto 30, 3) := by decide +kernel
theorem dX10_divideNumbers_67 : decode cX10_divideNumbers 67 = .ok (.aload_n 0, 1) := by decide +kernel
theorem dX10_divideNumbers_68 : decode cX10_divideNumbers 68 = .ok (.iload_n 1, 1) := by decide +kernel
theorem dX10_divideNumbers_69 : decode cX10_divideNumbers 69 = .ok (.aload_n 0, 1) := by decide +kernel
theorem dX10_divideNumbers_70 : decode cX10_divideNumbers 70 = .ok (.getfield 250, 3) := by decide +kernel
theorem dX10_divideNumbers_73 : decode cX10_divideNumbers 73 = .ok (.iload_n 2, 1) := by decide +kernel
theorem dX10_divideNumbers_74 : decode cX10_divideNumbers 74 = .ok (.laload, 1) := by decide +kernel
theorem dX10_divideNumbers_75 : decode cX10_divideNumbers 75 = .ok (.aload_n 0, 1) := by decide +kernel
theorem dX10_divideNumbers_76 : decode cX10_divideNumbers 76 = .ok (.getfield 250, 3) := by decide +kernel
theorem dX10_divideNumbers_79 : decode cX10_divideNumbers 79 = .ok (.iload_n 3, 1) := by decide +kernel
theorem dX10_divideNumbers_80 : decode cX10_divideNumbers 80 = .ok (.laload, 1) := by decide +kernel
theorem dX10_divideNumbers_81 : decode cX10_divideNumbers 81 = .ok (.aload_n 0, 1) := by decide +kernel
theorem dX10_divideNumbers_82 : decode cX10_divideNumbers 82 = .ok (.iload_n 1, 1) := by decide +kernel
theorem dX10_divideNumbers_83 : decode cX10_divideNumbers 83 = .ok (.invokevirtual 611, 3) := by decide +kernel
theorem dX10_divideNumbers_86 : decode cX10_divideNumbers 86 = .ok (.invokestatic 630, 3) := by decide +kernel
theorem dX10_divideNumbers_89 : decode cX10_divideNumbers 89 = .ok (.lmul, 1) := by decide +kernel
theorem dX10_divideNumbers_90 : decode cX10_divideNumbers 90 = .ok (.lconst 1, 1) := by decide +kernel
theorem dX10_divideNumbers_91 : decode cX10_divideNumbers 91 = .ok (.invokevirtual 626, 3) := by decide +kernel
theorem dX10_divideNumbers_94 : decode cX10_divideNumbers 94 = .ok (.return_, 1) := by decide +kernel
/-! AlgebraHouseModel.divideNumbers(III)V -/
def P_X10_divideNumbers (x1 : Int) (x2 : Int) (x3 : Int) (m : MM) (Q : Int → MM → Prop) : Prop := (0 ≤ x3 ∧ x3 < 1600000) ∧ (RL (m 635 x3)) ∧ (if (m 635 x3) = 0 then (RI (m 582 84)) ∧ (if (m 582 84) = 0 then ∀ m5 : MM, m5 = up m 582 84 2 → Q 0 m5 else Q 0 m) else (RI x1) ∧ (if x1 = 1 then (0 ≤ x2 ∧ x2 < 1600000) ∧ (0 ≤ (x3 + 1) ∧ (x3 + 1) < 1600000) ∧ (0 ≤ (x2 + 1) ∧ (x2 + 1) < 1600000) ∧ P_X10_number x1 ((m 635 x2) * (m 635 (x3 + 1))) ((m 635 (x2 + 1)) * (m 635 x3)) m (fun r4 m4 => Q 0 m4) else (0 ≤ x2 ∧ x2 < 1600000) ∧ P_X10_modulo x1 m (fun r1 m1 => P_X10_inverse (m 635 x3) r1 m1 (fun r2 m2 => P_X10_number x1 ((m 635 x2) * r2) 1 m2 (fun r3 m3 => Q 0 m3)))))
theorem p_X10_divideNumbers {f : Nat} {Q : Int → MM → Prop} {T : MM → Prop} (hf : 3 ≤ f) (x1 : Int) (x2 : Int) (x3 : Int) (m : MM) (h : P_X10_divideNumbers x1 x2 x3 m Q) : CC f M_X10_divideNumbers [vR 582, vI x1, vI x2, vI x3] m Q T := by
  refine CC.of (plainFor_of_name (by decide)) (Nat.le_of_ble_eq_true rfl) (ls := [vR 582, vI x1, vI x2, vI x3]) rfl ?_
  have h : (0 ≤ x3 ∧ x3 < 1600000) ∧ (RL (m 635 x3)) ∧ (if (m 635 x3) = 0 then (RI (m 582 84)) ∧ (if (m 582 84) = 0 then ∀ m5 : MM, m5 = up m 582 84 2 → Q 0 m5 else Q 0 m) else (RI x1) ∧ (if x1 = 1 then (0 ≤ x2 ∧ x2 < 1600000) ∧ (0 ≤ (x3 + 1) ∧ (x3 + 1) < 1600000) ∧ (0 ≤ (x2 + 1) ∧ (x2 + 1) < 1600000) ∧ P_X10_number x1 ((m 635 x2) * (m 635 (x3 + 1))) ((m 635 (x2 + 1)) * (m 635 x3)) m (fun r4 m4 => Q 0 m4) else (0 ≤ x2 ∧ x2 < 1600000) ∧ P_X10_modulo x1 m (fun r1 m1 => P_X10_inverse (m 635 x3) r1 m1 (fun r2 m2 => P_X10_number x1 ((m 635 x2) * r2) 1 m2 (fun r3 m3 => Q 0 m3))))) := h
  refine b_aload_n dX10_divideNumbers_0 rfl ?_
  refine b_getR dX10_divideNumbers_1 fk_X10_250 ly_582 gg_582_85 ?_
  refine b_iload_n dX10_divideNumbers_4 rfl ?_
  obtain ⟨g1, h⟩ := h
  refine b_lald dX10_divideNumbers_5 ly_635 g1 ?_
  refine b_lconst 0 dX10_divideNumbers_6 (by decide) ?_
  obtain ⟨g2, h⟩ := h
  refine b_lc_ne 24 dX10_divideNumbers_7 dX10_divideNumbers_8 g2 (by decide) (by decide) (fun c1 => ?_) (fun c1 => ?_)
  · have h := ifF c1 h
    refine b_iload_n dX10_divideNumbers_24 rfl ?_
    refine b_iconst dX10_divideNumbers_25 ?_
    obtain ⟨g3, h⟩ := h
    refine b_icmp_ne 67 dX10_divideNumbers_26 g3 (by decide) (by decide) (fun c2 => ?_) (fun c2 => ?_)
    · have h := ifF c2 h
      refine b_aload_n dX10_divideNumbers_67 rfl ?_
      refine b_iload_n dX10_divideNumbers_68 rfl ?_
      refine b_aload_n dX10_divideNumbers_69 rfl ?_
      refine b_getR dX10_divideNumbers_70 fk_X10_250 ly_582 gg_582_85 ?_
      refine b_iload_n dX10_divideNumbers_73 rfl ?_
      obtain ⟨g4, h⟩ := h
      refine b_lald dX10_divideNumbers_74 ly_635 g4 ?_
      refine b_aload_n dX10_divideNumbers_75 rfl ?_
      refine b_getR dX10_divideNumbers_76 fk_X10_250 ly_582 gg_582_85 ?_
      refine b_iload_n dX10_divideNumbers_79 rfl ?_
      refine b_lald dX10_divideNumbers_80 ly_635 g1 ?_
      refine b_aload_n dX10_divideNumbers_81 rfl ?_
      refine b_iload_n dX10_divideNumbers_82 rfl ?_
      refine b_cVl (as := [vI x1]) (st := [vL (m 635 x3), vL (m 635 x2), vI x1, vR 582]) dX10_divideNumbers_83 mf_X10_modulo qs174 lk_X10_611 ly_582 rfl (p_X10_modulo (f := 1) (Nat.le_refl _) _ _ h) (by omega) rfl rfl (Nat.le_of_ble_eq_true rfl) (by decide) rfl (fun _ => rfl) (fun r1 m1 h => ?_) (fun _ h => h)
      refine b_cSl (as := [vL (m 635 x3), vL r1]) (st := [vL (m 635 x2), vI x1, vR 582]) dX10_divideNumbers_86 mf_X10_inverse lk_X10_630 (p_X10_inverse (f := 1) (Nat.le_refl _) _ _ _ h) (by omega) rfl rfl (Nat.le_of_ble_eq_true rfl) (by decide) rfl (fun _ => rfl) (fun r2 m2 h => ?_) (fun _ h => h)
      refine b_lmul dX10_divideNumbers_89 ?_
      refine b_lconst 1 dX10_divideNumbers_90 (by decide) ?_
      refine b_cVv (as := [vI x1, vL ((m 635 x2) * r2), vL 1]) (st := []) dX10_divideNumbers_91 mf_X10_number qs173 lk_X10_626 ly_582 rfl (p_X10_number (f := 2) (Nat.le_refl _) _ _ _ _ h) (by omega) rfl rfl (Nat.le_of_ble_eq_true rfl) (by decide) rfl (fun _ => rfl) (fun r3 m3 h => ?_) (fun _ h => h)
      exact b_vret dX10_divideNumbers_94 rfl h
    · have h := ifT (Decidable.of_not_not c2) h
      refine b_aload_n dX10_divideNumbers_29 rfl ?_
      refine b_iload_n dX10_divideNumbers_30 rfl ?_
      refine b_aload_n dX10_divideNumbers_31 rfl ?_
      refine b_getR dX10_divideNumbers_32 fk_X10_250 ly_582 gg_582_85 ?_
      refine b_iload_n dX10_divideNumbers_35 rfl ?_
      obtain ⟨g5, h⟩ := h
      refine b_lald dX10_divideNumbers_36 ly_635 g5 ?_
      refine b_aload_n dX10_divideNumbers_37 rfl ?_
      refine b_getR dX10_divideNumbers_38 fk_X10_250 ly_582 gg_582_85 ?_
      refine b_iload_n dX10_divideNumbers_41 rfl ?_
      refine b_iconst dX10_divideNumbers_42 ?_
      refine b_iadd dX10_divideNumbers_43 ?_
      obtain ⟨g6, h⟩ := h
      refine b_lald dX10_divideNumbers_44 ly_635 g6 ?_
      refine b_lmul dX10_divideNumbers_45 ?_
      refine b_aload_n dX10_divideNumbers_46 rfl ?_
      refine b_getR dX10_divideNumbers_47 fk_X10_250 ly_582 gg_582_85 ?_
      refine b_iload_n dX10_divideNumbers_50 rfl ?_
      refine b_iconst dX10_divideNumbers_51 ?_
      refine b_iadd dX10_divideNumbers_52 ?_
      obtain ⟨g7, h⟩ := h
      refine b_lald dX10_divideNumbers_53 ly_635 g7 ?_
      refine b_aload_n dX10_divideNumbers_54 rfl ?_
      refine b_getR dX10_divideNumbers_55 fk_X10_250 ly_582 gg_582_85 ?_
      refine b_iload_n dX10_divideNumbers_58 rfl ?_
      refine b_lald dX10_divideNumbers_59 ly_635 g1 ?_
      refine b_lmul dX10_divideNumbers_60 ?_
      refine b_cVv (as := [vI x1, vL ((m 635 x2) * (m 635 (x3 + 1))), vL ((m 635 (x2 + 1)) * (m 635 x3))]) (st := []) dX10_divideNumbers_61 mf_X10_number qs173 lk_X10_626 ly_582 rfl (p_X10_number (f := 2) (Nat.le_refl _) _ _ _ _ h) (by omega) rfl rfl (Nat.le_of_ble_eq_true rfl) (by decide) rfl (fun _ => rfl) (fun r4 m4 h => ?_) (fun _ h => h)
      refine b_goto 94 dX10_divideNumbers_64 (by decide) ?_
      exact b_vret dX10_divideNumbers_94 rfl h
  · have h := ifT (Decidable.of_not_not c1) h
    refine b_aload_n dX10_divideNumbers_11 rfl ?_
    refine b_getI dX10_divideNumbers_12 fk_X10_601 ly_582 ?_
    obtain ⟨g8, h⟩ := h
    refine b_if_ne 23 dX10_divideNumbers_15 g8 (by decide) (fun c3 => ?_) (fun c3 => ?_)
    · have h := ifF c3 h
      exact b_vret dX10_divideNumbers_23 rfl h
    · have h := ifT (Decidable.of_not_not c3) h
      refine b_aload_n dX10_divideNumbers_18 rfl ?_
      refine b_iconst dX10_divideNumbers_19 ?_
      refine b_putI dX10_divideNumbers_20 fk_X10_601 ly_582 (fun m5 em5 => ?_)
      have h := h m5 em5
      exact b_vret dX10_divideNumbers_23 rfl h
theorem dX10_divide_0 : decode cX10_divide 0 = .ok (.aload_n 0, 1) := by decide +kernel
theorem dX10_divide_1 : decode cX10_divide 1 = .ok (.ldc_w 703, 3) := by decide +kernel
theorem dX10_divide_4 : decode cX10_divide 4 = .ok (.sipush 882, 3) := by decide +kernel
theorem dX10_divide_7 : decode cX10_divide 7 = .ok (.invokevirtual 685, 3) := by decide +kernel
theorem dX10_divide_10 : decode cX10_divide 10 = .ok (.aload_n 0, 1) := by decide +kernel
theorem dX10_divide_11 : decode cX10_divide 11 = .ok (.ldc_w 750, 3) := by decide +kernel
theorem dX10_divide_14 : decode cX10_divide 14 = .ok (.iload_n 1, 1) := by decide +kernel
theorem dX10_divide_15 : decode cX10_divide 15 = .ok (.sipush 882, 3) := by decide +kernel
theorem dX10_divide_18 : decode cX10_divide 18 = .ok (.invokevirtual 658, 3) := by decide +kernel
theorem dX10_divide_21 : decode cX10_divide 21 = .ok (.aload_n 0, 1) := by decide +kernel
theorem dX10_divide_22 : decode cX10_divide 22 = .ok (.iload_n 2, 1) := by decide +kernel
theorem dX10_divide_23 : decode cX10_divide 23 = .ok (.bipush 14, 2) := by decide +kernel
theorem dX10_divide_25 : decode cX10_divide 25 = .ok (.invokevirtual 671, 3) := by decide +kernel
theorem dX10_divide_28 : decode cX10_divide 28 = .ok (.ifCond .eq 9, 3) := by decide +kernel
theorem dX10_divide_31 : decode cX10_divide 31 = .ok (.aload_n 0, 1) := by decide +kernel
theorem dX10_divide_32 : decode cX10_divide 32 = .ok (.iconst 2, 1) := by decide +kernel
theorem dX10_divide_33 : decode cX10_divide 33 = .ok (.putfield 601, 3) := by decide +kernel
theorem dX10_divide_36 : decode cX10_divide 36 = .ok (.return_, 1) := by decide +kernel
theorem dX10_divide_37 : decode cX10_divide 37 = .ok (.iload 4, 2) := by decide +kernel
theorem dX10_divide_39 : decode cX10_divide 39 = .ok (.ifCond .ne 76, 3) := by decide +kernel
theorem dX10_divide_42 : decode cX10_divide 42 = .ok (.aload_n 0, 1) := by decide +kernel
theorem dX10_divide_43 : decode cX10_divide 43 = .ok (.getfield 250, 3) := by decide +kernel
theorem dX10_divide_46 : decode cX10_divide 46 = .ok (.iload_n 1, 1) := by decide +kernel
theorem dX10_divide_47 : decode cX10_divide 47 = .ok (.laload, 1) := by decide +kernel
theorem dX10_divide_48 : decode cX10_divide 48 = .ok (.lstore 5, 2) := by decide +kernel
theorem dX10_divide_50 : decode cX10_divide 50 = .ok (.aload_n 0, 1) := by decide +kernel
theorem dX10_divide_51 : decode cX10_divide 51 = .ok (.getfield 250, 3) := by decide +kernel
theorem dX10_divide_54 : decode cX10_divide 54 = .ok (.iload_n 2, 1) := by decide +kernel
theorem dX10_divide_55 : decode cX10_divide 55 = .ok (.laload, 1) := by decide +kernel
theorem dX10_divide_56 : decode cX10_divide 56 = .ok (.lstore 7, 2) := by decide +kernel
theorem dX10_divide_58 : decode cX10_divide 58 = .ok (.lload 5, 2) := by decide +kernel
theorem dX10_divide_60 : decode cX10_divide 60 = .ok (.lload 7, 2) := by decide +kernel
theorem dX10_divide_62 : decode cX10_divide 62 = .ok (.lconst 0, 1) := by decide +kernel
theorem dX10_divide_63 : decode cX10_divide 63 = .ok (.lcmp, 1) := by decide +kernel
theorem dX10_divide_64 : decode cX10_divide 64 = .ok (.ifCond .ge 9, 3) := by decide +kernel
theorem dX10_divide_67 : decode cX10_divide 67 = .ok (.lload 7, 2) := by decide +kernel
theorem dX10_divide_69 : decode cX10_divide 69 = .ok (.lneg, 1) := by decide +kernel
theorem dX10_divide_70 : decode cX10_divide 70 = .ok (.goto 5, 3) := by decide +kernel
theorem dX10_divide_73 : decode cX10_divide 73 = .ok (.lload 7, 2) := by decide +kernel
theorem dX10_divide_75 : decode cX10_divide 75 = .ok (.invokestatic 615, 3) := by decide +kernel
theorem dX10_divide_78 : decode cX10_divide 78 = .ok (.lstore 9, 2) := by decide +kernel
theorem dX10_divide_80 : decode cX10_divide 80 = .ok (.aload_n 0, 1) := by decide +kernel
theorem dX10_divide_81 : decode cX10_divide 81 = .ok (.iconst 0, 1) := by decide +kernel
theorem dX10_divide_82 : decode cX10_divide 82 = .ok (.lload 5, 2) := by decide +kernel
theorem dX10_divide_84 : decode cX10_divide 84 = .ok (.lload 9, 2) := by decide +kernel
theorem dX10_divide_86 : decode cX10_divide 86 = .ok (.lsub, 1) := by decide +kernel
theorem dX10_divide_87 : decode cX10_divide 87 = .ok (.lload 7, 2) := by decide +kernel
theorem dX10_divide_89 : decode cX10_divide 89 = .ok (.ldiv, 1) := by decide +kernel
theorem dX10_divide_90 : decode cX10_divide 90 = .ok (.lconst 1, 1) := by decide +kernel
theorem dX10_divide_91 : decode cX10_divide 91 = .ok (.invokevirtual 626, 3) := by decide +kernel
theorem dX10_divide_94 : decode cX10_divide 94 = .ok (.aload_n 0, 1) := by decide +kernel
theorem dX10_divide_95 : decode cX10_divide 95 = .ok (.ldc_w 703, 3) := by decide +kernel
theorem dX10_divide_98 : decode cX10_divide 98 = .ok (.aload_n 0, 1) := by decide +kernel
theorem dX10_divide_99 : decode cX10_divide 99 = .ok (.getfield 604, 3) := by decide +kernel
theorem dX10_divide_102 : decode cX10_divide 102 = .ok (.invokevirtual 633, 3) := by decide +kernel
theorem dX10_divide_105 : decode cX10_divide 105 = .ok (.aload_n 0, 1) := by decide +kernel
theorem dX10_divide_106 : decode cX10_divide 106 = .ok (.ldc_w 750, 3) := by decide +kernel
theorem dX10_divide_109 : decode cX10_divide 109 = .ok (.lload 9, 2) := by decide +kernel
theorem dX10_divide_111 : decode cX10_divide 111 = .ok (.invokevirtual 633, 3) := by decide +kernel
theorem dX10_divide_114 : decode cX10_divide 114 = .ok (.return_, 1) := by decide +kernel
theorem dX10_divide_115 : decode cX10_divide 115 = .ok (.aload_n 0, 1) := by decide +kernel
theorem dX10_divide_116 : decode cX10_divide 116 = .ok (.iload_n 2, 1) := by decide +kernel
theorem dX10_divide_117 : decode cX10_divide 117 = .ok (.invokevirtual 799, 3) := by decide +kernel
theorem dX10_divide_120 : decode cX10_divide 120 = .ok (.istore 5, 2) := by decide +kernel
theorem dX10_divide_122 : decode cX10_divide 122 = .ok (.aload_n 0, 1) := by decide +kernel
theorem dX10_divide_123 : decode cX10_divide 123 = .ok (.ldc_w 750, 3) := by decide +kernel
theorem dX10_divide_126 : decode cX10_divide 126 = .ok (.invokevirtual 799, 3) := by decide +kernel
theorem dX10_divide_129 : decode cX10_divide 129 = .ok (.istore 6, 2) := by decide +kernel
theorem dX10_divide_131 : decode cX10_divide 131 = .ok (.iload 6, 2) := by decide +kernel
theorem dX10_divide_133 : decode cX10_divide 133 = .ok (.iload 5, 2) := by decide +kernel
theorem dX10_divide_135 : decode cX10_divide 135 = .ok (.if_icmp .lt 164, 3) := by decide +kernel
theorem dX10_divide_138 : decode cX10_divide 138 = .ok (.aload_n 0, 1) := by decide +kernel
theorem dX10_divide_139 : decode cX10_divide 139 = .ok (.getfield 601, 3) := by decide +kernel
theorem dX10_divide_142 : decode cX10_divide 142 = .ok (.ifCond .ne 157, 3) := by decide +kernel
theorem dX10_divide_145 : decode cX10_divide 145 = .ok (.aload_n 0, 1) := by decide +kernel
theorem dX10_divide_146 : decode cX10_divide 146 = .ok (.iload_n 3, 1) := by decide +kernel
theorem dX10_divide_147 : decode cX10_divide 147 = .ok (.ldc_w 750, 3) := by decide +kernel
theorem dX10_divide_150 : decode cX10_divide 150 = .ok (.iconst 2, 1) := by decide +kernel
theorem dX10_divide_151 : decode cX10_divide 151 = .ok (.iload 6, 2) := by decide +kernel
theorem dX10_divide_153 : decode cX10_divide 153 = .ok (.imul, 1) := by decide +kernel
theorem dX10_divide_154 : decode cX10_divide 154 = .ok (.iadd, 1) := by decide +kernel
theorem dX10_divide_155 : decode cX10_divide 155 = .ok (.iload_n 2, 1) := by decide +kernel
theorem dX10_divide_156 : decode cX10_divide 156 = .ok (.iconst 2, 1) := by decide +kernel
theorem dX10_divide_157 : decode cX10_divide 157 = .ok (.iload 5, 2) := by decide +kernel
theorem dX10_divide_159 : decode cX10_divide 159 = .ok (.imul, 1) := by decide +kernel
theorem dX10_divide_160 : decode cX10_divide 160 = .ok (.iadd, 1) := by decide +kernel
theorem dX10_divide_161 : decode cX10_divide 161 = .ok (.invokevirtual 796, 3) := by decide +kernel
theorem dX10_divide_164 : decode cX10_divide 164 = .ok (.aload_n 0, 1) := by decide +kernel
theorem dX10_divide_165 : decode cX10_divide 165 = .ok (.getfield 601, 3) := by decide +kernel
theorem dX10_divide_168 : decode cX10_divide 168 = .ok (.ifCond .le 4, 3) := by decide +kernel
theorem dX10_divide_171 : decode cX10_divide 171 = .ok (.return_, 1) := by decide +kernel
theorem dX10_divide_172 : decode cX10_divide 172 = .ok (.aload_n 0, 1) := by decide +kernel
theorem dX10_divide_173 : decode cX10_divide 173 = .ok (.ldc_w 703, 3) := by decide +kernel
theorem dX10_divide_176 : decode cX10_divide 176 = .ok (.iconst 2, 1) := by decide +kernel
theorem dX10_divide_177 : decode cX10_divide 177 = .ok (.iload 6, 2) := by decide +kernel
theorem dX10_divide_179 : decode cX10_divide 179 = .ok (.iload 5, 2) := by decide +kernel
theorem dX10_divide_181 : decode cX10_divide 181 = .ok (.isub, 1) := by decide +kernel
theorem dX10_divide_182 : decode cX10_divide 182 = .ok (.imul, 1) := by decide +kernel
theorem dX10_divide_183 : decode cX10_divide 183 = .ok (.iadd, 1) := by decide +kernel
theorem dX10_divide_184 : decode cX10_divide 184 = .ok (.invokevirtual 644, 3) := by decide +kernel
theorem dX10_divide_187 : decode cX10_divide 187 = .ok (.iconst 0, 1) := by decide +kernel
theorem dX10_divide_188 : decode cX10_divide 188 = .ok (.istore 7, 2) := by decide +kernel
theorem dX10_divide_190 : decode cX10_divide 190 = .ok (.iload 7, 2) := by decide +kernel
theorem dX10_divide_192 : decode cX10_divide 192 = .ok (.iload 5, 2) := by decide +kernel
theorem dX10_divide_194 : decode cX10_divide 194 = .ok (.if_icmp .gt 93, 3) := by decide +kernel
theorem dX10_divide_197 : decode cX10_divide 197 = .ok (.aload_n 0, 1) := by decide +kernel
theorem dX10_divide_198 : decode cX10_divide 198 = .ok (.getfield 601, 3) := by decide +kernel
theorem dX10_divide_201 : decode cX10_divide 201 = .ok (.ifCond .ne 86, 3) := by decide +kernel
theorem dX10_divide_204 : decode cX10_divide 204 = .ok (.aload_n 0, 1) := by decide +kernel
theorem dX10_divide_205 : decode cX10_divide 205 = .ok (.iload_n 3, 1) := by decide +kernel
theorem dX10_divide_206 : decode cX10_divide 206 = .ok (.ldc_w 703, 3) := by decide +kernel
theorem dX10_divide_209 : decode cX10_divide 209 = .ok (.iconst 2, 1) := by decide +kernel
theorem dX10_divide_210 : decode cX10_divide 210 = .ok (.iload 6, 2) := by decide +kernel
theorem dX10_divide_212 : decode cX10_divide 212 = .ok (.iload 5, 2) := by decide +kernel
theorem dX10_divide_214 : decode cX10_divide 214 = .ok (.isub, 1) := by decide +kernel
theorem dX10_divide_215 : decode cX10_divide 215 = .ok (.imul, 1) := by decide +kernel
theorem dX10_divide_216 : decode cX10_divide 216 = .ok (.iadd, 1) := by decide +kernel
theorem dX10_divide_217 : decode cX10_divide 217 = .ok (.iload_n 2, 1) := by decide +kernel
theorem dX10_divide_218 : decode cX10_divide 218 = .ok (.iconst 2, 1) := by decide +kernel
theorem dX10_divide_219 : decode cX10_divide 219 = .ok (.iload 7, 2) := by decide +kernel
theorem dX10_divide_221 : decode cX10_divide 221 = .ok (.imul, 1) := by decide +kernel
theorem dX10_divide_222 : decode cX10_divide 222 = .ok (.iadd, 1) := by decide +kernel
theorem dX10_divide_223 : decode cX10_divide 223 = .ok (.invokevirtual 653, 3) := by decide +kernel
theorem dX10_divide_226 : decode cX10_divide 226 = .ok (.aload_n 0, 1) := by decide +kernel
theorem dX10_divide_227 : decode cX10_divide 227 = .ok (.ldc_w 657, 3) := by decide +kernel
theorem dX10_divide_230 : decode cX10_divide 230 = .ok (.invokevirtual 644, 3) := by decide +kernel
theorem dX10_divide_233 : decode cX10_divide 233 = .ok (.aload_n 0, 1) := by decide +kernel
theorem dX10_divide_234 : decode cX10_divide 234 = .ok (.getfield 601, 3) := by decide +kernel
theorem dX10_divide_237 : decode cX10_divide 237 = .ok (.ifCond .le 4, 3) := by decide +kernel
theorem dX10_divide_240 : decode cX10_divide 240 = .ok (.return_, 1) := by decide +kernel
theorem dX10_divide_241 : decode cX10_divide 241 = .ok (.aload_n 0, 1) := by decide +kernel
theorem dX10_divide_242 : decode cX10_divide 242 = .ok (.iload_n 3, 1) := by decide +kernel
theorem dX10_divide_243 : decode cX10_divide 243 = .ok (.ldc_w 750, 3) := by decide +kernel
theorem dX10_divide_246 : decode cX10_divide 246 = .ok (.iconst 2, 1) := by decide +kernel
theorem dX10_divide_247 : decode cX10_divide 247 = .ok (.iload 6, 2) := by decide +kernel
theorem dX10_divide_249 : decode cX10_divide 249 = .ok (.iload 5, 2) := by decide +kernel
theorem dX10_divide_251 : decode cX10_divide 251 = .ok (.isub, 1) := by decide +kernel
theorem dX10_divide_252 : decode cX10_divide 252 = .ok (.iload 7, 2) := by decide +kernel
theorem dX10_divide_254 : decode cX10_divide 254 = .ok (.iadd, 1) := by decide +kernel
theorem dX10_divide_255 : decode cX10_divide 255 = .ok (.imul, 1) := by decide +kernel
theorem dX10_divide_256 : decode cX10_divide 256 = .ok (.iadd, 1) := by decide +kernel
theorem dX10_divide_257 : decode cX10_divide 257 = .ok (.ldc_w 657, 3) := by decide +kernel
theorem dX10_divide_260 : decode cX10_divide 260 = .ok (.invokevirtual 647, 3) := by decide +kernel
theorem dX10_divide_263 : decode cX10_divide 263 = .ok (.aload_n 0, 1) := by decide +kernel
theorem dX10_divide_264 : decode cX10_divide 264 = .ok (.ldc_w 750, 3) := by decide +kernel
theorem dX10_divide_267 : decode cX10_divide 267 = .ok (.iconst 2, 1) := by decide +kernel
theorem dX10_divide_268 : decode cX10_divide 268 = .ok (.iload 6, 2) := by decide +kernel
theorem dX10_divide_270 : decode cX10_divide 270 = .ok (.iload 5, 2) := by decide +kernel
theorem dX10_divide_272 : decode cX10_divide 272 = .ok (.isub, 1) := by decide +kernel
theorem dX10_divide_273 : decode cX10_divide 273 = .ok (.iload 7, 2) := by decide +kernel
theorem dX10_divide_275 : decode cX10_divide 275 = .ok (.iadd, 1) := by decide +kernel
theorem dX10_divide_276 : decode cX10_divide 276 = .ok (.imul, 1) := by decide +kernel
theorem dX10_divide_277 : decode cX10_divide 277 = .ok (.iadd, 1) := by decide +kernel
theorem dX10_divide_278 : decode cX10_divide 278 = .ok (.invokevirtual 644, 3) := by decide +kernel
theorem dX10_divide_281 : decode cX10_divide 281 = .ok (.iinc 7 1, 3) := by decide +kernel
theorem dX10_divide_284 : decode cX10_divide 284 = .ok (.goto (-94), 3) := by decide +kernel
theorem dX10_divide_287 : decode cX10_divide 287 = .ok (.aload_n 0, 1) := by decide +kernel
theorem dX10_divide_288 : decode cX10_divide 288 = .ok (.ldc_w 750, 3) := by decide +kernel
theorem dX10_divide_291 : decode cX10_divide 291 = .ok (.invokevirtual 799, 3) := by decide +kernel
theorem dX10_divide_294 : decode cX10_divide 294 = .ok (.istore 6, 2) := by decide +kernel
theorem dX10_divide_296 : decode cX10_divide 296 = .ok (.goto (-165), 3) := by decide +kernel
theorem dX10_divide_299 : decode cX10_divide 299 = .ok (.return_, 1) := by decide +kernel
/-! AlgebraHouseModel.divide(IIII)V -/
def P_X10_divide_287 (Q : Int → MM → Prop) (K131 : Int → Int → Int → Int → MM → Prop) (x2 : Int) (x3 : Int) (x5 : Int) (m : MM) : Prop := P_X10_degreeOf 1593000 m (fun r1 m1 => K131 x2 x3 x5 r1 m1)
def P_X10_divide_190 (Q : Int → MM → Prop) (K131 : Int → Int → Int → Int → MM → Prop) : Nat → Int → Int → Int → Int → Int → MM → Prop
  | 0, _, _, _, _, _, _ => False
  | n + 1, x2, x3, x5, x6, x7, m => (RI x7) ∧ (RI x5) ∧ (if x5 < x7 then P_X10_divide_287 Q K131 x2 x3 x5 m else (RI (m 582 84)) ∧ (if (m 582 84) = 0 then P_X10_multiplyNumbers x3 (1592000 + (2 * (x6 - x5))) (x2 + (2 * x7)) m (fun r1 m1 => P_X10_put 1594000 m1 (fun r2 m2 => (RI (m2 582 84)) ∧ (if (m2 582 84) ≤ 0 then P_X10_takeNumbers x3 (1593000 + (2 * ((x6 - x5) + x7))) 1594000 m2 (fun r3 m3 => P_X10_put (1593000 + (2 * ((x6 - x5) + x7))) m3 (fun r4 m4 => P_X10_divide_190 Q K131 n x2 x3 x5 x6 (x7 + 1) m4)) else Q 0 m2))) else P_X10_divide_287 Q K131 x2 x3 x5 m))
def P_X10_divide_131 (Q : Int → MM → Prop) : Nat → Int → Int → Int → Int → MM → Prop
  | 0, _, _, _, _, _ => False
  | n + 1, x2, x3, x5, x6, m => (RI x6) ∧ (RI x5) ∧ (if x6 < x5 then Q 0 m else (RI (m 582 84)) ∧ (if (m 582 84) = 0 then P_X10_divideNumbers x3 (1593000 + (2 * x6)) (x2 + (2 * x5)) m (fun r1 m1 => (RI (m1 582 84)) ∧ (if (m1 582 84) ≤ 0 then P_X10_put (1592000 + (2 * (x6 - x5))) m1 (fun r2 m2 => ∃ nn, P_X10_divide_190 Q (fun z0 z1 z2 z3 z4 => P_X10_divide_131 Q n z0 z1 z2 z3 z4) nn x2 x3 x5 x6 0 m2) else Q 0 m1)) else Q 0 m))
def P_X10_divide (x1 : Int) (x2 : Int) (x3 : Int) (x4 : Int) (m : MM) (Q : Int → MM → Prop) : Prop := P_X10_clear 1592000 882 m (fun r1 m1 => P_X10_copy 1593000 x1 882 m1 (fun r2 m2 => P_X10_isZero x2 14 m2 (fun r3 m3 => (RI r3) ∧ (if r3 = 0 then (RI x4) ∧ (if x4 = 0 then (0 ≤ x1 ∧ x1 < 1600000) ∧ (0 ≤ x2 ∧ x2 < 1600000) ∧ ((RL (m3 635 x2))) ∧ P_J4_floorMod_2 (m3 635 x1) (if 0 ≤ (m3 635 x2) then (m3 635 x2) else (-(m3 635 x2)) : Int) m3 (fun r6 m6 => (RL ((m3 635 x1) - r6)) ∧ (RL (m3 635 x2)) ∧ ((m3 635 x2) ≠ 0) ∧ P_X10_number 0 (Int.tdiv ((m3 635 x1) - r6) (m3 635 x2)) 1 m6 (fun r7 m7 => P_X10_set 1592000 (m7 582 87) m7 (fun r8 m8 => P_X10_set 1593000 r6 m8 (fun r9 m9 => Q 0 m9)))) else P_X10_degreeOf x2 m3 (fun r4 m4 => P_X10_degreeOf 1593000 m4 (fun r5 m5 => ∃ nn, P_X10_divide_131 Q nn x2 x3 r4 r5 m5))) else ∀ m10 : MM, m10 = up m3 582 84 2 → Q 0 m10))))
theorem pl_X10_divide_287 {f : Nat} {Q : Int → MM → Prop} {T : MM → Prop} (hf : 4 ≤ f) {K131 : Int → Int → Int → Int → MM → Prop} (hK131 : ∀ (x2 : Int) (x3 : Int) (x5 : Int) (x6 : Int) (m : MM), K131 x2 x3 x5 x6 m → B f M_X10_divide 131 [vR 582, vU, vI x2, vI x3, vU, vI x5, vI x6, vU, vU, vU, vU] [] m Q T) : ∀ (x2 : Int) (x3 : Int) (x5 : Int) (m : MM), P_X10_divide_287 Q K131 x2 x3 x5 m → B f M_X10_divide 287 [vR 582, vU, vI x2, vI x3, vU, vI x5, vU, vU, vU, vU, vU] [] m Q T := by
  intro x2 x3 x5 m h
  have h : P_X10_degreeOf 1593000 m (fun r1 m1 => K131 x2 x3 x5 r1 m1) := h
  refine b_aload_n dX10_divide_287 rfl ?_
  refine b_ldcw (1593000) dX10_divide_288 q2347 (by decide) ?_
  refine b_cVi (as := [vI 1593000]) (st := []) dX10_divide_291 mf_X10_degreeOf qs192 lk_X10_799 ly_582 rfl (p_X10_degreeOf (f := 1) (Nat.le_refl _) _ _ h) (by omega) rfl rfl (Nat.le_of_ble_eq_true rfl) (by decide) rfl (fun _ => rfl) (fun r1 m1 h => ?_) (fun _ h => h)
  refine b_istore (ls' := [vR 582, vU, vI x2, vI x3, vU, vI x5, vI r1, vU, vU, vU, vU]) dX10_divide_294 (Nat.le_of_ble_eq_true rfl) rfl ?_
  refine b_goto 131 dX10_divide_296 (by decide) ?_
  exact hK131 _ _ _ _ _ h
theorem pl_X10_divide_190 {f : Nat} {Q : Int → MM → Prop} {T : MM → Prop} (hf : 4 ≤ f) {K131 : Int → Int → Int → Int → MM → Prop} (hK131 : ∀ (x2 : Int) (x3 : Int) (x5 : Int) (x6 : Int) (m : MM), K131 x2 x3 x5 x6 m → B f M_X10_divide 131 [vR 582, vU, vI x2, vI x3, vU, vI x5, vI x6, vU, vU, vU, vU] [] m Q T) : ∀ (n : Nat) (x2 : Int) (x3 : Int) (x5 : Int) (x6 : Int) (x7 : Int) (m : MM), P_X10_divide_190 Q K131 n x2 x3 x5 x6 x7 m → B f M_X10_divide 190 [vR 582, vU, vI x2, vI x3, vU, vI x5, vI x6, vI x7, vU, vU, vU] [] m Q T := by
  intro n
  induction n with
  | zero => intro x2 x3 x5 x6 x7 m h; exact h.elim
  | succ n ih =>
    intro x2 x3 x5 x6 x7 m h
    have h : (RI x7) ∧ (RI x5) ∧ (if x5 < x7 then P_X10_divide_287 Q K131 x2 x3 x5 m else (RI (m 582 84)) ∧ (if (m 582 84) = 0 then P_X10_multiplyNumbers x3 (1592000 + (2 * (x6 - x5))) (x2 + (2 * x7)) m (fun r1 m1 => P_X10_put 1594000 m1 (fun r2 m2 => (RI (m2 582 84)) ∧ (if (m2 582 84) ≤ 0 then P_X10_takeNumbers x3 (1593000 + (2 * ((x6 - x5) + x7))) 1594000 m2 (fun r3 m3 => P_X10_put (1593000 + (2 * ((x6 - x5) + x7))) m3 (fun r4 m4 => P_X10_divide_190 Q K131 n x2 x3 x5 x6 (x7 + 1) m4)) else Q 0 m2))) else P_X10_divide_287 Q K131 x2 x3 x5 m)) := h
    refine b_iload dX10_divide_190 rfl ?_
    refine b_iload dX10_divide_192 rfl ?_
    obtain ⟨g1, h⟩ := h
    obtain ⟨g2, h⟩ := h
    refine b_icmp_gt 287 dX10_divide_194 g1 g2 (by decide) (fun c1 => ?_) (fun c1 => ?_)
    · have h := ifT c1 h
      refine b_fgt [true, false, true, true, false, true, false, false, false, false, false] (ls' := [vR 582, vU, vI x2, vI x3, vU, vI x5, vU, vU, vU, vU, vU]) rfl rfl ?_
      exact pl_X10_divide_287 hf hK131 _ _ _ _ h
    · have h := ifF c1 h
      refine b_aload_n dX10_divide_197 rfl ?_
      refine b_getI dX10_divide_198 fk_X10_601 ly_582 ?_
      obtain ⟨g3, h⟩ := h
      refine b_if_ne 287 dX10_divide_201 g3 (by decide) (fun c2 => ?_) (fun c2 => ?_)
      · have h := ifF c2 h
        refine b_fgt [true, false, true, true, false, true, false, false, false, false, false] (ls' := [vR 582, vU, vI x2, vI x3, vU, vI x5, vU, vU, vU, vU, vU]) rfl rfl ?_
        exact pl_X10_divide_287 hf hK131 _ _ _ _ h
      · have h := ifT (Decidable.of_not_not c2) h
        refine b_aload_n dX10_divide_204 rfl ?_
        refine b_iload_n dX10_divide_205 rfl ?_
        refine b_ldcw (1592000) dX10_divide_206 q2466 (by decide) ?_
        refine b_iconst dX10_divide_209 ?_
        refine b_iload dX10_divide_210 rfl ?_
        refine b_iload dX10_divide_212 rfl ?_
        refine b_isub dX10_divide_214 ?_
        refine b_imul dX10_divide_215 ?_
        refine b_iadd dX10_divide_216 ?_
        refine b_iload_n dX10_divide_217 rfl ?_
        refine b_iconst dX10_divide_218 ?_
        refine b_iload dX10_divide_219 rfl ?_
        refine b_imul dX10_divide_221 ?_
        refine b_iadd dX10_divide_222 ?_
        refine b_cVv (as := [vI x3, vI (1592000 + (2 * (x6 - x5))), vI (x2 + (2 * x7))]) (st := []) dX10_divide_223 mf_X10_multiplyNumbers qs172 lk_X10_653 ly_582 rfl (p_X10_multiplyNumbers (f := 3) (Nat.le_refl _) _ _ _ _ h) (by omega) rfl rfl (Nat.le_of_ble_eq_true rfl) (by decide) rfl (fun _ => rfl) (fun r1 m1 h => ?_) (fun _ h => h)
        refine b_aload_n dX10_divide_226 rfl ?_
        refine b_ldcw (1594000) dX10_divide_227 q2397 (by decide) ?_
        refine b_cVv (as := [vI 1594000]) (st := []) dX10_divide_230 mf_X10_put qs175 lk_X10_644 ly_582 rfl (p_X10_put (f := 1) (Nat.le_refl _) _ _ h) (by omega) rfl rfl (Nat.le_of_ble_eq_true rfl) (by decide) rfl (fun _ => rfl) (fun r2 m2 h => ?_) (fun _ h => h)
        refine b_aload_n dX10_divide_233 rfl ?_
        refine b_getI dX10_divide_234 fk_X10_601 ly_582 ?_
        obtain ⟨g4, h⟩ := h
        refine b_if_le 241 dX10_divide_237 g4 (by decide) (fun c3 => ?_) (fun c3 => ?_)
        · have h := ifT c3 h
          refine b_aload_n dX10_divide_241 rfl ?_
          refine b_iload_n dX10_divide_242 rfl ?_
          refine b_ldcw (1593000) dX10_divide_243 q2347 (by decide) ?_
          refine b_iconst dX10_divide_246 ?_
          refine b_iload dX10_divide_247 rfl ?_
          refine b_iload dX10_divide_249 rfl ?_
          refine b_isub dX10_divide_251 ?_
          refine b_iload dX10_divide_252 rfl ?_
          refine b_iadd dX10_divide_254 ?_
          refine b_imul dX10_divide_255 ?_
          refine b_iadd dX10_divide_256 ?_
          refine b_ldcw (1594000) dX10_divide_257 q2397 (by decide) ?_
          refine b_cVv (as := [vI x3, vI (1593000 + (2 * ((x6 - x5) + x7))), vI 1594000]) (st := []) dX10_divide_260 mf_X10_takeNumbers qs188 lk_X10_647 ly_582 rfl (p_X10_takeNumbers (f := 3) (Nat.le_refl _) _ _ _ _ h) (by omega) rfl rfl (Nat.le_of_ble_eq_true rfl) (by decide) rfl (fun _ => rfl) (fun r3 m3 h => ?_) (fun _ h => h)
          refine b_aload_n dX10_divide_263 rfl ?_
          refine b_ldcw (1593000) dX10_divide_264 q2347 (by decide) ?_
          refine b_iconst dX10_divide_267 ?_
          refine b_iload dX10_divide_268 rfl ?_
          refine b_iload dX10_divide_270 rfl ?_
          refine b_isub dX10_divide_272 ?_
          refine b_iload dX10_divide_273 rfl ?_
          refine b_iadd dX10_divide_275 ?_
          refine b_imul dX10_divide_276 ?_
          refine b_iadd dX10_divide_277 ?_
          refine b_cVv (as := [vI (1593000 + (2 * ((x6 - x5) + x7)))]) (st := []) dX10_divide_278 mf_X10_put qs175 lk_X10_644 ly_582 rfl (p_X10_put (f := 1) (Nat.le_refl _) _ _ h) (by omega) rfl rfl (Nat.le_of_ble_eq_true rfl) (by decide) rfl (fun _ => rfl) (fun r4 m4 h => ?_) (fun _ h => h)
          refine b_iinc (ls' := [vR 582, vU, vI x2, vI x3, vU, vI x5, vI x6, vI (x7 + 1), vU, vU, vU]) dX10_divide_281 rfl rfl ?_
          refine b_goto 190 dX10_divide_284 (by decide) ?_
          exact ih _ _ _ _ _ _ h
        · have h := ifF c3 h
          exact b_vret dX10_divide_240 rfl h
theorem pl_X10_divide_131 {f : Nat} {Q : Int → MM → Prop} {T : MM → Prop} (hf : 4 ≤ f) : ∀ (n : Nat) (x2 : Int) (x3 : Int) (x5 : Int) (x6 : Int) (m : MM), P_X10_divide_131 Q n x2 x3 x5 x6 m → B f M_X10_divide 131 [vR 582, vU, vI x2, vI x3, vU, vI x5, vI x6, vU, vU, vU, vU] [] m Q T := by
  intro n
  induction n with
  | zero => intro x2 x3 x5 x6 m h; exact h.elim
  | succ n ih =>
    intro x2 x3 x5 x6 m h
    have h : (RI x6) ∧ (RI x5) ∧ (if x6 < x5 then Q 0 m else (RI (m 582 84)) ∧ (if (m 582 84) = 0 then P_X10_divideNumbers x3 (1593000 + (2 * x6)) (x2 + (2 * x5)) m (fun r1 m1 => (RI (m1 582 84)) ∧ (if (m1 582 84) ≤ 0 then P_X10_put (1592000 + (2 * (x6 - x5))) m1 (fun r2 m2 => ∃ nn, P_X10_divide_190 Q (fun z0 z1 z2 z3 z4 => P_X10_divide_131 Q n z0 z1 z2 z3 z4) nn x2 x3 x5 x6 0 m2) else Q 0 m1)) else Q 0 m)) := h
    refine b_iload dX10_divide_131 rfl ?_
    refine b_iload dX10_divide_133 rfl ?_
    obtain ⟨g1, h⟩ := h
    obtain ⟨g2, h⟩ := h
    refine b_icmp_lt 299 dX10_divide_135 g1 g2 (by decide) (fun c1 => ?_) (fun c1 => ?_)
    · have h := ifT c1 h
      exact b_vret dX10_divide_299 rfl h
    · have h := ifF c1 h
      refine b_aload_n dX10_divide_138 rfl ?_
      refine b_getI dX10_divide_139 fk_X10_601 ly_582 ?_
      obtain ⟨g3, h⟩ := h
      refine b_if_ne 299 dX10_divide_142 g3 (by decide) (fun c2 => ?_) (fun c2 => ?_)
      · have h := ifF c2 h
        exact b_vret dX10_divide_299 rfl h
      · have h := ifT (Decidable.of_not_not c2) h
        refine b_aload_n dX10_divide_145 rfl ?_
        refine b_iload_n dX10_divide_146 rfl ?_
        refine b_ldcw (1593000) dX10_divide_147 q2347 (by decide) ?_
        refine b_iconst dX10_divide_150 ?_
        refine b_iload dX10_divide_151 rfl ?_
        refine b_imul dX10_divide_153 ?_
        refine b_iadd dX10_divide_154 ?_
        refine b_iload_n dX10_divide_155 rfl ?_
        refine b_iconst dX10_divide_156 ?_
        refine b_iload dX10_divide_157 rfl ?_
        refine b_imul dX10_divide_159 ?_
        refine b_iadd dX10_divide_160 ?_
        refine b_cVv (as := [vI x3, vI (1593000 + (2 * x6)), vI (x2 + (2 * x5))]) (st := []) dX10_divide_161 mf_X10_divideNumbers qs190 lk_X10_796 ly_582 rfl (p_X10_divideNumbers (f := 3) (Nat.le_refl _) _ _ _ _ h) (by omega) rfl rfl (Nat.le_of_ble_eq_true rfl) (by decide) rfl (fun _ => rfl) (fun r1 m1 h => ?_) (fun _ h => h)
        refine b_aload_n dX10_divide_164 rfl ?_
        refine b_getI dX10_divide_165 fk_X10_601 ly_582 ?_
        obtain ⟨g4, h⟩ := h
        refine b_if_le 172 dX10_divide_168 g4 (by decide) (fun c3 => ?_) (fun c3 => ?_)
        · have h := ifT c3 h
          refine b_aload_n dX10_divide_172 rfl ?_
          refine b_ldcw (1592000) dX10_divide_173 q2466 (by decide) ?_
          refine b_iconst dX10_divide_176 ?_
          refine b_iload dX10_divide_177 rfl ?_
          refine b_iload dX10_divide_179 rfl ?_
          refine b_isub dX10_divide_181 ?_
          refine b_imul dX10_divide_182 ?_
          refine b_iadd dX10_divide_183 ?_
          refine b_cVv (as := [vI (1592000 + (2 * (x6 - x5)))]) (st := []) dX10_divide_184 mf_X10_put qs175 lk_X10_644 ly_582 rfl (p_X10_put (f := 1) (Nat.le_refl _) _ _ h) (by omega) rfl rfl (Nat.le_of_ble_eq_true rfl) (by decide) rfl (fun _ => rfl) (fun r2 m2 h => ?_) (fun _ h => h)
          refine b_iconst dX10_divide_187 ?_
          refine b_istore (ls' := [vR 582, vU, vI x2, vI x3, vU, vI x5, vI x6, vI 0, vU, vU, vU]) dX10_divide_188 (Nat.le_of_ble_eq_true rfl) rfl ?_
          obtain ⟨nn, h⟩ := h
          exact pl_X10_divide_190 hf (fun _ _ _ _ _ h => ih _ _ _ _ _ h) nn _ _ _ _ _ _ h
        · have h := ifF c3 h
          exact b_vret dX10_divide_171 rfl h
theorem p_X10_divide {f : Nat} {Q : Int → MM → Prop} {T : MM → Prop} (hf : 4 ≤ f) (x1 : Int) (x2 : Int) (x3 : Int) (x4 : Int) (m : MM) (h : P_X10_divide x1 x2 x3 x4 m Q) : CC f M_X10_divide [vR 582, vI x1, vI x2, vI x3, vI x4] m Q T := by
  refine CC.of (plainFor_of_name (by decide)) (Nat.le_of_ble_eq_true rfl) (ls := [vR 582, vI x1, vI x2, vI x3, vI x4, vU, vU, vU, vU, vU, vU]) rfl ?_
  have h : P_X10_clear 1592000 882 m (fun r1 m1 => P_X10_copy 1593000 x1 882 m1 (fun r2 m2 => P_X10_isZero x2 14 m2 (fun r3 m3 => (RI r3) ∧ (if r3 = 0 then (RI x4) ∧ (if x4 = 0 then (0 ≤ x1 ∧ x1 < 1600000) ∧ (0 ≤ x2 ∧ x2 < 1600000) ∧ ((RL (m3 635 x2))) ∧ P_J4_floorMod_2 (m3 635 x1) (if 0 ≤ (m3 635 x2) then (m3 635 x2) else (-(m3 635 x2)) : Int) m3 (fun r6 m6 => (RL ((m3 635 x1) - r6)) ∧ (RL (m3 635 x2)) ∧ ((m3 635 x2) ≠ 0) ∧ P_X10_number 0 (Int.tdiv ((m3 635 x1) - r6) (m3 635 x2)) 1 m6 (fun r7 m7 => P_X10_set 1592000 (m7 582 87) m7 (fun r8 m8 => P_X10_set 1593000 r6 m8 (fun r9 m9 => Q 0 m9)))) else P_X10_degreeOf x2 m3 (fun r4 m4 => P_X10_degreeOf 1593000 m4 (fun r5 m5 => ∃ nn, P_X10_divide_131 Q nn x2 x3 r4 r5 m5))) else ∀ m10 : MM, m10 = up m3 582 84 2 → Q 0 m10)))) := h
  refine b_aload_n dX10_divide_0 rfl ?_
  refine b_ldcw (1592000) dX10_divide_1 q2466 (by decide) ?_
  refine b_sipush dX10_divide_4 (by decide) ?_
  refine b_cVv (as := [vI 1592000, vI 882]) (st := []) dX10_divide_7 mf_X10_clear qs162 lk_X10_685 ly_582 rfl (p_X10_clear (f := 2) (Nat.le_refl _) _ _ _ h) (by omega) rfl rfl (Nat.le_of_ble_eq_true rfl) (by decide) rfl (fun _ => rfl) (fun r1 m1 h => ?_) (fun _ h => h)
  refine b_aload_n dX10_divide_10 rfl ?_
  refine b_ldcw (1593000) dX10_divide_11 q2347 (by decide) ?_
  refine b_iload_n dX10_divide_14 rfl ?_
  refine b_sipush dX10_divide_15 (by decide) ?_
  refine b_cVv (as := [vI 1593000, vI x1, vI 882]) (st := []) dX10_divide_18 mf_X10_copy qs164 lk_X10_658 ly_582 rfl (p_X10_copy (f := 1) (Nat.le_refl _) _ _ _ _ h) (by omega) rfl rfl (Nat.le_of_ble_eq_true rfl) (by decide) rfl (fun _ => rfl) (fun r2 m2 h => ?_) (fun _ h => h)
  refine b_aload_n dX10_divide_21 rfl ?_
  refine b_iload_n dX10_divide_22 rfl ?_
  refine b_bipush dX10_divide_23 (by decide) ?_
  refine b_cVi (as := [vI x2, vI 14]) (st := []) dX10_divide_25 mf_X10_isZero qs179 lk_X10_671 ly_582 rfl (p_X10_isZero (f := 1) (Nat.le_refl _) _ _ _ h) (by omega) rfl rfl (Nat.le_of_ble_eq_true rfl) (by decide) rfl (fun _ => rfl) (fun r3 m3 h => ?_) (fun _ h => h)
  obtain ⟨g1, h⟩ := h
  refine b_if_eq 37 dX10_divide_28 g1 (by decide) (fun c1 => ?_) (fun c1 => ?_)
  · have h := ifT c1 h
    refine b_iload dX10_divide_37 rfl ?_
    obtain ⟨g2, h⟩ := h
    refine b_if_ne 115 dX10_divide_39 g2 (by decide) (fun c2 => ?_) (fun c2 => ?_)
    · have h := ifF c2 h
      refine b_aload_n dX10_divide_115 rfl ?_
      refine b_iload_n dX10_divide_116 rfl ?_
      refine b_cVi (as := [vI x2]) (st := []) dX10_divide_117 mf_X10_degreeOf qs192 lk_X10_799 ly_582 rfl (p_X10_degreeOf (f := 1) (Nat.le_refl _) _ _ h) (by omega) rfl rfl (Nat.le_of_ble_eq_true rfl) (by decide) rfl (fun _ => rfl) (fun r4 m4 h => ?_) (fun _ h => h)
      refine b_istore (ls' := [vR 582, vI x1, vI x2, vI x3, vI x4, vI r4, vU, vU, vU, vU, vU]) dX10_divide_120 (Nat.le_of_ble_eq_true rfl) rfl ?_
      refine b_aload_n dX10_divide_122 rfl ?_
      refine b_ldcw (1593000) dX10_divide_123 q2347 (by decide) ?_
      refine b_cVi (as := [vI 1593000]) (st := []) dX10_divide_126 mf_X10_degreeOf qs192 lk_X10_799 ly_582 rfl (p_X10_degreeOf (f := 1) (Nat.le_refl _) _ _ h) (by omega) rfl rfl (Nat.le_of_ble_eq_true rfl) (by decide) rfl (fun _ => rfl) (fun r5 m5 h => ?_) (fun _ h => h)
      refine b_istore (ls' := [vR 582, vI x1, vI x2, vI x3, vI x4, vI r4, vI r5, vU, vU, vU, vU]) dX10_divide_129 (Nat.le_of_ble_eq_true rfl) rfl ?_
      refine b_fgt [true, false, true, true, false, true, true, false, false, false, false] (ls' := [vR 582, vU, vI x2, vI x3, vU, vI r4, vI r5, vU, vU, vU, vU]) rfl rfl ?_
      obtain ⟨nn, h⟩ := h
      exact pl_X10_divide_131 hf nn _ _ _ _ _ h
    · have h := ifT (Decidable.of_not_not c2) h
      refine b_aload_n dX10_divide_42 rfl ?_
      refine b_getR dX10_divide_43 fk_X10_250 ly_582 gg_582_85 ?_
      refine b_iload_n dX10_divide_46 rfl ?_
      obtain ⟨g3, h⟩ := h
      refine b_lald dX10_divide_47 ly_635 g3 ?_
      refine b_lstore (ls' := [vR 582, vI x1, vI x2, vI x3, vI x4, vL (m3 635 x1), vU, vU, vU, vU, vU]) dX10_divide_48 (Nat.le_of_ble_eq_true rfl) rfl ?_
      refine b_aload_n dX10_divide_50 rfl ?_
      refine b_getR dX10_divide_51 fk_X10_250 ly_582 gg_582_85 ?_
      refine b_iload_n dX10_divide_54 rfl ?_
      obtain ⟨g4, h⟩ := h
      refine b_lald dX10_divide_55 ly_635 g4 ?_
      refine b_lstore (ls' := [vR 582, vI x1, vI x2, vI x3, vI x4, vL (m3 635 x1), vU, vL (m3 635 x2), vU, vU, vU]) dX10_divide_56 (Nat.le_of_ble_eq_true rfl) rfl ?_
      refine b_lload dX10_divide_58 rfl ?_
      refine b_lload dX10_divide_60 rfl ?_
      refine b_lconst 0 dX10_divide_62 (by decide) ?_
      obtain ⟨hs, h⟩ := h
      have K : B f M_X10_divide 75 [vR 582, vI x1, vI x2, vI x3, vI x4, vL (m3 635 x1), vU, vL (m3 635 x2), vU, vU, vU] [vL (if 0 ≤ (m3 635 x2) then (m3 635 x2) else (-(m3 635 x2)) : Int), vL (m3 635 x1)] m3 Q T := by
        clear hs
        refine b_cSl (as := [vL (m3 635 x1), vL (if 0 ≤ (m3 635 x2) then (m3 635 x2) else (-(m3 635 x2)) : Int)]) (st := []) dX10_divide_75 mf_J4_floorMod_2 lk_X10_615 (p_J4_floorMod_2 (f := 1) (Nat.le_refl _) _ _ _ h) (by omega) rfl rfl (Nat.le_of_ble_eq_true rfl) (by decide) rfl (fun _ => rfl) (fun r6 m6 h => ?_) (fun _ h => h)
        refine b_lstore (ls' := [vR 582, vI x1, vI x2, vI x3, vI x4, vL (m3 635 x1), vU, vL (m3 635 x2), vU, vL r6, vU]) dX10_divide_78 (Nat.le_of_ble_eq_true rfl) rfl ?_
        refine b_aload_n dX10_divide_80 rfl ?_
        refine b_iconst dX10_divide_81 ?_
        refine b_lload dX10_divide_82 rfl ?_
        refine b_lload dX10_divide_84 rfl ?_
        refine b_lsub dX10_divide_86 ?_
        refine b_lload dX10_divide_87 rfl ?_
        obtain ⟨g6, h⟩ := h
        obtain ⟨g7, h⟩ := h
        obtain ⟨g8, h⟩ := h
        refine b_ldiv dX10_divide_89 g6 g7 g8 ?_
        refine b_lconst 1 dX10_divide_90 (by decide) ?_
        refine b_cVv (as := [vI 0, vL (Int.tdiv ((m3 635 x1) - r6) (m3 635 x2)), vL 1]) (st := []) dX10_divide_91 mf_X10_number qs173 lk_X10_626 ly_582 rfl (p_X10_number (f := 2) (Nat.le_refl _) _ _ _ _ h) (by omega) rfl rfl (Nat.le_of_ble_eq_true rfl) (by decide) rfl (fun _ => rfl) (fun r7 m7 h => ?_) (fun _ h => h)
        refine b_aload_n dX10_divide_94 rfl ?_
        refine b_ldcw (1592000) dX10_divide_95 q2466 (by decide) ?_
        refine b_aload_n dX10_divide_98 rfl ?_
        refine b_getL dX10_divide_99 fk_X10_604 ly_582 ?_
        refine b_cVv (as := [vI 1592000, vL (m7 582 87)]) (st := []) dX10_divide_102 mf_X10_set qs163 lk_X10_633 ly_582 rfl (p_X10_set (f := 1) (Nat.le_refl _) _ _ _ h) (by omega) rfl rfl (Nat.le_of_ble_eq_true rfl) (by decide) rfl (fun _ => rfl) (fun r8 m8 h => ?_) (fun _ h => h)
        refine b_aload_n dX10_divide_105 rfl ?_
        refine b_ldcw (1593000) dX10_divide_106 q2347 (by decide) ?_
        refine b_lload dX10_divide_109 rfl ?_
        refine b_cVv (as := [vI 1593000, vL r6]) (st := []) dX10_divide_111 mf_X10_set qs163 lk_X10_633 ly_582 rfl (p_X10_set (f := 1) (Nat.le_refl _) _ _ _ h) (by omega) rfl rfl (Nat.le_of_ble_eq_true rfl) (by decide) rfl (fun _ => rfl) (fun r9 m9 h => ?_) (fun _ h => h)
        exact b_vret dX10_divide_114 rfl h
      have g5 := hs
      refine b_lc_ge 73 dX10_divide_63 dX10_divide_64 g5 (by decide) (by decide) (fun c3 => ?_) (fun c3 => ?_)
      ·
        refine b_lload dX10_divide_73 rfl ?_
        exact Eq.mp (congrArg (fun z => B f M_X10_divide 75 [vR 582, vI x1, vI x2, vI x3, vI x4, vL (m3 635 x1), vU, vL (m3 635 x2), vU, vU, vU] (vL z :: [vL (m3 635 x1)]) m3 Q T) (show (if 0 ≤ (m3 635 x2) then (m3 635 x2) else (-(m3 635 x2)) : Int) = (m3 635 x2) by rw [if_pos c3])) K
      ·
        refine b_lload dX10_divide_67 rfl ?_
        refine b_lneg dX10_divide_69 ?_
        refine b_goto 75 dX10_divide_70 (by decide) ?_
        exact Eq.mp (congrArg (fun z => B f M_X10_divide 75 [vR 582, vI x1, vI x2, vI x3, vI x4, vL (m3 635 x1), vU, vL (m3 635 x2), vU, vU, vU] (vL z :: [vL (m3 635 x1)]) m3 Q T) (show (if 0 ≤ (m3 635 x2) then (m3 635 x2) else (-(m3 635 x2)) : Int) = (-(m3 635 x2)) by rw [if_neg c3])) K
  · have h := ifF c1 h
    refine b_aload_n dX10_divide_31 rfl ?_
    refine b_iconst dX10_divide_32 ?_
    refine b_putI dX10_divide_33 fk_X10_601 ly_582 (fun m10 em10 => ?_)
    have h := h m10 em10
    exact b_vret dX10_divide_36 rfl h
theorem dX10_tellNumber_0 : decode cX10_tellNumber 0 = .ok (.aload_n 0, 1) := by decide +kernel
theorem dX10_tellNumber_1 : decode cX10_tellNumber 1 = .ok (.iload_n 1, 1) := by decide +kernel
theorem dX10_tellNumber_2 : decode cX10_tellNumber 2 = .ok (.sipush 882, 3) := by decide +kernel
theorem dX10_tellNumber_5 : decode cX10_tellNumber 5 = .ok (.invokevirtual 685, 3) := by decide +kernel
theorem dX10_tellNumber_8 : decode cX10_tellNumber 8 = .ok (.aload_n 0, 1) := by decide +kernel
theorem dX10_tellNumber_9 : decode cX10_tellNumber 9 = .ok (.iload_n 1, 1) := by decide +kernel
theorem dX10_tellNumber_10 : decode cX10_tellNumber 10 = .ok (.lload_n 2, 1) := by decide +kernel
theorem dX10_tellNumber_11 : decode cX10_tellNumber 11 = .ok (.invokevirtual 633, 3) := by decide +kernel
theorem dX10_tellNumber_14 : decode cX10_tellNumber 14 = .ok (.return_, 1) := by decide +kernel
/-! AlgebraHouseModel.tellNumber(IJ)V -/
def P_X10_tellNumber (x1 : Int) (x2 : Int) (m : MM) (Q : Int → MM → Prop) : Prop := P_X10_clear x1 882 m (fun r1 m1 => P_X10_set x1 x2 m1 (fun r2 m2 => Q 0 m2))
theorem p_X10_tellNumber {f : Nat} {Q : Int → MM → Prop} {T : MM → Prop} (hf : 3 ≤ f) (x1 : Int) (x2 : Int) (m : MM) (h : P_X10_tellNumber x1 x2 m Q) : CC f M_X10_tellNumber [vR 582, vI x1, vL x2] m Q T := by
  refine CC.of (plainFor_of_name (by decide)) (Nat.le_of_ble_eq_true rfl) (ls := [vR 582, vI x1, vL x2, vU]) rfl ?_
  have h : P_X10_clear x1 882 m (fun r1 m1 => P_X10_set x1 x2 m1 (fun r2 m2 => Q 0 m2)) := h
  refine b_aload_n dX10_tellNumber_0 rfl ?_
  refine b_iload_n dX10_tellNumber_1 rfl ?_
  refine b_sipush dX10_tellNumber_2 (by decide) ?_
  refine b_cVv (as := [vI x1, vI 882]) (st := []) dX10_tellNumber_5 mf_X10_clear qs162 lk_X10_685 ly_582 rfl (p_X10_clear (f := 2) (Nat.le_refl _) _ _ _ h) (by omega) rfl rfl (Nat.le_of_ble_eq_true rfl) (by decide) rfl (fun _ => rfl) (fun r1 m1 h => ?_) (fun _ h => h)
  refine b_aload_n dX10_tellNumber_8 rfl ?_
  refine b_iload_n dX10_tellNumber_9 rfl ?_
  refine b_lload_n dX10_tellNumber_10 rfl ?_
  refine b_cVv (as := [vI x1, vL x2]) (st := []) dX10_tellNumber_11 mf_X10_set qs163 lk_X10_633 ly_582 rfl (p_X10_set (f := 1) (Nat.le_refl _) _ _ _ h) (by omega) rfl rfl (Nat.le_of_ble_eq_true rfl) (by decide) rfl (fun _ => rfl) (fun r2 m2 h => ?_) (fun _ h => h)
  exact b_vret dX10_tellNumber_14 rfl h
theorem dX10_greatest_0 : decode cX10_greatest 0 = .ok (.iload 4, 2) := by decide +kernel
theorem dX10_greatest_2 : decode cX10_greatest 2 = .ok (.ifCond .ne 24, 3) := by decide +kernel
theorem dX10_greatest_5 : decode cX10_greatest 5 = .ok (.aload_n 0, 1) := by decide +kernel
theorem dX10_greatest_6 : decode cX10_greatest 6 = .ok (.iload_n 1, 1) := by decide +kernel
theorem dX10_greatest_7 : decode cX10_greatest 7 = .ok (.aload_n 0, 1) := by decide +kernel
theorem dX10_greatest_8 : decode cX10_greatest 8 = .ok (.getfield 250, 3) := by decide +kernel
theorem dX10_greatest_11 : decode cX10_greatest 11 = .ok (.iload_n 1, 1) := by decide +kernel
theorem dX10_greatest_12 : decode cX10_greatest 12 = .ok (.laload, 1) := by decide +kernel
theorem dX10_greatest_13 : decode cX10_greatest 13 = .ok (.aload_n 0, 1) := by decide +kernel
theorem dX10_greatest_14 : decode cX10_greatest 14 = .ok (.getfield 250, 3) := by decide +kernel
theorem dX10_greatest_17 : decode cX10_greatest 17 = .ok (.iload_n 2, 1) := by decide +kernel
theorem dX10_greatest_18 : decode cX10_greatest 18 = .ok (.laload, 1) := by decide +kernel
theorem dX10_greatest_19 : decode cX10_greatest 19 = .ok (.invokestatic 619, 3) := by decide +kernel
theorem dX10_greatest_22 : decode cX10_greatest 22 = .ok (.invokevirtual 832, 3) := by decide +kernel
theorem dX10_greatest_25 : decode cX10_greatest 25 = .ok (.return_, 1) := by decide +kernel
theorem dX10_greatest_26 : decode cX10_greatest 26 = .ok (.aload_n 0, 1) := by decide +kernel
theorem dX10_greatest_27 : decode cX10_greatest 27 = .ok (.iload_n 2, 1) := by decide +kernel
theorem dX10_greatest_28 : decode cX10_greatest 28 = .ok (.bipush 14, 2) := by decide +kernel
theorem dX10_greatest_30 : decode cX10_greatest 30 = .ok (.invokevirtual 671, 3) := by decide +kernel
theorem dX10_greatest_33 : decode cX10_greatest 33 = .ok (.ifCond .ne 50, 3) := by decide +kernel
theorem dX10_greatest_36 : decode cX10_greatest 36 = .ok (.aload_n 0, 1) := by decide +kernel
theorem dX10_greatest_37 : decode cX10_greatest 37 = .ok (.getfield 601, 3) := by decide +kernel
theorem dX10_greatest_40 : decode cX10_greatest 40 = .ok (.ifCond .ne 43, 3) := by decide +kernel
theorem dX10_greatest_43 : decode cX10_greatest 43 = .ok (.aload_n 0, 1) := by decide +kernel
theorem dX10_greatest_44 : decode cX10_greatest 44 = .ok (.iload_n 1, 1) := by decide +kernel
theorem dX10_greatest_45 : decode cX10_greatest 45 = .ok (.iload_n 2, 1) := by decide +kernel
theorem dX10_greatest_46 : decode cX10_greatest 46 = .ok (.iload_n 3, 1) := by decide +kernel
theorem dX10_greatest_47 : decode cX10_greatest 47 = .ok (.iload 4, 2) := by decide +kernel
theorem dX10_greatest_49 : decode cX10_greatest 49 = .ok (.invokevirtual 793, 3) := by decide +kernel
theorem dX10_greatest_52 : decode cX10_greatest 52 = .ok (.aload_n 0, 1) := by decide +kernel
theorem dX10_greatest_53 : decode cX10_greatest 53 = .ok (.getfield 601, 3) := by decide +kernel
theorem dX10_greatest_56 : decode cX10_greatest 56 = .ok (.ifCond .le 4, 3) := by decide +kernel
theorem dX10_greatest_59 : decode cX10_greatest 59 = .ok (.return_, 1) := by decide +kernel
theorem dX10_greatest_60 : decode cX10_greatest 60 = .ok (.aload_n 0, 1) := by decide +kernel
theorem dX10_greatest_61 : decode cX10_greatest 61 = .ok (.iload_n 1, 1) := by decide +kernel
theorem dX10_greatest_62 : decode cX10_greatest 62 = .ok (.iload_n 2, 1) := by decide +kernel
theorem dX10_greatest_63 : decode cX10_greatest 63 = .ok (.sipush 882, 3) := by decide +kernel
theorem dX10_greatest_66 : decode cX10_greatest 66 = .ok (.invokevirtual 658, 3) := by decide +kernel
theorem dX10_greatest_69 : decode cX10_greatest 69 = .ok (.aload_n 0, 1) := by decide +kernel
theorem dX10_greatest_70 : decode cX10_greatest 70 = .ok (.iload_n 2, 1) := by decide +kernel
theorem dX10_greatest_71 : decode cX10_greatest 71 = .ok (.ldc_w 750, 3) := by decide +kernel
theorem dX10_greatest_74 : decode cX10_greatest 74 = .ok (.sipush 882, 3) := by decide +kernel
theorem dX10_greatest_77 : decode cX10_greatest 77 = .ok (.invokevirtual 658, 3) := by decide +kernel
theorem dX10_greatest_80 : decode cX10_greatest 80 = .ok (.goto (-54), 3) := by decide +kernel
theorem dX10_greatest_83 : decode cX10_greatest 83 = .ok (.aload_n 0, 1) := by decide +kernel
theorem dX10_greatest_84 : decode cX10_greatest 84 = .ok (.iload_n 1, 1) := by decide +kernel
theorem dX10_greatest_85 : decode cX10_greatest 85 = .ok (.invokevirtual 799, 3) := by decide +kernel
theorem dX10_greatest_88 : decode cX10_greatest 88 = .ok (.istore 5, 2) := by decide +kernel
theorem dX10_greatest_90 : decode cX10_greatest 90 = .ok (.iload 5, 2) := by decide +kernel
theorem dX10_greatest_92 : decode cX10_greatest 92 = .ok (.ifCond .ge 4, 3) := by decide +kernel
theorem dX10_greatest_95 : decode cX10_greatest 95 = .ok (.return_, 1) := by decide +kernel
theorem dX10_greatest_96 : decode cX10_greatest 96 = .ok (.aload_n 0, 1) := by decide +kernel
theorem dX10_greatest_97 : decode cX10_greatest 97 = .ok (.ldc_w 861, 3) := by decide +kernel
theorem dX10_greatest_100 : decode cX10_greatest 100 = .ok (.iload_n 1, 1) := by decide +kernel
theorem dX10_greatest_101 : decode cX10_greatest 101 = .ok (.iconst 2, 1) := by decide +kernel
theorem dX10_greatest_102 : decode cX10_greatest 102 = .ok (.iload 5, 2) := by decide +kernel
theorem dX10_greatest_104 : decode cX10_greatest 104 = .ok (.imul, 1) := by decide +kernel
theorem dX10_greatest_105 : decode cX10_greatest 105 = .ok (.iadd, 1) := by decide +kernel
theorem dX10_greatest_106 : decode cX10_greatest 106 = .ok (.iconst 2, 1) := by decide +kernel
theorem dX10_greatest_107 : decode cX10_greatest 107 = .ok (.invokevirtual 658, 3) := by decide +kernel
theorem dX10_greatest_110 : decode cX10_greatest 110 = .ok (.iconst 0, 1) := by decide +kernel
theorem dX10_greatest_111 : decode cX10_greatest 111 = .ok (.istore 6, 2) := by decide +kernel
theorem dX10_greatest_113 : decode cX10_greatest 113 = .ok (.iload 6, 2) := by decide +kernel
theorem dX10_greatest_115 : decode cX10_greatest 115 = .ok (.iload 5, 2) := by decide +kernel
theorem dX10_greatest_117 : decode cX10_greatest 117 = .ok (.if_icmp .gt 47, 3) := by decide +kernel
theorem dX10_greatest_120 : decode cX10_greatest 120 = .ok (.aload_n 0, 1) := by decide +kernel
theorem dX10_greatest_121 : decode cX10_greatest 121 = .ok (.getfield 601, 3) := by decide +kernel
theorem dX10_greatest_124 : decode cX10_greatest 124 = .ok (.ifCond .ne 40, 3) := by decide +kernel
theorem dX10_greatest_127 : decode cX10_greatest 127 = .ok (.aload_n 0, 1) := by decide +kernel
theorem dX10_greatest_128 : decode cX10_greatest 128 = .ok (.iload_n 3, 1) := by decide +kernel
theorem dX10_greatest_129 : decode cX10_greatest 129 = .ok (.iload_n 1, 1) := by decide +kernel
theorem dX10_greatest_130 : decode cX10_greatest 130 = .ok (.iconst 2, 1) := by decide +kernel
theorem dX10_greatest_131 : decode cX10_greatest 131 = .ok (.iload 6, 2) := by decide +kernel
theorem dX10_greatest_133 : decode cX10_greatest 133 = .ok (.imul, 1) := by decide +kernel
theorem dX10_greatest_134 : decode cX10_greatest 134 = .ok (.iadd, 1) := by decide +kernel
theorem dX10_greatest_135 : decode cX10_greatest 135 = .ok (.ldc_w 861, 3) := by decide +kernel
theorem dX10_greatest_138 : decode cX10_greatest 138 = .ok (.invokevirtual 796, 3) := by decide +kernel
theorem dX10_greatest_141 : decode cX10_greatest 141 = .ok (.aload_n 0, 1) := by decide +kernel
theorem dX10_greatest_142 : decode cX10_greatest 142 = .ok (.getfield 601, 3) := by decide +kernel
theorem dX10_greatest_145 : decode cX10_greatest 145 = .ok (.ifCond .ne 13, 3) := by decide +kernel
theorem dX10_greatest_148 : decode cX10_greatest 148 = .ok (.aload_n 0, 1) := by decide +kernel
theorem dX10_greatest_149 : decode cX10_greatest 149 = .ok (.iload_n 1, 1) := by decide +kernel
theorem dX10_greatest_150 : decode cX10_greatest 150 = .ok (.iconst 2, 1) := by decide +kernel
theorem dX10_greatest_151 : decode cX10_greatest 151 = .ok (.iload 6, 2) := by decide +kernel
theorem dX10_greatest_153 : decode cX10_greatest 153 = .ok (.imul, 1) := by decide +kernel
theorem dX10_greatest_154 : decode cX10_greatest 154 = .ok (.iadd, 1) := by decide +kernel
theorem dX10_greatest_155 : decode cX10_greatest 155 = .ok (.invokevirtual 644, 3) := by decide +kernel
theorem dX10_greatest_158 : decode cX10_greatest 158 = .ok (.iinc 6 1, 3) := by decide +kernel
theorem dX10_greatest_161 : decode cX10_greatest 161 = .ok (.goto (-48), 3) := by decide +kernel
theorem dX10_greatest_164 : decode cX10_greatest 164 = .ok (.return_, 1) := by decide +kernel
/-! AlgebraHouseModel.greatest(IIII)V -/
def P_X10_greatest_113 (Q : Int → MM → Prop) : Nat → Int → Int → Int → Int → MM → Prop
  | 0, _, _, _, _, _ => False
  | n + 1, x1, x3, x5, x6, m => (RI x6) ∧ (RI x5) ∧ (if x5 < x6 then Q 0 m else (RI (m 582 84)) ∧ (if (m 582 84) = 0 then P_X10_divideNumbers x3 (x1 + (2 * x6)) 1594004 m (fun r1 m1 => (RI (m1 582 84)) ∧ (if (m1 582 84) = 0 then P_X10_put (x1 + (2 * x6)) m1 (fun r2 m2 => P_X10_greatest_113 Q n x1 x3 x5 (x6 + 1) m2) else P_X10_greatest_113 Q n x1 x3 x5 (x6 + 1) m1)) else Q 0 m))
def P_X10_greatest_83 (Q : Int → MM → Prop) (x1 : Int) (x3 : Int) (m : MM) : Prop := P_X10_degreeOf x1 m (fun r1 m1 => (RI r1) ∧ (if 0 ≤ r1 then P_X10_copy 1594004 (x1 + (2 * r1)) 2 m1 (fun r2 m2 => ∃ nn, P_X10_greatest_113 Q nn x1 x3 r1 0 m2) else Q 0 m1))
def P_X10_greatest_26 (Q : Int → MM → Prop) : Nat → Int → Int → Int → Int → MM → Prop
  | 0, _, _, _, _, _ => False
  | n + 1, x1, x2, x3, x4, m => P_X10_isZero x2 14 m (fun r1 m1 => (RI r1) ∧ (if r1 = 0 then (RI (m1 582 84)) ∧ (if (m1 582 84) = 0 then P_X10_divide x1 x2 x3 x4 m1 (fun r2 m2 => (RI (m2 582 84)) ∧ (if (m2 582 84) ≤ 0 then P_X10_copy x1 x2 882 m2 (fun r3 m3 => P_X10_copy x2 1593000 882 m3 (fun r4 m4 => P_X10_greatest_26 Q n x1 x2 x3 x4 m4)) else Q 0 m2)) else P_X10_greatest_83 Q x1 x3 m1) else P_X10_greatest_83 Q x1 x3 m1))
def P_X10_greatest (x1 : Int) (x2 : Int) (x3 : Int) (x4 : Int) (m : MM) (Q : Int → MM → Prop) : Prop := (RI x4) ∧ (if x4 = 0 then (0 ≤ x1 ∧ x1 < 1600000) ∧ (0 ≤ x2 ∧ x2 < 1600000) ∧ P_X10_common (m 635 x1) (m 635 x2) m (fun r1 m1 => P_X10_tellNumber x1 r1 m1 (fun r2 m2 => Q 0 m2)) else ∃ nn, P_X10_greatest_26 Q nn x1 x2 x3 x4 m)
theorem pl_X10_greatest_113 {f : Nat} {Q : Int → MM → Prop} {T : MM → Prop} (hf : 5 ≤ f) : ∀ (n : Nat) (x1 : Int) (x3 : Int) (x5 : Int) (x6 : Int) (m : MM), P_X10_greatest_113 Q n x1 x3 x5 x6 m → B f M_X10_greatest 113 [vR 582, vI x1, vU, vI x3, vU, vI x5, vI x6] [] m Q T := by
  intro n
  induction n with
  | zero => intro x1 x3 x5 x6 m h; exact h.elim
  | succ n ih =>
    intro x1 x3 x5 x6 m h
    have h : (RI x6) ∧ (RI x5) ∧ (if x5 < x6 then Q 0 m else (RI (m 582 84)) ∧ (if (m 582 84) = 0 then P_X10_divideNumbers x3 (x1 + (2 * x6)) 1594004 m (fun r1 m1 => (RI (m1 582 84)) ∧ (if (m1 582 84) = 0 then P_X10_put (x1 + (2 * x6)) m1 (fun r2 m2 => P_X10_greatest_113 Q n x1 x3 x5 (x6 + 1) m2) else P_X10_greatest_113 Q n x1 x3 x5 (x6 + 1) m1)) else Q 0 m)) := h
    refine b_iload dX10_greatest_113 rfl ?_
    refine b_iload dX10_greatest_115 rfl ?_
    obtain ⟨g1, h⟩ := h
    obtain ⟨g2, h⟩ := h
    refine b_icmp_gt 164 dX10_greatest_117 g1 g2 (by decide) (fun c1 => ?_) (fun c1 => ?_)
    · have h := ifT c1 h
      exact b_vret dX10_greatest_164 rfl h
    · have h := ifF c1 h
      refine b_aload_n dX10_greatest_120 rfl ?_
      refine b_getI dX10_greatest_121 fk_X10_601 ly_582 ?_
      obtain ⟨g3, h⟩ := h
      refine b_if_ne 164 dX10_greatest_124 g3 (by decide) (fun c2 => ?_) (fun c2 => ?_)
      · have h := ifF c2 h
        exact b_vret dX10_greatest_164 rfl h
      · have h := ifT (Decidable.of_not_not c2) h
        refine b_aload_n dX10_greatest_127 rfl ?_
        refine b_iload_n dX10_greatest_128 rfl ?_
        refine b_iload_n dX10_greatest_129 rfl ?_
        refine b_iconst dX10_greatest_130 ?_
        refine b_iload dX10_greatest_131 rfl ?_
        refine b_imul dX10_greatest_133 ?_
        refine b_iadd dX10_greatest_134 ?_
        refine b_ldcw (1594004) dX10_greatest_135 q2495 (by decide) ?_
        refine b_cVv (as := [vI x3, vI (x1 + (2 * x6)), vI 1594004]) (st := []) dX10_greatest_138 mf_X10_divideNumbers qs190 lk_X10_796 ly_582 rfl (p_X10_divideNumbers (f := 3) (Nat.le_refl _) _ _ _ _ h) (by omega) rfl rfl (Nat.le_of_ble_eq_true rfl) (by decide) rfl (fun _ => rfl) (fun r1 m1 h => ?_) (fun _ h => h)
        refine b_aload_n dX10_greatest_141 rfl ?_
        refine b_getI dX10_greatest_142 fk_X10_601 ly_582 ?_
        obtain ⟨g4, h⟩ := h
        refine b_if_ne 158 dX10_greatest_145 g4 (by decide) (fun c3 => ?_) (fun c3 => ?_)
        · have h := ifF c3 h
          refine b_iinc (ls' := [vR 582, vI x1, vU, vI x3, vU, vI x5, vI (x6 + 1)]) dX10_greatest_158 rfl rfl ?_
          refine b_goto 113 dX10_greatest_161 (by decide) ?_
          exact ih _ _ _ _ _ h
        · have h := ifT (Decidable.of_not_not c3) h
          refine b_aload_n dX10_greatest_148 rfl ?_
          refine b_iload_n dX10_greatest_149 rfl ?_
          refine b_iconst dX10_greatest_150 ?_
          refine b_iload dX10_greatest_151 rfl ?_
          refine b_imul dX10_greatest_153 ?_
          refine b_iadd dX10_greatest_154 ?_
          refine b_cVv (as := [vI (x1 + (2 * x6))]) (st := []) dX10_greatest_155 mf_X10_put qs175 lk_X10_644 ly_582 rfl (p_X10_put (f := 1) (Nat.le_refl _) _ _ h) (by omega) rfl rfl (Nat.le_of_ble_eq_true rfl) (by decide) rfl (fun _ => rfl) (fun r2 m2 h => ?_) (fun _ h => h)
          refine b_iinc (ls' := [vR 582, vI x1, vU, vI x3, vU, vI x5, vI (x6 + 1)]) dX10_greatest_158 rfl rfl ?_
          refine b_goto 113 dX10_greatest_161 (by decide) ?_
          exact ih _ _ _ _ _ h
theorem pl_X10_greatest_83 {f : Nat} {Q : Int → MM → Prop} {T : MM → Prop} (hf : 5 ≤ f) : ∀ (x1 : Int) (x3 : Int) (m : MM), P_X10_greatest_83 Q x1 x3 m → B f M_X10_greatest 83 [vR 582, vI x1, vU, vI x3, vU, vU, vU] [] m Q T := by
  intro x1 x3 m h
  have h : P_X10_degreeOf x1 m (fun r1 m1 => (RI r1) ∧ (if 0 ≤ r1 then P_X10_copy 1594004 (x1 + (2 * r1)) 2 m1 (fun r2 m2 => ∃ nn, P_X10_greatest_113 Q nn x1 x3 r1 0 m2) else Q 0 m1)) := h
  refine b_aload_n dX10_greatest_83 rfl ?_
  refine b_iload_n dX10_greatest_84 rfl ?_
  refine b_cVi (as := [vI x1]) (st := []) dX10_greatest_85 mf_X10_degreeOf qs192 lk_X10_799 ly_582 rfl (p_X10_degreeOf (f := 1) (Nat.le_refl _) _ _ h) (by omega) rfl rfl (Nat.le_of_ble_eq_true rfl) (by decide) rfl (fun _ => rfl) (fun r1 m1 h => ?_) (fun _ h => h)
  refine b_istore (ls' := [vR 582, vI x1, vU, vI x3, vU, vI r1, vU]) dX10_greatest_88 (Nat.le_of_ble_eq_true rfl) rfl ?_
  refine b_iload dX10_greatest_90 rfl ?_
  obtain ⟨g1, h⟩ := h
  refine b_if_ge 96 dX10_greatest_92 g1 (by decide) (fun c1 => ?_) (fun c1 => ?_)
  · have h := ifT c1 h
    refine b_aload_n dX10_greatest_96 rfl ?_
    refine b_ldcw (1594004) dX10_greatest_97 q2495 (by decide) ?_
    refine b_iload_n dX10_greatest_100 rfl ?_
    refine b_iconst dX10_greatest_101 ?_
    refine b_iload dX10_greatest_102 rfl ?_
    refine b_imul dX10_greatest_104 ?_
    refine b_iadd dX10_greatest_105 ?_
    refine b_iconst dX10_greatest_106 ?_
    refine b_cVv (as := [vI 1594004, vI (x1 + (2 * r1)), vI 2]) (st := []) dX10_greatest_107 mf_X10_copy qs164 lk_X10_658 ly_582 rfl (p_X10_copy (f := 1) (Nat.le_refl _) _ _ _ _ h) (by omega) rfl rfl (Nat.le_of_ble_eq_true rfl) (by decide) rfl (fun _ => rfl) (fun r2 m2 h => ?_) (fun _ h => h)
    refine b_iconst dX10_greatest_110 ?_
    refine b_istore (ls' := [vR 582, vI x1, vU, vI x3, vU, vI r1, vI 0]) dX10_greatest_111 (Nat.le_of_ble_eq_true rfl) rfl ?_
    obtain ⟨nn, h⟩ := h
    exact pl_X10_greatest_113 hf nn _ _ _ _ _ h
  · have h := ifF c1 h
    exact b_vret dX10_greatest_95 rfl h
theorem pl_X10_greatest_26 {f : Nat} {Q : Int → MM → Prop} {T : MM → Prop} (hf : 5 ≤ f) : ∀ (n : Nat) (x1 : Int) (x2 : Int) (x3 : Int) (x4 : Int) (m : MM), P_X10_greatest_26 Q n x1 x2 x3 x4 m → B f M_X10_greatest 26 [vR 582, vI x1, vI x2, vI x3, vI x4, vU, vU] [] m Q T := by
  intro n
  induction n with
  | zero => intro x1 x2 x3 x4 m h; exact h.elim
  | succ n ih =>
    intro x1 x2 x3 x4 m h
    have h : P_X10_isZero x2 14 m (fun r1 m1 => (RI r1) ∧ (if r1 = 0 then (RI (m1 582 84)) ∧ (if (m1 582 84) = 0 then P_X10_divide x1 x2 x3 x4 m1 (fun r2 m2 => (RI (m2 582 84)) ∧ (if (m2 582 84) ≤ 0 then P_X10_copy x1 x2 882 m2 (fun r3 m3 => P_X10_copy x2 1593000 882 m3 (fun r4 m4 => P_X10_greatest_26 Q n x1 x2 x3 x4 m4)) else Q 0 m2)) else P_X10_greatest_83 Q x1 x3 m1) else P_X10_greatest_83 Q x1 x3 m1)) := h
    refine b_aload_n dX10_greatest_26 rfl ?_
    refine b_iload_n dX10_greatest_27 rfl ?_
    refine b_bipush dX10_greatest_28 (by decide) ?_
    refine b_cVi (as := [vI x2, vI 14]) (st := []) dX10_greatest_30 mf_X10_isZero qs179 lk_X10_671 ly_582 rfl (p_X10_isZero (f := 1) (Nat.le_refl _) _ _ _ h) (by omega) rfl rfl (Nat.le_of_ble_eq_true rfl) (by decide) rfl (fun _ => rfl) (fun r1 m1 h => ?_) (fun _ h => h)
    obtain ⟨g1, h⟩ := h
    refine b_if_ne 83 dX10_greatest_33 g1 (by decide) (fun c1 => ?_) (fun c1 => ?_)
    · have h := ifF c1 h
      refine b_fgt [true, true, false, true, false, false, false] (ls' := [vR 582, vI x1, vU, vI x3, vU, vU, vU]) rfl rfl ?_
      exact pl_X10_greatest_83 hf _ _ _ h
    · have h := ifT (Decidable.of_not_not c1) h
      refine b_aload_n dX10_greatest_36 rfl ?_
      refine b_getI dX10_greatest_37 fk_X10_601 ly_582 ?_
      obtain ⟨g2, h⟩ := h
      refine b_if_ne 83 dX10_greatest_40 g2 (by decide) (fun c2 => ?_) (fun c2 => ?_)
      · have h := ifF c2 h
        refine b_fgt [true, true, false, true, false, false, false] (ls' := [vR 582, vI x1, vU, vI x3, vU, vU, vU]) rfl rfl ?_
        exact pl_X10_greatest_83 hf _ _ _ h
      · have h := ifT (Decidable.of_not_not c2) h
        refine b_aload_n dX10_greatest_43 rfl ?_
        refine b_iload_n dX10_greatest_44 rfl ?_
        refine b_iload_n dX10_greatest_45 rfl ?_
        refine b_iload_n dX10_greatest_46 rfl ?_
        refine b_iload dX10_greatest_47 rfl ?_
        refine b_cVv (as := [vI x1, vI x2, vI x3, vI x4]) (st := []) dX10_greatest_49 mf_X10_divide qs191 lk_X10_793 ly_582 rfl (p_X10_divide (f := 4) (Nat.le_refl _) _ _ _ _ _ h) (by omega) rfl rfl (Nat.le_of_ble_eq_true rfl) (by decide) rfl (fun _ => rfl) (fun r2 m2 h => ?_) (fun _ h => h)
        refine b_aload_n dX10_greatest_52 rfl ?_
        refine b_getI dX10_greatest_53 fk_X10_601 ly_582 ?_
        obtain ⟨g3, h⟩ := h
        refine b_if_le 60 dX10_greatest_56 g3 (by decide) (fun c3 => ?_) (fun c3 => ?_)
        · have h := ifT c3 h
          refine b_aload_n dX10_greatest_60 rfl ?_
          refine b_iload_n dX10_greatest_61 rfl ?_
          refine b_iload_n dX10_greatest_62 rfl ?_
          refine b_sipush dX10_greatest_63 (by decide) ?_
          refine b_cVv (as := [vI x1, vI x2, vI 882]) (st := []) dX10_greatest_66 mf_X10_copy qs164 lk_X10_658 ly_582 rfl (p_X10_copy (f := 1) (Nat.le_refl _) _ _ _ _ h) (by omega) rfl rfl (Nat.le_of_ble_eq_true rfl) (by decide) rfl (fun _ => rfl) (fun r3 m3 h => ?_) (fun _ h => h)
          refine b_aload_n dX10_greatest_69 rfl ?_
          refine b_iload_n dX10_greatest_70 rfl ?_
          refine b_ldcw (1593000) dX10_greatest_71 q2347 (by decide) ?_
          refine b_sipush dX10_greatest_74 (by decide) ?_
          refine b_cVv (as := [vI x2, vI 1593000, vI 882]) (st := []) dX10_greatest_77 mf_X10_copy qs164 lk_X10_658 ly_582 rfl (p_X10_copy (f := 1) (Nat.le_refl _) _ _ _ _ h) (by omega) rfl rfl (Nat.le_of_ble_eq_true rfl) (by decide) rfl (fun _ => rfl) (fun r4 m4 h => ?_) (fun _ h => h)
          refine b_goto 26 dX10_greatest_80 (by decide) ?_
          exact ih _ _ _ _ _ h
        · have h := ifF c3 h
          exact b_vret dX10_greatest_59 rfl h
theorem p_X10_greatest {f : Nat} {Q : Int → MM → Prop} {T : MM → Prop} (hf : 5 ≤ f) (x1 : Int) (x2 : Int) (x3 : Int) (x4 : Int) (m : MM) (h : P_X10_greatest x1 x2 x3 x4 m Q) : CC f M_X10_greatest [vR 582, vI x1, vI x2, vI x3, vI x4] m Q T := by
  refine CC.of (plainFor_of_name (by decide)) (Nat.le_of_ble_eq_true rfl) (ls := [vR 582, vI x1, vI x2, vI x3, vI x4, vU, vU]) rfl ?_
  have h : (RI x4) ∧ (if x4 = 0 then (0 ≤ x1 ∧ x1 < 1600000) ∧ (0 ≤ x2 ∧ x2 < 1600000) ∧ P_X10_common (m 635 x1) (m 635 x2) m (fun r1 m1 => P_X10_tellNumber x1 r1 m1 (fun r2 m2 => Q 0 m2)) else ∃ nn, P_X10_greatest_26 Q nn x1 x2 x3 x4 m) := h
  refine b_iload dX10_greatest_0 rfl ?_
  obtain ⟨g1, h⟩ := h
  refine b_if_ne 26 dX10_greatest_2 g1 (by decide) (fun c1 => ?_) (fun c1 => ?_)
  · have h := ifF c1 h
    obtain ⟨nn, h⟩ := h
    exact pl_X10_greatest_26 hf nn _ _ _ _ _ h
  · have h := ifT (Decidable.of_not_not c1) h
    refine b_aload_n dX10_greatest_5 rfl ?_
    refine b_iload_n dX10_greatest_6 rfl ?_
    refine b_aload_n dX10_greatest_7 rfl ?_
    refine b_getR dX10_greatest_8 fk_X10_250 ly_582 gg_582_85 ?_
    refine b_iload_n dX10_greatest_11 rfl ?_
    obtain ⟨g2, h⟩ := h
    refine b_lald dX10_greatest_12 ly_635 g2 ?_
    refine b_aload_n dX10_greatest_13 rfl ?_
    refine b_getR dX10_greatest_14 fk_X10_250 ly_582 gg_582_85 ?_
    refine b_iload_n dX10_greatest_17 rfl ?_
    obtain ⟨g3, h⟩ := h
    refine b_lald dX10_greatest_18 ly_635 g3 ?_
    refine b_cSl (as := [vL (m 635 x1), vL (m 635 x2)]) (st := [vI x1, vR 582]) dX10_greatest_19 mf_X10_common lk_X10_619 (p_X10_common (f := 1) (Nat.le_refl _) _ _ _ h) (by omega) rfl rfl (Nat.le_of_ble_eq_true rfl) (by decide) rfl (fun _ => rfl) (fun r1 m1 h => ?_) (fun _ h => h)
    refine b_cVv (as := [vI x1, vL r1]) (st := []) dX10_greatest_22 mf_X10_tellNumber qs198 lk_X10_832 ly_582 rfl (p_X10_tellNumber (f := 3) (Nat.le_refl _) _ _ _ h) (by omega) rfl rfl (Nat.le_of_ble_eq_true rfl) (by decide) rfl (fun _ => rfl) (fun r2 m2 h => ?_) (fun _ h => h)
    exact b_vret dX10_greatest_25 rfl h
theorem dX10_divideBy_0 : decode cX10_divideBy 0 = .ok (.iconst 0, 1) := by decide +kernel
theorem dX10_divideBy_1 : decode cX10_divideBy 1 = .ok (.istore 6, 2) := by decide +kernel
theorem dX10_divideBy_3 : decode cX10_divideBy 3 = .ok (.iload 6, 2) := by decide +kernel
theorem dX10_divideBy_5 : decode cX10_divideBy 5 = .ok (.iload 5, 2) := by decide +kernel
theorem dX10_divideBy_7 : decode cX10_divideBy 7 = .ok (.invokestatic 674, 3) := by decide +kernel
theorem dX10_divideBy_10 : decode cX10_divideBy 10 = .ok (.if_icmp .ge 91, 3) := by decide +kernel
theorem dX10_divideBy_13 : decode cX10_divideBy 13 = .ok (.iconst 0, 1) := by decide +kernel
theorem dX10_divideBy_14 : decode cX10_divideBy 14 = .ok (.istore 7, 2) := by decide +kernel
theorem dX10_divideBy_16 : decode cX10_divideBy 16 = .ok (.iload 7, 2) := by decide +kernel
theorem dX10_divideBy_18 : decode cX10_divideBy 18 = .ok (.iload 5, 2) := by decide +kernel
theorem dX10_divideBy_20 : decode cX10_divideBy 20 = .ok (.invokestatic 674, 3) := by decide +kernel
theorem dX10_divideBy_23 : decode cX10_divideBy 23 = .ok (.if_icmp .ge 72, 3) := by decide +kernel
theorem dX10_divideBy_26 : decode cX10_divideBy 26 = .ok (.iload_n 1, 1) := by decide +kernel
theorem dX10_divideBy_27 : decode cX10_divideBy 27 = .ok (.iload 6, 2) := by decide +kernel
theorem dX10_divideBy_29 : decode cX10_divideBy 29 = .ok (.iload 7, 2) := by decide +kernel
theorem dX10_divideBy_31 : decode cX10_divideBy 31 = .ok (.invokestatic 677, 3) := by decide +kernel
theorem dX10_divideBy_34 : decode cX10_divideBy 34 = .ok (.istore 8, 2) := by decide +kernel
theorem dX10_divideBy_36 : decode cX10_divideBy 36 = .ok (.iconst 0, 1) := by decide +kernel
theorem dX10_divideBy_37 : decode cX10_divideBy 37 = .ok (.istore 9, 2) := by decide +kernel
theorem dX10_divideBy_39 : decode cX10_divideBy 39 = .ok (.iload 9, 2) := by decide +kernel
theorem dX10_divideBy_41 : decode cX10_divideBy 41 = .ok (.iload 4, 2) := by decide +kernel
theorem dX10_divideBy_43 : decode cX10_divideBy 43 = .ok (.invokestatic 637, 3) := by decide +kernel
theorem dX10_divideBy_46 : decode cX10_divideBy 46 = .ok (.if_icmp .ge 43, 3) := by decide +kernel
theorem dX10_divideBy_49 : decode cX10_divideBy 49 = .ok (.aload_n 0, 1) := by decide +kernel
theorem dX10_divideBy_50 : decode cX10_divideBy 50 = .ok (.getfield 601, 3) := by decide +kernel
theorem dX10_divideBy_53 : decode cX10_divideBy 53 = .ok (.ifCond .ne 36, 3) := by decide +kernel
theorem dX10_divideBy_56 : decode cX10_divideBy 56 = .ok (.aload_n 0, 1) := by decide +kernel
theorem dX10_divideBy_57 : decode cX10_divideBy 57 = .ok (.iload_n 3, 1) := by decide +kernel
theorem dX10_divideBy_58 : decode cX10_divideBy 58 = .ok (.iload 8, 2) := by decide +kernel
theorem dX10_divideBy_60 : decode cX10_divideBy 60 = .ok (.iload 9, 2) := by decide +kernel
theorem dX10_divideBy_62 : decode cX10_divideBy 62 = .ok (.iadd, 1) := by decide +kernel
theorem dX10_divideBy_63 : decode cX10_divideBy 63 = .ok (.iload_n 2, 1) := by decide +kernel
theorem dX10_divideBy_64 : decode cX10_divideBy 64 = .ok (.invokevirtual 796, 3) := by decide +kernel
theorem dX10_divideBy_67 : decode cX10_divideBy 67 = .ok (.aload_n 0, 1) := by decide +kernel
theorem dX10_divideBy_68 : decode cX10_divideBy 68 = .ok (.getfield 601, 3) := by decide +kernel
theorem dX10_divideBy_71 : decode cX10_divideBy 71 = .ok (.ifCond .ne 12, 3) := by decide +kernel
theorem dX10_divideBy_74 : decode cX10_divideBy 74 = .ok (.aload_n 0, 1) := by decide +kernel
theorem dX10_divideBy_75 : decode cX10_divideBy 75 = .ok (.iload 8, 2) := by decide +kernel
theorem dX10_divideBy_77 : decode cX10_divideBy 77 = .ok (.iload 9, 2) := by decide +kernel
theorem dX10_divideBy_79 : decode cX10_divideBy 79 = .ok (.iadd, 1) := by decide +kernel
theorem dX10_divideBy_80 : decode cX10_divideBy 80 = .ok (.invokevirtual 644, 3) := by decide +kernel
theorem dX10_divideBy_83 : decode cX10_divideBy 83 = .ok (.iinc 9 2, 3) := by decide +kernel
theorem dX10_divideBy_86 : decode cX10_divideBy 86 = .ok (.goto (-47), 3) := by decide +kernel
theorem dX10_divideBy_89 : decode cX10_divideBy 89 = .ok (.iinc 7 1, 3) := by decide +kernel
theorem dX10_divideBy_92 : decode cX10_divideBy 92 = .ok (.goto (-76), 3) := by decide +kernel
theorem dX10_divideBy_95 : decode cX10_divideBy 95 = .ok (.iinc 6 1, 3) := by decide +kernel
theorem dX10_divideBy_98 : decode cX10_divideBy 98 = .ok (.goto (-95), 3) := by decide +kernel
theorem dX10_divideBy_101 : decode cX10_divideBy 101 = .ok (.return_, 1) := by decide +kernel
/-! AlgebraHouseModel.divideBy(IIIII)V -/
def P_X10_divideBy_39 (Q : Int → MM → Prop) (K3 : Int → Int → Int → Int → Int → Int → MM → Prop) (K16 : Int → Int → Int → Int → Int → Int → Int → MM → Prop) : Nat → Int → Int → Int → Int → Int → Int → Int → Int → Int → MM → Prop
  | 0, _, _, _, _, _, _, _, _, _, _ => False
  | n + 1, x1, x2, x3, x4, x5, x6, x7, x8, x9, m => P_X10_width x4 m (fun r1 m1 => (RI x9) ∧ (RI r1) ∧ (if r1 ≤ x9 then K16 x1 x2 x3 x4 x5 x6 (x7 + 1) m1 else (RI (m1 582 84)) ∧ (if (m1 582 84) = 0 then P_X10_divideNumbers x3 (x8 + x9) x2 m1 (fun r2 m2 => (RI (m2 582 84)) ∧ (if (m2 582 84) = 0 then P_X10_put (x8 + x9) m2 (fun r3 m3 => P_X10_divideBy_39 Q K3 K16 n x1 x2 x3 x4 x5 x6 x7 x8 (x9 + 2) m3) else P_X10_divideBy_39 Q K3 K16 n x1 x2 x3 x4 x5 x6 x7 x8 (x9 + 2) m2)) else K16 x1 x2 x3 x4 x5 x6 (x7 + 1) m1)))
def P_X10_divideBy_16 (Q : Int → MM → Prop) (K3 : Int → Int → Int → Int → Int → Int → MM → Prop) : Nat → Int → Int → Int → Int → Int → Int → Int → MM → Prop
  | 0, _, _, _, _, _, _, _, _ => False
  | n + 1, x1, x2, x3, x4, x5, x6, x7, m => P_X10_rows x5 m (fun r1 m1 => (RI x7) ∧ (RI r1) ∧ (if r1 ≤ x7 then K3 x1 x2 x3 x4 x5 (x6 + 1) m1 else P_X10_entryAt x1 x6 x7 m1 (fun r2 m2 => ∃ nn, P_X10_divideBy_39 Q K3 (fun z0 z1 z2 z3 z4 z5 z6 z7 => P_X10_divideBy_16 Q K3 n z0 z1 z2 z3 z4 z5 z6 z7) nn x1 x2 x3 x4 x5 x6 x7 r2 0 m2)))
def P_X10_divideBy_3 (Q : Int → MM → Prop) : Nat → Int → Int → Int → Int → Int → Int → MM → Prop
  | 0, _, _, _, _, _, _, _ => False
  | n + 1, x1, x2, x3, x4, x5, x6, m => P_X10_rows x5 m (fun r1 m1 => (RI x6) ∧ (RI r1) ∧ (if r1 ≤ x6 then Q 0 m1 else ∃ nn, P_X10_divideBy_16 Q (fun z0 z1 z2 z3 z4 z5 z6 => P_X10_divideBy_3 Q n z0 z1 z2 z3 z4 z5 z6) nn x1 x2 x3 x4 x5 x6 0 m1))
def P_X10_divideBy (x1 : Int) (x2 : Int) (x3 : Int) (x4 : Int) (x5 : Int) (m : MM) (Q : Int → MM → Prop) : Prop := ∃ nn, P_X10_divideBy_3 Q nn x1 x2 x3 x4 x5 0 m
theorem pl_X10_divideBy_39 {f : Nat} {Q : Int → MM → Prop} {T : MM → Prop} (hf : 4 ≤ f) {K3 : Int → Int → Int → Int → Int → Int → MM → Prop} {K16 : Int → Int → Int → Int → Int → Int → Int → MM → Prop} (hK3 : ∀ (x1 : Int) (x2 : Int) (x3 : Int) (x4 : Int) (x5 : Int) (x6 : Int) (m : MM), K3 x1 x2 x3 x4 x5 x6 m → B f M_X10_divideBy 3 [vR 582, vI x1, vI x2, vI x3, vI x4, vI x5, vI x6, vU, vU, vU] [] m Q T) (hK16 : ∀ (x1 : Int) (x2 : Int) (x3 : Int) (x4 : Int) (x5 : Int) (x6 : Int) (x7 : Int) (m : MM), K16 x1 x2 x3 x4 x5 x6 x7 m → B f M_X10_divideBy 16 [vR 582, vI x1, vI x2, vI x3, vI x4, vI x5, vI x6, vI x7, vU, vU] [] m Q T) : ∀ (n : Nat) (x1 : Int) (x2 : Int) (x3 : Int) (x4 : Int) (x5 : Int) (x6 : Int) (x7 : Int) (x8 : Int) (x9 : Int) (m : MM), P_X10_divideBy_39 Q K3 K16 n x1 x2 x3 x4 x5 x6 x7 x8 x9 m → B f M_X10_divideBy 39 [vR 582, vI x1, vI x2, vI x3, vI x4, vI x5, vI x6, vI x7, vI x8, vI x9] [] m Q T := by
  intro n
  induction n with
  | zero => intro x1 x2 x3 x4 x5 x6 x7 x8 x9 m h; exact h.elim
  | succ n ih =>
    intro x1 x2 x3 x4 x5 x6 x7 x8 x9 m h
    have h : P_X10_width x4 m (fun r1 m1 => (RI x9) ∧ (RI r1) ∧ (if r1 ≤ x9 then K16 x1 x2 x3 x4 x5 x6 (x7 + 1) m1 else (RI (m1 582 84)) ∧ (if (m1 582 84) = 0 then P_X10_divideNumbers x3 (x8 + x9) x2 m1 (fun r2 m2 => (RI (m2 582 84)) ∧ (if (m2 582 84) = 0 then P_X10_put (x8 + x9) m2 (fun r3 m3 => P_X10_divideBy_39 Q K3 K16 n x1 x2 x3 x4 x5 x6 x7 x8 (x9 + 2) m3) else P_X10_divideBy_39 Q K3 K16 n x1 x2 x3 x4 x5 x6 x7 x8 (x9 + 2) m2)) else K16 x1 x2 x3 x4 x5 x6 (x7 + 1) m1))) := h
    refine b_iload dX10_divideBy_39 rfl ?_
    refine b_iload dX10_divideBy_41 rfl ?_
    refine b_cSi (as := [vI x4]) (st := [vI x9]) dX10_divideBy_43 mf_X10_width lk_X10_637 (p_X10_width (f := 1) (Nat.le_refl _) _ _ h) (by omega) rfl rfl (Nat.le_of_ble_eq_true rfl) (by decide) rfl (fun _ => rfl) (fun r1 m1 h => ?_) (fun _ h => h)
    obtain ⟨g1, h⟩ := h
    obtain ⟨g2, h⟩ := h
    refine b_icmp_ge 89 dX10_divideBy_46 g1 g2 (by decide) (fun c1 => ?_) (fun c1 => ?_)
    · have h := ifT c1 h
      refine b_iinc (ls' := [vR 582, vI x1, vI x2, vI x3, vI x4, vI x5, vI x6, vI (x7 + 1), vI x8, vI x9]) dX10_divideBy_89 rfl rfl ?_
      refine b_goto 16 dX10_divideBy_92 (by decide) ?_
      refine b_fgt [true, true, true, true, true, true, true, true, false, false] (ls' := [vR 582, vI x1, vI x2, vI x3, vI x4, vI x5, vI x6, vI (x7 + 1), vU, vU]) rfl rfl ?_
      exact hK16 _ _ _ _ _ _ _ _ h
    · have h := ifF c1 h
      refine b_aload_n dX10_divideBy_49 rfl ?_
      refine b_getI dX10_divideBy_50 fk_X10_601 ly_582 ?_
      obtain ⟨g3, h⟩ := h
      refine b_if_ne 89 dX10_divideBy_53 g3 (by decide) (fun c2 => ?_) (fun c2 => ?_)
      · have h := ifF c2 h
        refine b_iinc (ls' := [vR 582, vI x1, vI x2, vI x3, vI x4, vI x5, vI x6, vI (x7 + 1), vI x8, vI x9]) dX10_divideBy_89 rfl rfl ?_
        refine b_goto 16 dX10_divideBy_92 (by decide) ?_
        refine b_fgt [true, true, true, true, true, true, true, true, false, false] (ls' := [vR 582, vI x1, vI x2, vI x3, vI x4, vI x5, vI x6, vI (x7 + 1), vU, vU]) rfl rfl ?_
        exact hK16 _ _ _ _ _ _ _ _ h
      · have h := ifT (Decidable.of_not_not c2) h
        refine b_aload_n dX10_divideBy_56 rfl ?_
        refine b_iload_n dX10_divideBy_57 rfl ?_
        refine b_iload dX10_divideBy_58 rfl ?_
        refine b_iload dX10_divideBy_60 rfl ?_
        refine b_iadd dX10_divideBy_62 ?_
        refine b_iload_n dX10_divideBy_63 rfl ?_
        refine b_cVv (as := [vI x3, vI (x8 + x9), vI x2]) (st := []) dX10_divideBy_64 mf_X10_divideNumbers qs190 lk_X10_796 ly_582 rfl (p_X10_divideNumbers (f := 3) (Nat.le_refl _) _ _ _ _ h) (by omega) rfl rfl (Nat.le_of_ble_eq_true rfl) (by decide) rfl (fun _ => rfl) (fun r2 m2 h => ?_) (fun _ h => h)
        refine b_aload_n dX10_divideBy_67 rfl ?_
        refine b_getI dX10_divideBy_68 fk_X10_601 ly_582 ?_
        obtain ⟨g4, h⟩ := h
        refine b_if_ne 83 dX10_divideBy_71 g4 (by decide) (fun c3 => ?_) (fun c3 => ?_)
        · have h := ifF c3 h
          refine b_iinc (ls' := [vR 582, vI x1, vI x2, vI x3, vI x4, vI x5, vI x6, vI x7, vI x8, vI (x9 + 2)]) dX10_divideBy_83 rfl rfl ?_
          refine b_goto 39 dX10_divideBy_86 (by decide) ?_
          exact ih _ _ _ _ _ _ _ _ _ _ h
        · have h := ifT (Decidable.of_not_not c3) h
          refine b_aload_n dX10_divideBy_74 rfl ?_
          refine b_iload dX10_divideBy_75 rfl ?_
          refine b_iload dX10_divideBy_77 rfl ?_
          refine b_iadd dX10_divideBy_79 ?_
          refine b_cVv (as := [vI (x8 + x9)]) (st := []) dX10_divideBy_80 mf_X10_put qs175 lk_X10_644 ly_582 rfl (p_X10_put (f := 1) (Nat.le_refl _) _ _ h) (by omega) rfl rfl (Nat.le_of_ble_eq_true rfl) (by decide) rfl (fun _ => rfl) (fun r3 m3 h => ?_) (fun _ h => h)
          refine b_iinc (ls' := [vR 582, vI x1, vI x2, vI x3, vI x4, vI x5, vI x6, vI x7, vI x8, vI (x9 + 2)]) dX10_divideBy_83 rfl rfl ?_
          refine b_goto 39 dX10_divideBy_86 (by decide) ?_
          exact ih _ _ _ _ _ _ _ _ _ _ h
theorem pl_X10_divideBy_16 {f : Nat} {Q : Int → MM → Prop} {T : MM → Prop} (hf : 4 ≤ f) {K3 : Int → Int → Int → Int → Int → Int → MM → Prop} (hK3 : ∀ (x1 : Int) (x2 : Int) (x3 : Int) (x4 : Int) (x5 : Int) (x6 : Int) (m : MM), K3 x1 x2 x3 x4 x5 x6 m → B f M_X10_divideBy 3 [vR 582, vI x1, vI x2, vI x3, vI x4, vI x5, vI x6, vU, vU, vU] [] m Q T) : ∀ (n : Nat) (x1 : Int) (x2 : Int) (x3 : Int) (x4 : Int) (x5 : Int) (x6 : Int) (x7 : Int) (m : MM), P_X10_divideBy_16 Q K3 n x1 x2 x3 x4 x5 x6 x7 m → B f M_X10_divideBy 16 [vR 582, vI x1, vI x2, vI x3, vI x4, vI x5, vI x6, vI x7, vU, vU] [] m Q T := by
  intro n
  induction n with
  | zero => intro x1 x2 x3 x4 x5 x6 x7 m h; exact h.elim
  | succ n ih =>
    intro x1 x2 x3 x4 x5 x6 x7 m h
    have h : P_X10_rows x5 m (fun r1 m1 => (RI x7) ∧ (RI r1) ∧ (if r1 ≤ x7 then K3 x1 x2 x3 x4 x5 (x6 + 1) m1 else P_X10_entryAt x1 x6 x7 m1 (fun r2 m2 => ∃ nn, P_X10_divideBy_39 Q K3 (fun z0 z1 z2 z3 z4 z5 z6 z7 => P_X10_divideBy_16 Q K3 n z0 z1 z2 z3 z4 z5 z6 z7) nn x1 x2 x3 x4 x5 x6 x7 r2 0 m2))) := h
    refine b_iload dX10_divideBy_16 rfl ?_
    refine b_iload dX10_divideBy_18 rfl ?_
    refine b_cSi (as := [vI x5]) (st := [vI x7]) dX10_divideBy_20 mf_X10_rows lk_X10_674 (p_X10_rows (f := 1) (Nat.le_refl _) _ _ h) (by omega) rfl rfl (Nat.le_of_ble_eq_true rfl) (by decide) rfl (fun _ => rfl) (fun r1 m1 h => ?_) (fun _ h => h)
    obtain ⟨g1, h⟩ := h
    obtain ⟨g2, h⟩ := h
    refine b_icmp_ge 95 dX10_divideBy_23 g1 g2 (by decide) (fun c1 => ?_) (fun c1 => ?_)
    · have h := ifT c1 h
      refine b_iinc (ls' := [vR 582, vI x1, vI x2, vI x3, vI x4, vI x5, vI (x6 + 1), vI x7, vU, vU]) dX10_divideBy_95 rfl rfl ?_
      refine b_goto 3 dX10_divideBy_98 (by decide) ?_
      refine b_fgt [true, true, true, true, true, true, true, false, false, false] (ls' := [vR 582, vI x1, vI x2, vI x3, vI x4, vI x5, vI (x6 + 1), vU, vU, vU]) rfl rfl ?_
      exact hK3 _ _ _ _ _ _ _ h
    · have h := ifF c1 h
      refine b_iload_n dX10_divideBy_26 rfl ?_
      refine b_iload dX10_divideBy_27 rfl ?_
      refine b_iload dX10_divideBy_29 rfl ?_
      refine b_cSi (as := [vI x1, vI x6, vI x7]) (st := []) dX10_divideBy_31 mf_X10_entryAt lk_X10_677 (p_X10_entryAt (f := 1) (Nat.le_refl _) _ _ _ _ h) (by omega) rfl rfl (Nat.le_of_ble_eq_true rfl) (by decide) rfl (fun _ => rfl) (fun r2 m2 h => ?_) (fun _ h => h)
      refine b_istore (ls' := [vR 582, vI x1, vI x2, vI x3, vI x4, vI x5, vI x6, vI x7, vI r2, vU]) dX10_divideBy_34 (Nat.le_of_ble_eq_true rfl) rfl ?_
      refine b_iconst dX10_divideBy_36 ?_
      refine b_istore (ls' := [vR 582, vI x1, vI x2, vI x3, vI x4, vI x5, vI x6, vI x7, vI r2, vI 0]) dX10_divideBy_37 (Nat.le_of_ble_eq_true rfl) rfl ?_
      obtain ⟨nn, h⟩ := h
      exact pl_X10_divideBy_39 hf hK3 (fun _ _ _ _ _ _ _ _ h => ih _ _ _ _ _ _ _ _ h) nn _ _ _ _ _ _ _ _ _ _ h
theorem pl_X10_divideBy_3 {f : Nat} {Q : Int → MM → Prop} {T : MM → Prop} (hf : 4 ≤ f) : ∀ (n : Nat) (x1 : Int) (x2 : Int) (x3 : Int) (x4 : Int) (x5 : Int) (x6 : Int) (m : MM), P_X10_divideBy_3 Q n x1 x2 x3 x4 x5 x6 m → B f M_X10_divideBy 3 [vR 582, vI x1, vI x2, vI x3, vI x4, vI x5, vI x6, vU, vU, vU] [] m Q T := by
  intro n
  induction n with
  | zero => intro x1 x2 x3 x4 x5 x6 m h; exact h.elim
  | succ n ih =>
    intro x1 x2 x3 x4 x5 x6 m h
    have h : P_X10_rows x5 m (fun r1 m1 => (RI x6) ∧ (RI r1) ∧ (if r1 ≤ x6 then Q 0 m1 else ∃ nn, P_X10_divideBy_16 Q (fun z0 z1 z2 z3 z4 z5 z6 => P_X10_divideBy_3 Q n z0 z1 z2 z3 z4 z5 z6) nn x1 x2 x3 x4 x5 x6 0 m1)) := h
    refine b_iload dX10_divideBy_3 rfl ?_
    refine b_iload dX10_divideBy_5 rfl ?_
    refine b_cSi (as := [vI x5]) (st := [vI x6]) dX10_divideBy_7 mf_X10_rows lk_X10_674 (p_X10_rows (f := 1) (Nat.le_refl _) _ _ h) (by omega) rfl rfl (Nat.le_of_ble_eq_true rfl) (by decide) rfl (fun _ => rfl) (fun r1 m1 h => ?_) (fun _ h => h)
    obtain ⟨g1, h⟩ := h
    obtain ⟨g2, h⟩ := h
    refine b_icmp_ge 101 dX10_divideBy_10 g1 g2 (by decide) (fun c1 => ?_) (fun c1 => ?_)
    · have h := ifT c1 h
      exact b_vret dX10_divideBy_101 rfl h
    · have h := ifF c1 h
      refine b_iconst dX10_divideBy_13 ?_
      refine b_istore (ls' := [vR 582, vI x1, vI x2, vI x3, vI x4, vI x5, vI x6, vI 0, vU, vU]) dX10_divideBy_14 (Nat.le_of_ble_eq_true rfl) rfl ?_
      obtain ⟨nn, h⟩ := h
      exact pl_X10_divideBy_16 hf (fun _ _ _ _ _ _ _ h => ih _ _ _ _ _ _ _ h) nn _ _ _ _ _ _ _ _ h
theorem p_X10_divideBy {f : Nat} {Q : Int → MM → Prop} {T : MM → Prop} (hf : 4 ≤ f) (x1 : Int) (x2 : Int) (x3 : Int) (x4 : Int) (x5 : Int) (m : MM) (h : P_X10_divideBy x1 x2 x3 x4 x5 m Q) : CC f M_X10_divideBy [vR 582, vI x1, vI x2, vI x3, vI x4, vI x5] m Q T := by
  refine CC.of (plainFor_of_name (by decide)) (Nat.le_of_ble_eq_true rfl) (ls := [vR 582, vI x1, vI x2, vI x3, vI x4, vI x5, vU, vU, vU, vU]) rfl ?_
  have h : ∃ nn, P_X10_divideBy_3 Q nn x1 x2 x3 x4 x5 0 m := h
  refine b_iconst dX10_divideBy_0 ?_
  refine b_istore (ls' := [vR 582, vI x1, vI x2, vI x3, vI x4, vI x5, vI 0, vU, vU, vU]) dX10_divideBy_1 (Nat.le_of_ble_eq_true rfl) rfl ?_
  obtain ⟨nn, h⟩ := h
  exact pl_X10_divideBy_3 hf nn _ _ _ _ _ _ _ h
theorem dX10_invert_0 : decode cX10_invert 0 = .ok (.iload_n 3, 1) := by decide +kernel
theorem dX10_invert_1 : decode cX10_invert 1 = .ok (.ifCond .ne 40, 3) := by decide +kernel
theorem dX10_invert_4 : decode cX10_invert 4 = .ok (.aload_n 0, 1) := by decide +kernel
theorem dX10_invert_5 : decode cX10_invert 5 = .ok (.ldc_w 750, 3) := by decide +kernel
theorem dX10_invert_8 : decode cX10_invert 8 = .ok (.iload_n 1, 1) := by decide +kernel
theorem dX10_invert_9 : decode cX10_invert 9 = .ok (.iconst 2, 1) := by decide +kernel
theorem dX10_invert_10 : decode cX10_invert 10 = .ok (.invokevirtual 658, 3) := by decide +kernel
theorem dX10_invert_13 : decode cX10_invert 13 = .ok (.aload_n 0, 1) := by decide +kernel
theorem dX10_invert_14 : decode cX10_invert 14 = .ok (.iload_n 1, 1) := by decide +kernel
theorem dX10_invert_15 : decode cX10_invert 15 = .ok (.lconst 1, 1) := by decide +kernel
theorem dX10_invert_16 : decode cX10_invert 16 = .ok (.invokevirtual 633, 3) := by decide +kernel
theorem dX10_invert_19 : decode cX10_invert 19 = .ok (.aload_n 0, 1) := by decide +kernel
theorem dX10_invert_20 : decode cX10_invert 20 = .ok (.iload_n 2, 1) := by decide +kernel
theorem dX10_invert_21 : decode cX10_invert 21 = .ok (.iload_n 1, 1) := by decide +kernel
theorem dX10_invert_22 : decode cX10_invert 22 = .ok (.ldc_w 750, 3) := by decide +kernel
theorem dX10_invert_25 : decode cX10_invert 25 = .ok (.invokevirtual 796, 3) := by decide +kernel
theorem dX10_invert_28 : decode cX10_invert 28 = .ok (.aload_n 0, 1) := by decide +kernel
theorem dX10_invert_29 : decode cX10_invert 29 = .ok (.getfield 601, 3) := by decide +kernel
theorem dX10_invert_32 : decode cX10_invert 32 = .ok (.ifCond .ne 8, 3) := by decide +kernel
theorem dX10_invert_35 : decode cX10_invert 35 = .ok (.aload_n 0, 1) := by decide +kernel
theorem dX10_invert_36 : decode cX10_invert 36 = .ok (.iload_n 1, 1) := by decide +kernel
theorem dX10_invert_37 : decode cX10_invert 37 = .ok (.invokevirtual 644, 3) := by decide +kernel
theorem dX10_invert_40 : decode cX10_invert 40 = .ok (.return_, 1) := by decide +kernel
theorem dX10_invert_41 : decode cX10_invert 41 = .ok (.aload_n 0, 1) := by decide +kernel
theorem dX10_invert_42 : decode cX10_invert 42 = .ok (.ldc_w 688, 3) := by decide +kernel
theorem dX10_invert_45 : decode cX10_invert 45 = .ok (.iload_n 1, 1) := by decide +kernel
theorem dX10_invert_46 : decode cX10_invert 46 = .ok (.iload_n 2, 1) := by decide +kernel
theorem dX10_invert_47 : decode cX10_invert 47 = .ok (.iconst 0, 1) := by decide +kernel
theorem dX10_invert_48 : decode cX10_invert 48 = .ok (.iload_n 3, 1) := by decide +kernel
theorem dX10_invert_49 : decode cX10_invert 49 = .ok (.invokevirtual 845, 3) := by decide +kernel
theorem dX10_invert_52 : decode cX10_invert 52 = .ok (.aload_n 0, 1) := by decide +kernel
theorem dX10_invert_53 : decode cX10_invert 53 = .ok (.getfield 601, 3) := by decide +kernel
theorem dX10_invert_56 : decode cX10_invert 56 = .ok (.ifCond .le 4, 3) := by decide +kernel
theorem dX10_invert_59 : decode cX10_invert 59 = .ok (.return_, 1) := by decide +kernel
theorem dX10_invert_60 : decode cX10_invert 60 = .ok (.aload_n 0, 1) := by decide +kernel
theorem dX10_invert_61 : decode cX10_invert 61 = .ok (.ldc_w 861, 3) := by decide +kernel
theorem dX10_invert_64 : decode cX10_invert 64 = .ok (.ldc_w 688, 3) := by decide +kernel
theorem dX10_invert_67 : decode cX10_invert 67 = .ok (.iconst 2, 1) := by decide +kernel
theorem dX10_invert_68 : decode cX10_invert 68 = .ok (.invokevirtual 658, 3) := by decide +kernel
theorem dX10_invert_71 : decode cX10_invert 71 = .ok (.aload_n 0, 1) := by decide +kernel
theorem dX10_invert_72 : decode cX10_invert 72 = .ok (.getfield 250, 3) := by decide +kernel
theorem dX10_invert_75 : decode cX10_invert 75 = .ok (.ldc_w 861, 3) := by decide +kernel
theorem dX10_invert_78 : decode cX10_invert 78 = .ok (.laload, 1) := by decide +kernel
theorem dX10_invert_79 : decode cX10_invert 79 = .ok (.lconst 0, 1) := by decide +kernel
theorem dX10_invert_80 : decode cX10_invert 80 = .ok (.lcmp, 1) := by decide +kernel
theorem dX10_invert_81 : decode cX10_invert 81 = .ok (.ifCond .ne 9, 3) := by decide +kernel
theorem dX10_invert_84 : decode cX10_invert 84 = .ok (.aload_n 0, 1) := by decide +kernel
theorem dX10_invert_85 : decode cX10_invert 85 = .ok (.iconst 5, 1) := by decide +kernel
theorem dX10_invert_86 : decode cX10_invert 86 = .ok (.putfield 601, 3) := by decide +kernel
theorem dX10_invert_89 : decode cX10_invert 89 = .ok (.return_, 1) := by decide +kernel
theorem dX10_invert_90 : decode cX10_invert 90 = .ok (.aload_n 0, 1) := by decide +kernel
theorem dX10_invert_91 : decode cX10_invert 91 = .ok (.iload_n 1, 1) := by decide +kernel
theorem dX10_invert_92 : decode cX10_invert 92 = .ok (.iload_n 1, 1) := by decide +kernel
theorem dX10_invert_93 : decode cX10_invert 93 = .ok (.iload_n 2, 1) := by decide +kernel
theorem dX10_invert_94 : decode cX10_invert 94 = .ok (.iconst 0, 1) := by decide +kernel
theorem dX10_invert_95 : decode cX10_invert 95 = .ok (.iload_n 3, 1) := by decide +kernel
theorem dX10_invert_96 : decode cX10_invert 96 = .ok (.invokevirtual 848, 3) := by decide +kernel
theorem dX10_invert_99 : decode cX10_invert 99 = .ok (.aload_n 0, 1) := by decide +kernel
theorem dX10_invert_100 : decode cX10_invert 100 = .ok (.getfield 601, 3) := by decide +kernel
theorem dX10_invert_103 : decode cX10_invert 103 = .ok (.ifCond .ne 14, 3) := by decide +kernel
theorem dX10_invert_106 : decode cX10_invert 106 = .ok (.aload_n 0, 1) := by decide +kernel
theorem dX10_invert_107 : decode cX10_invert 107 = .ok (.iload_n 1, 1) := by decide +kernel
theorem dX10_invert_108 : decode cX10_invert 108 = .ok (.ldc_w 861, 3) := by decide +kernel
theorem dX10_invert_111 : decode cX10_invert 111 = .ok (.iload_n 2, 1) := by decide +kernel
theorem dX10_invert_112 : decode cX10_invert 112 = .ok (.iconst 0, 1) := by decide +kernel
theorem dX10_invert_113 : decode cX10_invert 113 = .ok (.iload_n 3, 1) := by decide +kernel
theorem dX10_invert_114 : decode cX10_invert 114 = .ok (.invokevirtual 790, 3) := by decide +kernel
theorem dX10_invert_117 : decode cX10_invert 117 = .ok (.return_, 1) := by decide +kernel
/-! AlgebraHouseModel.invert(III)V -/
def P_X10_invert (x1 : Int) (x2 : Int) (x3 : Int) (m : MM) (Q : Int → MM → Prop) : Prop := (RI x3) ∧ (if x3 = 0 then P_X10_copy 1593000 x1 2 m (fun r5 m6 => P_X10_set x1 1 m6 (fun r6 m7 => P_X10_divideNumbers x2 x1 1593000 m7 (fun r7 m8 => (RI (m8 582 84)) ∧ (if (m8 582 84) = 0 then P_X10_put x1 m8 (fun r8 m9 => Q 0 m9) else Q 0 m8)))) else P_X10_det 1590300 x1 x2 0 x3 m (fun r1 m1 => (RI (m1 582 84)) ∧ (if (m1 582 84) ≤ 0 then P_X10_copy 1594004 1590300 2 m1 (fun r2 m2 => (RL (m2 635 1594004)) ∧ (if (m2 635 1594004) = 0 then ∀ m5 : MM, m5 = up m2 582 84 5 → Q 0 m5 else P_X10_adjoin x1 x1 x2 0 x3 m2 (fun r3 m3 => (RI (m3 582 84)) ∧ (if (m3 582 84) = 0 then P_X10_divideBy x1 1594004 x2 0 x3 m3 (fun r4 m4 => Q 0 m4) else Q 0 m3)))) else Q 0 m1)))
theorem p_X10_invert {f : Nat} {Q : Int → MM → Prop} {T : MM → Prop} (hf : 8 ≤ f) (x1 : Int) (x2 : Int) (x3 : Int) (m : MM) (h : P_X10_invert x1 x2 x3 m Q) : CC f M_X10_invert [vR 582, vI x1, vI x2, vI x3] m Q T := by
  refine CC.of (plainFor_of_name (by decide)) (Nat.le_of_ble_eq_true rfl) (ls := [vR 582, vI x1, vI x2, vI x3]) rfl ?_
  have h : (RI x3) ∧ (if x3 = 0 then P_X10_copy 1593000 x1 2 m (fun r5 m6 => P_X10_set x1 1 m6 (fun r6 m7 => P_X10_divideNumbers x2 x1 1593000 m7 (fun r7 m8 => (RI (m8 582 84)) ∧ (if (m8 582 84) = 0 then P_X10_put x1 m8 (fun r8 m9 => Q 0 m9) else Q 0 m8)))) else P_X10_det 1590300 x1 x2 0 x3 m (fun r1 m1 => (RI (m1 582 84)) ∧ (if (m1 582 84) ≤ 0 then P_X10_copy 1594004 1590300 2 m1 (fun r2 m2 => (RL (m2 635 1594004)) ∧ (if (m2 635 1594004) = 0 then ∀ m5 : MM, m5 = up m2 582 84 5 → Q 0 m5 else P_X10_adjoin x1 x1 x2 0 x3 m2 (fun r3 m3 => (RI (m3 582 84)) ∧ (if (m3 582 84) = 0 then P_X10_divideBy x1 1594004 x2 0 x3 m3 (fun r4 m4 => Q 0 m4) else Q 0 m3)))) else Q 0 m1))) := h
  refine b_iload_n dX10_invert_0 rfl ?_
  obtain ⟨g1, h⟩ := h
  refine b_if_ne 41 dX10_invert_1 g1 (by decide) (fun c1 => ?_) (fun c1 => ?_)
  · have h := ifF c1 h
    refine b_aload_n dX10_invert_41 rfl ?_
    refine b_ldcw (1590300) dX10_invert_42 q2363 (by decide) ?_
    refine b_iload_n dX10_invert_45 rfl ?_
    refine b_iload_n dX10_invert_46 rfl ?_
    refine b_iconst dX10_invert_47 ?_
    refine b_iload_n dX10_invert_48 rfl ?_
    refine b_cVv (as := [vI 1590300, vI x1, vI x2, vI 0, vI x3]) (st := []) dX10_invert_49 mf_X10_det qs203 lk_X10_845 ly_582 rfl (p_X10_det (f := 7) (Nat.le_refl _) _ _ _ _ _ _ h) (by omega) rfl rfl (Nat.le_of_ble_eq_true rfl) (by decide) rfl (fun _ => rfl) (fun r1 m1 h => ?_) (fun _ h => h)
    refine b_aload_n dX10_invert_52 rfl ?_
    refine b_getI dX10_invert_53 fk_X10_601 ly_582 ?_
    obtain ⟨g2, h⟩ := h
    refine b_if_le 60 dX10_invert_56 g2 (by decide) (fun c2 => ?_) (fun c2 => ?_)
    · have h := ifT c2 h
      refine b_aload_n dX10_invert_60 rfl ?_
      refine b_ldcw (1594004) dX10_invert_61 q2495 (by decide) ?_
      refine b_ldcw (1590300) dX10_invert_64 q2363 (by decide) ?_
      refine b_iconst dX10_invert_67 ?_
      refine b_cVv (as := [vI 1594004, vI 1590300, vI 2]) (st := []) dX10_invert_68 mf_X10_copy qs164 lk_X10_658 ly_582 rfl (p_X10_copy (f := 1) (Nat.le_refl _) _ _ _ _ h) (by omega) rfl rfl (Nat.le_of_ble_eq_true rfl) (by decide) rfl (fun _ => rfl) (fun r2 m2 h => ?_) (fun _ h => h)
      refine b_aload_n dX10_invert_71 rfl ?_
      refine b_getR dX10_invert_72 fk_X10_250 ly_582 gg_582_85 ?_
      refine b_ldcw (1594004) dX10_invert_75 q2495 (by decide) ?_
      refine b_lald dX10_invert_78 ly_635 (by decide) ?_
      refine b_lconst 0 dX10_invert_79 (by decide) ?_
      obtain ⟨g3, h⟩ := h
      refine b_lc_ne 90 dX10_invert_80 dX10_invert_81 g3 (by decide) (by decide) (fun c3 => ?_) (fun c3 => ?_)
      · have h := ifF c3 h
        refine b_aload_n dX10_invert_90 rfl ?_
        refine b_iload_n dX10_invert_91 rfl ?_
        refine b_iload_n dX10_invert_92 rfl ?_
        refine b_iload_n dX10_invert_93 rfl ?_
        refine b_iconst dX10_invert_94 ?_
        refine b_iload_n dX10_invert_95 rfl ?_
        refine b_cVv (as := [vI x1, vI x1, vI x2, vI 0, vI x3]) (st := []) dX10_invert_96 mf_X10_adjoin qs206 lk_X10_848 ly_582 rfl (p_X10_adjoin (f := 7) (Nat.le_refl _) _ _ _ _ _ _ h) (by omega) rfl rfl (Nat.le_of_ble_eq_true rfl) (by decide) rfl (fun _ => rfl) (fun r3 m3 h => ?_) (fun _ h => h)
        refine b_aload_n dX10_invert_99 rfl ?_
        refine b_getI dX10_invert_100 fk_X10_601 ly_582 ?_
        obtain ⟨g4, h⟩ := h
        refine b_if_ne 117 dX10_invert_103 g4 (by decide) (fun c4 => ?_) (fun c4 => ?_)
        · have h := ifF c4 h
          exact b_vret dX10_invert_117 rfl h
        · have h := ifT (Decidable.of_not_not c4) h
          refine b_aload_n dX10_invert_106 rfl ?_
          refine b_iload_n dX10_invert_107 rfl ?_
          refine b_ldcw (1594004) dX10_invert_108 q2495 (by decide) ?_
          refine b_iload_n dX10_invert_111 rfl ?_
          refine b_iconst dX10_invert_112 ?_
          refine b_iload_n dX10_invert_113 rfl ?_
          refine b_cVv (as := [vI x1, vI 1594004, vI x2, vI 0, vI x3]) (st := []) dX10_invert_114 mf_X10_divideBy qs189 lk_X10_790 ly_582 rfl (p_X10_divideBy (f := 4) (Nat.le_refl _) _ _ _ _ _ _ h) (by omega) rfl rfl (Nat.le_of_ble_eq_true rfl) (by decide) rfl (fun _ => rfl) (fun r4 m4 h => ?_) (fun _ h => h)
          exact b_vret dX10_invert_117 rfl h
      · have h := ifT (Decidable.of_not_not c3) h
        refine b_aload_n dX10_invert_84 rfl ?_
        refine b_iconst dX10_invert_85 ?_
        refine b_putI dX10_invert_86 fk_X10_601 ly_582 (fun m5 em5 => ?_)
        have h := h m5 em5
        exact b_vret dX10_invert_89 rfl h
    · have h := ifF c2 h
      exact b_vret dX10_invert_59 rfl h
  · have h := ifT (Decidable.of_not_not c1) h
    refine b_aload_n dX10_invert_4 rfl ?_
    refine b_ldcw (1593000) dX10_invert_5 q2347 (by decide) ?_
    refine b_iload_n dX10_invert_8 rfl ?_
    refine b_iconst dX10_invert_9 ?_
    refine b_cVv (as := [vI 1593000, vI x1, vI 2]) (st := []) dX10_invert_10 mf_X10_copy qs164 lk_X10_658 ly_582 rfl (p_X10_copy (f := 1) (Nat.le_refl _) _ _ _ _ h) (by omega) rfl rfl (Nat.le_of_ble_eq_true rfl) (by decide) rfl (fun _ => rfl) (fun r5 m6 h => ?_) (fun _ h => h)
    refine b_aload_n dX10_invert_13 rfl ?_
    refine b_iload_n dX10_invert_14 rfl ?_
    refine b_lconst 1 dX10_invert_15 (by decide) ?_
    refine b_cVv (as := [vI x1, vL 1]) (st := []) dX10_invert_16 mf_X10_set qs163 lk_X10_633 ly_582 rfl (p_X10_set (f := 1) (Nat.le_refl _) _ _ _ h) (by omega) rfl rfl (Nat.le_of_ble_eq_true rfl) (by decide) rfl (fun _ => rfl) (fun r6 m7 h => ?_) (fun _ h => h)
    refine b_aload_n dX10_invert_19 rfl ?_
    refine b_iload_n dX10_invert_20 rfl ?_
    refine b_iload_n dX10_invert_21 rfl ?_
    refine b_ldcw (1593000) dX10_invert_22 q2347 (by decide) ?_
    refine b_cVv (as := [vI x2, vI x1, vI 1593000]) (st := []) dX10_invert_25 mf_X10_divideNumbers qs190 lk_X10_796 ly_582 rfl (p_X10_divideNumbers (f := 3) (Nat.le_refl _) _ _ _ _ h) (by omega) rfl rfl (Nat.le_of_ble_eq_true rfl) (by decide) rfl (fun _ => rfl) (fun r7 m8 h => ?_) (fun _ h => h)
    refine b_aload_n dX10_invert_28 rfl ?_
    refine b_getI dX10_invert_29 fk_X10_601 ly_582 ?_
    obtain ⟨g5, h⟩ := h
    refine b_if_ne 40 dX10_invert_32 g5 (by decide) (fun c5 => ?_) (fun c5 => ?_)
    · have h := ifF c5 h
      exact b_vret dX10_invert_40 rfl h
    · have h := ifT (Decidable.of_not_not c5) h
      refine b_aload_n dX10_invert_35 rfl ?_
      refine b_iload_n dX10_invert_36 rfl ?_
      refine b_cVv (as := [vI x1]) (st := []) dX10_invert_37 mf_X10_put qs175 lk_X10_644 ly_582 rfl (p_X10_put (f := 1) (Nat.le_refl _) _ _ h) (by omega) rfl rfl (Nat.le_of_ble_eq_true rfl) (by decide) rfl (fun _ => rfl) (fun r8 m9 h => ?_) (fun _ h => h)
      exact b_vret dX10_invert_40 rfl h
theorem dX10_outerDegree_0 : decode cX10_outerDegree 0 = .ok (.bipush 6, 2) := by decide +kernel
theorem dX10_outerDegree_2 : decode cX10_outerDegree 2 = .ok (.istore_n 2, 1) := by decide +kernel
theorem dX10_outerDegree_3 : decode cX10_outerDegree 3 = .ok (.iload_n 2, 1) := by decide +kernel
theorem dX10_outerDegree_4 : decode cX10_outerDegree 4 = .ok (.ifCond .lt 24, 3) := by decide +kernel
theorem dX10_outerDegree_7 : decode cX10_outerDegree 7 = .ok (.aload_n 0, 1) := by decide +kernel
theorem dX10_outerDegree_8 : decode cX10_outerDegree 8 = .ok (.iload_n 1, 1) := by decide +kernel
theorem dX10_outerDegree_9 : decode cX10_outerDegree 9 = .ok (.bipush 14, 2) := by decide +kernel
theorem dX10_outerDegree_11 : decode cX10_outerDegree 11 = .ok (.iload_n 2, 1) := by decide +kernel
theorem dX10_outerDegree_12 : decode cX10_outerDegree 12 = .ok (.imul, 1) := by decide +kernel
theorem dX10_outerDegree_13 : decode cX10_outerDegree 13 = .ok (.iadd, 1) := by decide +kernel
theorem dX10_outerDegree_14 : decode cX10_outerDegree 14 = .ok (.bipush 14, 2) := by decide +kernel
theorem dX10_outerDegree_16 : decode cX10_outerDegree 16 = .ok (.invokevirtual 671, 3) := by decide +kernel
theorem dX10_outerDegree_19 : decode cX10_outerDegree 19 = .ok (.ifCond .eq 9, 3) := by decide +kernel
theorem dX10_outerDegree_22 : decode cX10_outerDegree 22 = .ok (.iinc 2 (-1), 3) := by decide +kernel
theorem dX10_outerDegree_25 : decode cX10_outerDegree 25 = .ok (.goto (-22), 3) := by decide +kernel
theorem dX10_outerDegree_28 : decode cX10_outerDegree 28 = .ok (.iload_n 2, 1) := by decide +kernel
theorem dX10_outerDegree_29 : decode cX10_outerDegree 29 = .ok (.ireturn, 1) := by decide +kernel
/-! AlgebraHouseModel.outerDegree(I)I -/
def P_X10_outerDegree_3 (Q : Int → MM → Prop) : Nat → Int → Int → MM → Prop
  | 0, _, _, _ => False
  | n + 1, x1, x2, m => (RI x2) ∧ (if x2 < 0 then Q x2 m else P_X10_isZero (x1 + (14 * x2)) 14 m (fun r1 m1 => (RI r1) ∧ (if r1 = 0 then Q x2 m1 else P_X10_outerDegree_3 Q n x1 (x2 + (-1)) m1)))
def P_X10_outerDegree (x1 : Int) (m : MM) (Q : Int → MM → Prop) : Prop := ∃ nn, P_X10_outerDegree_3 Q nn x1 6 m
theorem pl_X10_outerDegree_3 {f : Nat} {Q : Int → MM → Prop} {T : MM → Prop} (hf : 2 ≤ f) : ∀ (n : Nat) (x1 : Int) (x2 : Int) (m : MM), P_X10_outerDegree_3 Q n x1 x2 m → B f M_X10_outerDegree 3 [vR 582, vI x1, vI x2] [] m Q T := by
  intro n
  induction n with
  | zero => intro x1 x2 m h; exact h.elim
  | succ n ih =>
    intro x1 x2 m h
    have h : (RI x2) ∧ (if x2 < 0 then Q x2 m else P_X10_isZero (x1 + (14 * x2)) 14 m (fun r1 m1 => (RI r1) ∧ (if r1 = 0 then Q x2 m1 else P_X10_outerDegree_3 Q n x1 (x2 + (-1)) m1))) := h
    refine b_iload_n dX10_outerDegree_3 rfl ?_
    obtain ⟨g1, h⟩ := h
    refine b_if_lt 28 dX10_outerDegree_4 g1 (by decide) (fun c1 => ?_) (fun c1 => ?_)
    · have h := ifT c1 h
      refine b_iload_n dX10_outerDegree_28 rfl ?_
      exact b_iret dX10_outerDegree_29 rfl h
    · have h := ifF c1 h
      refine b_aload_n dX10_outerDegree_7 rfl ?_
      refine b_iload_n dX10_outerDegree_8 rfl ?_
      refine b_bipush dX10_outerDegree_9 (by decide) ?_
      refine b_iload_n dX10_outerDegree_11 rfl ?_
      refine b_imul dX10_outerDegree_12 ?_
      refine b_iadd dX10_outerDegree_13 ?_
      refine b_bipush dX10_outerDegree_14 (by decide) ?_
      refine b_cVi (as := [vI (x1 + (14 * x2)), vI 14]) (st := []) dX10_outerDegree_16 mf_X10_isZero qs179 lk_X10_671 ly_582 rfl (p_X10_isZero (f := 1) (Nat.le_refl _) _ _ _ h) (by omega) rfl rfl (Nat.le_of_ble_eq_true rfl) (by decide) rfl (fun _ => rfl) (fun r1 m1 h => ?_) (fun _ h => h)
      obtain ⟨g2, h⟩ := h
      refine b_if_eq 28 dX10_outerDegree_19 g2 (by decide) (fun c2 => ?_) (fun c2 => ?_)
      · have h := ifT c2 h
        refine b_iload_n dX10_outerDegree_28 rfl ?_
        exact b_iret dX10_outerDegree_29 rfl h
      · have h := ifF c2 h
        refine b_iinc (ls' := [vR 582, vI x1, vI (x2 + (-1))]) dX10_outerDegree_22 rfl rfl ?_
        refine b_goto 3 dX10_outerDegree_25 (by decide) ?_
        exact ih _ _ _ h
theorem p_X10_outerDegree {f : Nat} {Q : Int → MM → Prop} {T : MM → Prop} (hf : 2 ≤ f) (x1 : Int) (m : MM) (h : P_X10_outerDegree x1 m Q) : CC f M_X10_outerDegree [vR 582, vI x1] m Q T := by
  refine CC.of (plainFor_of_name (by decide)) (Nat.le_of_ble_eq_true rfl) (ls := [vR 582, vI x1, vU]) rfl ?_
  have h : ∃ nn, P_X10_outerDegree_3 Q nn x1 6 m := h
  refine b_bipush dX10_outerDegree_0 (by decide) ?_
  refine b_istore_n (ls' := [vR 582, vI x1, vI 6]) dX10_outerDegree_2 (Nat.le_of_ble_eq_true rfl) rfl ?_
  obtain ⟨nn, h⟩ := h
  exact pl_X10_outerDegree_3 hf nn _ _ _ h
theorem dX10_rootInverse_0 : decode cX10_rootInverse 0 = .ok (.lconst 1, 1) := by decide +kernel
theorem dX10_rootInverse_1 : decode cX10_rootInverse 1 = .ok (.lstore 4, 2) := by decide +kernel
theorem dX10_rootInverse_3 : decode cX10_rootInverse 3 = .ok (.bipush 13, 2) := by decide +kernel
theorem dX10_rootInverse_5 : decode cX10_rootInverse 5 = .ok (.istore 6, 2) := by decide +kernel
theorem dX10_rootInverse_7 : decode cX10_rootInverse 7 = .ok (.iload 6, 2) := by decide +kernel
theorem dX10_rootInverse_9 : decode cX10_rootInverse 9 = .ok (.ifCond .lt 41, 3) := by decide +kernel
theorem dX10_rootInverse_12 : decode cX10_rootInverse 12 = .ok (.lload 4, 2) := by decide +kernel
theorem dX10_rootInverse_14 : decode cX10_rootInverse 14 = .ok (.lload 4, 2) := by decide +kernel
theorem dX10_rootInverse_16 : decode cX10_rootInverse 16 = .ok (.lmul, 1) := by decide +kernel
theorem dX10_rootInverse_17 : decode cX10_rootInverse 17 = .ok (.lload_n 2, 1) := by decide +kernel
theorem dX10_rootInverse_18 : decode cX10_rootInverse 18 = .ok (.lrem, 1) := by decide +kernel
theorem dX10_rootInverse_19 : decode cX10_rootInverse 19 = .ok (.lstore 4, 2) := by decide +kernel
theorem dX10_rootInverse_21 : decode cX10_rootInverse 21 = .ok (.lload_n 2, 1) := by decide +kernel
theorem dX10_rootInverse_22 : decode cX10_rootInverse 22 = .ok (.ldc2_w 505, 3) := by decide +kernel
theorem dX10_rootInverse_25 : decode cX10_rootInverse 25 = .ok (.lsub, 1) := by decide +kernel
theorem dX10_rootInverse_26 : decode cX10_rootInverse 26 = .ok (.iload 6, 2) := by decide +kernel
theorem dX10_rootInverse_28 : decode cX10_rootInverse 28 = .ok (.lshr, 1) := by decide +kernel
theorem dX10_rootInverse_29 : decode cX10_rootInverse 29 = .ok (.lconst 1, 1) := by decide +kernel
theorem dX10_rootInverse_30 : decode cX10_rootInverse 30 = .ok (.land, 1) := by decide +kernel
theorem dX10_rootInverse_31 : decode cX10_rootInverse 31 = .ok (.lconst 1, 1) := by decide +kernel
theorem dX10_rootInverse_32 : decode cX10_rootInverse 32 = .ok (.lcmp, 1) := by decide +kernel
theorem dX10_rootInverse_33 : decode cX10_rootInverse 33 = .ok (.ifCond .ne 11, 3) := by decide +kernel
theorem dX10_rootInverse_36 : decode cX10_rootInverse 36 = .ok (.lload 4, 2) := by decide +kernel
theorem dX10_rootInverse_38 : decode cX10_rootInverse 38 = .ok (.lload_n 0, 1) := by decide +kernel
theorem dX10_rootInverse_39 : decode cX10_rootInverse 39 = .ok (.lmul, 1) := by decide +kernel
theorem dX10_rootInverse_40 : decode cX10_rootInverse 40 = .ok (.lload_n 2, 1) := by decide +kernel
theorem dX10_rootInverse_41 : decode cX10_rootInverse 41 = .ok (.lrem, 1) := by decide +kernel
theorem dX10_rootInverse_42 : decode cX10_rootInverse 42 = .ok (.lstore 4, 2) := by decide +kernel
theorem dX10_rootInverse_44 : decode cX10_rootInverse 44 = .ok (.iinc 6 (-1), 3) := by decide +kernel
theorem dX10_rootInverse_47 : decode cX10_rootInverse 47 = .ok (.goto (-40), 3) := by decide +kernel
theorem dX10_rootInverse_50 : decode cX10_rootInverse 50 = .ok (.lload 4, 2) := by decide +kernel
theorem dX10_rootInverse_52 : decode cX10_rootInverse 52 = .ok (.lreturn, 1) := by decide +kernel
/-! AlgebraHouseModel.rootInverse(JJ)J -/
def P_X10_rootInverse_7 (Q : Int → MM → Prop) : Nat → Int → Int → Int → Int → MM → Prop
  | 0, _, _, _, _, _ => False
  | n + 1, x0, x2, x4, x6, m => (RI x6) ∧ (if x6 < 0 then Q x4 m else (RL (x4 * x4)) ∧ (RL x2) ∧ (x2 ≠ 0) ∧ (RL (lAnd (lShr (x2 - 2) x6) 1)) ∧ (if (lAnd (lShr (x2 - 2) x6) 1) = 1 then (RL ((Int.tmod (x4 * x4) x2) * x0)) ∧ P_X10_rootInverse_7 Q n x0 x2 (Int.tmod ((Int.tmod (x4 * x4) x2) * x0) x2) (x6 + (-1)) m else P_X10_rootInverse_7 Q n x0 x2 (Int.tmod (x4 * x4) x2) (x6 + (-1)) m))
def P_X10_rootInverse (x0 : Int) (x2 : Int) (m : MM) (Q : Int → MM → Prop) : Prop := ∃ nn, P_X10_rootInverse_7 Q nn x0 x2 1 13 m
theorem pl_X10_rootInverse_7 {f : Nat} {Q : Int → MM → Prop} {T : MM → Prop} (hf : 1 ≤ f) : ∀ (n : Nat) (x0 : Int) (x2 : Int) (x4 : Int) (x6 : Int) (m : MM), P_X10_rootInverse_7 Q n x0 x2 x4 x6 m → B f M_X10_rootInverse 7 [vL x0, vU, vL x2, vU, vL x4, vU, vI x6] [] m Q T := by
  intro n
  induction n with
  | zero => intro x0 x2 x4 x6 m h; exact h.elim
  | succ n ih =>
    intro x0 x2 x4 x6 m h
    have h : (RI x6) ∧ (if x6 < 0 then Q x4 m else (RL (x4 * x4)) ∧ (RL x2) ∧ (x2 ≠ 0) ∧ (RL (lAnd (lShr (x2 - 2) x6) 1)) ∧ (if (lAnd (lShr (x2 - 2) x6) 1) = 1 then (RL ((Int.tmod (x4 * x4) x2) * x0)) ∧ P_X10_rootInverse_7 Q n x0 x2 (Int.tmod ((Int.tmod (x4 * x4) x2) * x0) x2) (x6 + (-1)) m else P_X10_rootInverse_7 Q n x0 x2 (Int.tmod (x4 * x4) x2) (x6 + (-1)) m)) := h
    refine b_iload dX10_rootInverse_7 rfl ?_
    obtain ⟨g1, h⟩ := h
    refine b_if_lt 50 dX10_rootInverse_9 g1 (by decide) (fun c1 => ?_) (fun c1 => ?_)
    · have h := ifT c1 h
      refine b_lload dX10_rootInverse_50 rfl ?_
      exact b_lret dX10_rootInverse_52 rfl h
    · have h := ifF c1 h
      refine b_lload dX10_rootInverse_12 rfl ?_
      refine b_lload dX10_rootInverse_14 rfl ?_
      refine b_lmul dX10_rootInverse_16 ?_
      refine b_lload_n dX10_rootInverse_17 rfl ?_
      obtain ⟨g2, h⟩ := h
      obtain ⟨g3, h⟩ := h
      obtain ⟨g4, h⟩ := h
      refine b_lrem dX10_rootInverse_18 g2 g3 g4 ?_
      refine b_lstore (ls' := [vL x0, vU, vL x2, vU, vL (Int.tmod (x4 * x4) x2), vU, vI x6]) dX10_rootInverse_19 (Nat.le_of_ble_eq_true rfl) rfl ?_
      refine b_lload_n dX10_rootInverse_21 rfl ?_
      refine b_ldc2 (2) dX10_rootInverse_22 q2167 (by decide) ?_
      refine b_lsub dX10_rootInverse_25 ?_
      refine b_iload dX10_rootInverse_26 rfl ?_
      refine b_lshr dX10_rootInverse_28 ?_
      refine b_lconst 1 dX10_rootInverse_29 (by decide) ?_
      refine b_land dX10_rootInverse_30 ?_
      refine b_lconst 1 dX10_rootInverse_31 (by decide) ?_
      obtain ⟨g5, h⟩ := h
      refine b_lc_ne 44 dX10_rootInverse_32 dX10_rootInverse_33 g5 (by decide) (by decide) (fun c2 => ?_) (fun c2 => ?_)
      · have h := ifF c2 h
        refine b_iinc (ls' := [vL x0, vU, vL x2, vU, vL (Int.tmod (x4 * x4) x2), vU, vI (x6 + (-1))]) dX10_rootInverse_44 rfl rfl ?_
        refine b_goto 7 dX10_rootInverse_47 (by decide) ?_
        exact ih _ _ _ _ _ h
      · have h := ifT (Decidable.of_not_not c2) h
        refine b_lload dX10_rootInverse_36 rfl ?_
        refine b_lload_n dX10_rootInverse_38 rfl ?_
        refine b_lmul dX10_rootInverse_39 ?_
        refine b_lload_n dX10_rootInverse_40 rfl ?_
        obtain ⟨g6, h⟩ := h
        refine b_lrem dX10_rootInverse_41 g6 g3 g4 ?_
        refine b_lstore (ls' := [vL x0, vU, vL x2, vU, vL (Int.tmod ((Int.tmod (x4 * x4) x2) * x0) x2), vU, vI x6]) dX10_rootInverse_42 (Nat.le_of_ble_eq_true rfl) rfl ?_
        refine b_iinc (ls' := [vL x0, vU, vL x2, vU, vL (Int.tmod ((Int.tmod (x4 * x4) x2) * x0) x2), vU, vI (x6 + (-1))]) dX10_rootInverse_44 rfl rfl ?_
        refine b_goto 7 dX10_rootInverse_47 (by decide) ?_
        exact ih _ _ _ _ _ h
theorem p_X10_rootInverse {f : Nat} {Q : Int → MM → Prop} {T : MM → Prop} (hf : 1 ≤ f) (x0 : Int) (x2 : Int) (m : MM) (h : P_X10_rootInverse x0 x2 m Q) : CC f M_X10_rootInverse [vL x0, vL x2] m Q T := by
  refine CC.of (plainFor_of_name (by decide)) (Nat.le_of_ble_eq_true rfl) (ls := [vL x0, vU, vL x2, vU, vU, vU, vU]) rfl ?_
  have h : ∃ nn, P_X10_rootInverse_7 Q nn x0 x2 1 13 m := h
  refine b_lconst 1 dX10_rootInverse_0 (by decide) ?_
  refine b_lstore (ls' := [vL x0, vU, vL x2, vU, vL 1, vU, vU]) dX10_rootInverse_1 (Nat.le_of_ble_eq_true rfl) rfl ?_
  refine b_bipush dX10_rootInverse_3 (by decide) ?_
  refine b_istore (ls' := [vL x0, vU, vL x2, vU, vL 1, vU, vI 13]) dX10_rootInverse_5 (Nat.le_of_ble_eq_true rfl) rfl ?_
  obtain ⟨nn, h⟩ := h
  exact pl_X10_rootInverse_7 hf nn _ _ _ _ _ h
theorem dX10_rootCommon_0 : decode cX10_rootCommon 0 = .ok (.aload_n 0, 1) := by decide +kernel
theorem dX10_rootCommon_1 : decode cX10_rootCommon 1 = .ok (.getfield 292, 3) := by decide +kernel
theorem dX10_rootCommon_4 : decode cX10_rootCommon 4 = .ok (.astore 4, 2) := by decide +kernel
theorem dX10_rootCommon_6 : decode cX10_rootCommon 6 = .ok (.aload_n 0, 1) := by decide +kernel
theorem dX10_rootCommon_7 : decode cX10_rootCommon 7 = .ok (.getfield 295, 3) := by decide +kernel
theorem dX10_rootCommon_10 : decode cX10_rootCommon 10 = .ok (.astore 5, 2) := by decide +kernel
theorem dX10_rootCommon_12 : decode cX10_rootCommon 12 = .ok (.iload_n 1, 1) := by decide +kernel
theorem dX10_rootCommon_13 : decode cX10_rootCommon 13 = .ok (.istore 6, 2) := by decide +kernel
theorem dX10_rootCommon_15 : decode cX10_rootCommon 15 = .ok (.iload_n 1, 1) := by decide +kernel
theorem dX10_rootCommon_16 : decode cX10_rootCommon 16 = .ok (.iconst 1, 1) := by decide +kernel
theorem dX10_rootCommon_17 : decode cX10_rootCommon 17 = .ok (.isub, 1) := by decide +kernel
theorem dX10_rootCommon_18 : decode cX10_rootCommon 18 = .ok (.istore 7, 2) := by decide +kernel
theorem dX10_rootCommon_20 : decode cX10_rootCommon 20 = .ok (.iload 7, 2) := by decide +kernel
theorem dX10_rootCommon_22 : decode cX10_rootCommon 22 = .ok (.ifCond .lt 19, 3) := by decide +kernel
theorem dX10_rootCommon_25 : decode cX10_rootCommon 25 = .ok (.aload 5, 2) := by decide +kernel
theorem dX10_rootCommon_27 : decode cX10_rootCommon 27 = .ok (.iload 7, 2) := by decide +kernel
theorem dX10_rootCommon_29 : decode cX10_rootCommon 29 = .ok (.laload, 1) := by decide +kernel
theorem dX10_rootCommon_30 : decode cX10_rootCommon 30 = .ok (.lconst 0, 1) := by decide +kernel
theorem dX10_rootCommon_31 : decode cX10_rootCommon 31 = .ok (.lcmp, 1) := by decide +kernel
theorem dX10_rootCommon_32 : decode cX10_rootCommon 32 = .ok (.ifCond .ne 9, 3) := by decide +kernel
theorem dX10_rootCommon_35 : decode cX10_rootCommon 35 = .ok (.iinc 7 (-1), 3) := by decide +kernel
theorem dX10_rootCommon_38 : decode cX10_rootCommon 38 = .ok (.goto (-18), 3) := by decide +kernel
theorem dX10_rootCommon_41 : decode cX10_rootCommon 41 = .ok (.iload 7, 2) := by decide +kernel
theorem dX10_rootCommon_43 : decode cX10_rootCommon 43 = .ok (.ifCond .lt 140, 3) := by decide +kernel
theorem dX10_rootCommon_46 : decode cX10_rootCommon 46 = .ok (.aload 5, 2) := by decide +kernel
theorem dX10_rootCommon_48 : decode cX10_rootCommon 48 = .ok (.iload 7, 2) := by decide +kernel
theorem dX10_rootCommon_50 : decode cX10_rootCommon 50 = .ok (.laload, 1) := by decide +kernel
theorem dX10_rootCommon_51 : decode cX10_rootCommon 51 = .ok (.lload_n 2, 1) := by decide +kernel
theorem dX10_rootCommon_52 : decode cX10_rootCommon 52 = .ok (.invokestatic 863, 3) := by decide +kernel
theorem dX10_rootCommon_55 : decode cX10_rootCommon 55 = .ok (.lstore 8, 2) := by decide +kernel
theorem dX10_rootCommon_57 : decode cX10_rootCommon 57 = .ok (.iload 6, 2) := by decide +kernel
theorem dX10_rootCommon_59 : decode cX10_rootCommon 59 = .ok (.istore 10, 2) := by decide +kernel
theorem dX10_rootCommon_61 : decode cX10_rootCommon 61 = .ok (.iload 10, 2) := by decide +kernel
theorem dX10_rootCommon_63 : decode cX10_rootCommon 63 = .ok (.iload 7, 2) := by decide +kernel
theorem dX10_rootCommon_65 : decode cX10_rootCommon 65 = .ok (.if_icmp .lt 72, 3) := by decide +kernel
theorem dX10_rootCommon_68 : decode cX10_rootCommon 68 = .ok (.lload_n 2, 1) := by decide +kernel
theorem dX10_rootCommon_69 : decode cX10_rootCommon 69 = .ok (.aload 4, 2) := by decide +kernel
theorem dX10_rootCommon_71 : decode cX10_rootCommon 71 = .ok (.iload 10, 2) := by decide +kernel
theorem dX10_rootCommon_73 : decode cX10_rootCommon 73 = .ok (.laload, 1) := by decide +kernel
theorem dX10_rootCommon_74 : decode cX10_rootCommon 74 = .ok (.lload 8, 2) := by decide +kernel
theorem dX10_rootCommon_76 : decode cX10_rootCommon 76 = .ok (.lmul, 1) := by decide +kernel
theorem dX10_rootCommon_77 : decode cX10_rootCommon 77 = .ok (.lload_n 2, 1) := by decide +kernel
theorem dX10_rootCommon_78 : decode cX10_rootCommon 78 = .ok (.lrem, 1) := by decide +kernel
theorem dX10_rootCommon_79 : decode cX10_rootCommon 79 = .ok (.lsub, 1) := by decide +kernel
theorem dX10_rootCommon_80 : decode cX10_rootCommon 80 = .ok (.lstore 11, 2) := by decide +kernel
theorem dX10_rootCommon_82 : decode cX10_rootCommon 82 = .ok (.iconst 0, 1) := by decide +kernel
theorem dX10_rootCommon_83 : decode cX10_rootCommon 83 = .ok (.istore 13, 2) := by decide +kernel
theorem dX10_rootCommon_85 : decode cX10_rootCommon 85 = .ok (.iload 13, 2) := by decide +kernel
theorem dX10_rootCommon_87 : decode cX10_rootCommon 87 = .ok (.iload 7, 2) := by decide +kernel
theorem dX10_rootCommon_89 : decode cX10_rootCommon 89 = .ok (.if_icmp .gt 42, 3) := by decide +kernel
theorem dX10_rootCommon_92 : decode cX10_rootCommon 92 = .ok (.aload 4, 2) := by decide +kernel
theorem dX10_rootCommon_94 : decode cX10_rootCommon 94 = .ok (.iload 10, 2) := by decide +kernel
theorem dX10_rootCommon_96 : decode cX10_rootCommon 96 = .ok (.iload 7, 2) := by decide +kernel
theorem dX10_rootCommon_98 : decode cX10_rootCommon 98 = .ok (.isub, 1) := by decide +kernel
theorem dX10_rootCommon_99 : decode cX10_rootCommon 99 = .ok (.iload 13, 2) := by decide +kernel
theorem dX10_rootCommon_101 : decode cX10_rootCommon 101 = .ok (.iadd, 1) := by decide +kernel
theorem dX10_rootCommon_102 : decode cX10_rootCommon 102 = .ok (.aload 4, 2) := by decide +kernel
theorem dX10_rootCommon_104 : decode cX10_rootCommon 104 = .ok (.iload 10, 2) := by decide +kernel
theorem dX10_rootCommon_106 : decode cX10_rootCommon 106 = .ok (.iload 7, 2) := by decide +kernel
theorem dX10_rootCommon_108 : decode cX10_rootCommon 108 = .ok (.isub, 1) := by decide +kernel
theorem dX10_rootCommon_109 : decode cX10_rootCommon 109 = .ok (.iload 13, 2) := by decide +kernel
theorem dX10_rootCommon_111 : decode cX10_rootCommon 111 = .ok (.iadd, 1) := by decide +kernel
theorem dX10_rootCommon_112 : decode cX10_rootCommon 112 = .ok (.laload, 1) := by decide +kernel
theorem dX10_rootCommon_113 : decode cX10_rootCommon 113 = .ok (.lload 11, 2) := by decide +kernel
theorem dX10_rootCommon_115 : decode cX10_rootCommon 115 = .ok (.aload 5, 2) := by decide +kernel
theorem dX10_rootCommon_117 : decode cX10_rootCommon 117 = .ok (.iload 13, 2) := by decide +kernel
theorem dX10_rootCommon_119 : decode cX10_rootCommon 119 = .ok (.laload, 1) := by decide +kernel
theorem dX10_rootCommon_120 : decode cX10_rootCommon 120 = .ok (.lmul, 1) := by decide +kernel
theorem dX10_rootCommon_121 : decode cX10_rootCommon 121 = .ok (.ladd, 1) := by decide +kernel
theorem dX10_rootCommon_122 : decode cX10_rootCommon 122 = .ok (.lload_n 2, 1) := by decide +kernel
theorem dX10_rootCommon_123 : decode cX10_rootCommon 123 = .ok (.lrem, 1) := by decide +kernel
theorem dX10_rootCommon_124 : decode cX10_rootCommon 124 = .ok (.lastore, 1) := by decide +kernel
theorem dX10_rootCommon_125 : decode cX10_rootCommon 125 = .ok (.iinc 13 1, 3) := by decide +kernel
theorem dX10_rootCommon_128 : decode cX10_rootCommon 128 = .ok (.goto (-43), 3) := by decide +kernel
theorem dX10_rootCommon_131 : decode cX10_rootCommon 131 = .ok (.iinc 10 (-1), 3) := by decide +kernel
theorem dX10_rootCommon_134 : decode cX10_rootCommon 134 = .ok (.goto (-73), 3) := by decide +kernel
theorem dX10_rootCommon_137 : decode cX10_rootCommon 137 = .ok (.aload 4, 2) := by decide +kernel
theorem dX10_rootCommon_139 : decode cX10_rootCommon 139 = .ok (.astore 10, 2) := by decide +kernel
theorem dX10_rootCommon_141 : decode cX10_rootCommon 141 = .ok (.aload 5, 2) := by decide +kernel
theorem dX10_rootCommon_143 : decode cX10_rootCommon 143 = .ok (.astore 4, 2) := by decide +kernel
theorem dX10_rootCommon_145 : decode cX10_rootCommon 145 = .ok (.aload 10, 2) := by decide +kernel
theorem dX10_rootCommon_147 : decode cX10_rootCommon 147 = .ok (.astore 5, 2) := by decide +kernel
theorem dX10_rootCommon_149 : decode cX10_rootCommon 149 = .ok (.iload 7, 2) := by decide +kernel
theorem dX10_rootCommon_151 : decode cX10_rootCommon 151 = .ok (.istore 6, 2) := by decide +kernel
theorem dX10_rootCommon_153 : decode cX10_rootCommon 153 = .ok (.iload 6, 2) := by decide +kernel
theorem dX10_rootCommon_155 : decode cX10_rootCommon 155 = .ok (.iconst 1, 1) := by decide +kernel
theorem dX10_rootCommon_156 : decode cX10_rootCommon 156 = .ok (.isub, 1) := by decide +kernel
theorem dX10_rootCommon_157 : decode cX10_rootCommon 157 = .ok (.istore 7, 2) := by decide +kernel
theorem dX10_rootCommon_159 : decode cX10_rootCommon 159 = .ok (.iload 7, 2) := by decide +kernel
theorem dX10_rootCommon_161 : decode cX10_rootCommon 161 = .ok (.ifCond .lt 19, 3) := by decide +kernel
theorem dX10_rootCommon_164 : decode cX10_rootCommon 164 = .ok (.aload 5, 2) := by decide +kernel
theorem dX10_rootCommon_166 : decode cX10_rootCommon 166 = .ok (.iload 7, 2) := by decide +kernel
theorem dX10_rootCommon_168 : decode cX10_rootCommon 168 = .ok (.laload, 1) := by decide +kernel
theorem dX10_rootCommon_169 : decode cX10_rootCommon 169 = .ok (.lconst 0, 1) := by decide +kernel
theorem dX10_rootCommon_170 : decode cX10_rootCommon 170 = .ok (.lcmp, 1) := by decide +kernel
theorem dX10_rootCommon_171 : decode cX10_rootCommon 171 = .ok (.ifCond .ne 9, 3) := by decide +kernel
theorem dX10_rootCommon_174 : decode cX10_rootCommon 174 = .ok (.iinc 7 (-1), 3) := by decide +kernel
theorem dX10_rootCommon_177 : decode cX10_rootCommon 177 = .ok (.goto (-18), 3) := by decide +kernel
theorem dX10_rootCommon_180 : decode cX10_rootCommon 180 = .ok (.goto (-139), 3) := by decide +kernel
theorem dX10_rootCommon_183 : decode cX10_rootCommon 183 = .ok (.iload 6, 2) := by decide +kernel
theorem dX10_rootCommon_185 : decode cX10_rootCommon 185 = .ok (.ireturn, 1) := by decide +kernel
/-! AlgebraHouseModel.rootCommon(IJ)I -/
def P_X10_rootCommon_85 (Q : Int → MM → Prop) (K41 : Int → Int → Int → Int → Int → MM → Prop) (K61 : Int → Int → Int → Int → Int → Int → MM → Prop) : Nat → Int → Int → Int → Int → Int → Int → Int → Int → MM → Prop
  | 0, _, _, _, _, _, _, _, _, _ => False
  | n + 1, x2, x4, x5, x7, x8, x10, x11, x13, m => (RI x13) ∧ (RI x7) ∧ (if x7 < x13 then K61 x2 x4 x5 x7 x8 (x10 + (-1)) m else (inL x4 ((x10 - x7) + x13)) ∧ (inL x5 x13) ∧ (RL ((m x4 ((x10 - x7) + x13)) + (x11 * (m x5 x13)))) ∧ (RL x2) ∧ (x2 ≠ 0) ∧ ∀ m1 : MM, m1 = up m x4 ((x10 - x7) + x13) (Int.tmod ((m x4 ((x10 - x7) + x13)) + (x11 * (m x5 x13))) x2) → P_X10_rootCommon_85 Q K41 K61 n x2 x4 x5 x7 x8 x10 x11 (x13 + 1) m1)
def P_X10_rootCommon_159 (Q : Int → MM → Prop) (K41 : Int → Int → Int → Int → Int → MM → Prop) : Nat → Int → Int → Int → Int → Int → MM → Prop
  | 0, _, _, _, _, _, _ => False
  | n + 1, x2, x4, x5, x6, x7, m => (RI x7) ∧ (if x7 < 0 then K41 x2 x4 x5 x6 x7 m else (inL x5 x7) ∧ (RL (m x5 x7)) ∧ (if (m x5 x7) = 0 then P_X10_rootCommon_159 Q K41 n x2 x4 x5 x6 (x7 + (-1)) m else K41 x2 x4 x5 x6 x7 m))
def P_X10_rootCommon_137 (Q : Int → MM → Prop) (K41 : Int → Int → Int → Int → Int → MM → Prop) (x2 : Int) (x4 : Int) (x5 : Int) (x7 : Int) (m : MM) : Prop := ∃ nn, P_X10_rootCommon_159 Q K41 nn x2 x5 x4 x7 (x7 - 1) m
def P_X10_rootCommon_61 (Q : Int → MM → Prop) (K41 : Int → Int → Int → Int → Int → MM → Prop) : Nat → Int → Int → Int → Int → Int → Int → MM → Prop
  | 0, _, _, _, _, _, _, _ => False
  | n + 1, x2, x4, x5, x7, x8, x10, m => (RI x10) ∧ (RI x7) ∧ (if x10 < x7 then P_X10_rootCommon_137 Q K41 x2 x4 x5 x7 m else (inL x4 x10) ∧ (RL ((m x4 x10) * x8)) ∧ (RL x2) ∧ (x2 ≠ 0) ∧ ∃ nn, P_X10_rootCommon_85 Q K41 (fun z0 z1 z2 z3 z4 z5 z6 => P_X10_rootCommon_61 Q K41 n z0 z1 z2 z3 z4 z5 z6) nn x2 x4 x5 x7 x8 x10 (x2 - (Int.tmod ((m x4 x10) * x8) x2)) 0 m)
def P_X10_rootCommon_41 (Q : Int → MM → Prop) : Nat → Int → Int → Int → Int → Int → MM → Prop
  | 0, _, _, _, _, _, _ => False
  | n + 1, x2, x4, x5, x6, x7, m => (RI x7) ∧ (if x7 < 0 then Q x6 m else (inL x5 x7) ∧ P_X10_rootInverse (m x5 x7) x2 m (fun r1 m1 => ∃ nn, P_X10_rootCommon_61 Q (fun z0 z1 z2 z3 z4 z5 => P_X10_rootCommon_41 Q n z0 z1 z2 z3 z4 z5) nn x2 x4 x5 x7 r1 x6 m1))
def P_X10_rootCommon_20 (Q : Int → MM → Prop) : Nat → Int → Int → Int → Int → Int → MM → Prop
  | 0, _, _, _, _, _, _ => False
  | n + 1, x2, x4, x5, x6, x7, m => (RI x7) ∧ (if x7 < 0 then ∃ nn, P_X10_rootCommon_41 Q nn x2 x4 x5 x6 x7 m else (inL x5 x7) ∧ (RL (m x5 x7)) ∧ (if (m x5 x7) = 0 then P_X10_rootCommon_20 Q n x2 x4 x5 x6 (x7 + (-1)) m else ∃ nn, P_X10_rootCommon_41 Q nn x2 x4 x5 x6 x7 m))
def P_X10_rootCommon (x1 : Int) (x2 : Int) (m : MM) (Q : Int → MM → Prop) : Prop := ∃ nn, P_X10_rootCommon_20 Q nn x2 648 649 x1 (x1 - 1) m
theorem pl_X10_rootCommon_85 {f : Nat} {Q : Int → MM → Prop} {T : MM → Prop} (hf : 2 ≤ f) {K41 : Int → Int → Int → Int → Int → MM → Prop} {K61 : Int → Int → Int → Int → Int → Int → MM → Prop} (hK41 : ∀ (x2 : Int) (x4 : Int) (x5 : Int) (x6 : Int) (x7 : Int) (m : MM), K41 x2 x4 x5 x6 x7 m → B f M_X10_rootCommon 41 [vU, vU, vL x2, vU, vR x4, vR x5, vI x6, vI x7, vU, vU, vU, vU, vU, vU] [] m Q T) (hK61 : ∀ (x2 : Int) (x4 : Int) (x5 : Int) (x7 : Int) (x8 : Int) (x10 : Int) (m : MM), K61 x2 x4 x5 x7 x8 x10 m → B f M_X10_rootCommon 61 [vU, vU, vL x2, vU, vR x4, vR x5, vU, vI x7, vL x8, vU, vI x10, vU, vU, vU] [] m Q T) : ∀ (n : Nat) (x2 : Int) (x4 : Int) (x5 : Int) (x7 : Int) (x8 : Int) (x10 : Int) (x11 : Int) (x13 : Int) (m : MM), P_X10_rootCommon_85 Q K41 K61 n x2 x4 x5 x7 x8 x10 x11 x13 m → B f M_X10_rootCommon 85 [vU, vU, vL x2, vU, vR x4, vR x5, vU, vI x7, vL x8, vU, vI x10, vL x11, vU, vI x13] [] m Q T := by
  intro n
  induction n with
  | zero => intro x2 x4 x5 x7 x8 x10 x11 x13 m h; exact h.elim
  | succ n ih =>
    intro x2 x4 x5 x7 x8 x10 x11 x13 m h
    have h : (RI x13) ∧ (RI x7) ∧ (if x7 < x13 then K61 x2 x4 x5 x7 x8 (x10 + (-1)) m else (inL x4 ((x10 - x7) + x13)) ∧ (inL x5 x13) ∧ (RL ((m x4 ((x10 - x7) + x13)) + (x11 * (m x5 x13)))) ∧ (RL x2) ∧ (x2 ≠ 0) ∧ ∀ m1 : MM, m1 = up m x4 ((x10 - x7) + x13) (Int.tmod ((m x4 ((x10 - x7) + x13)) + (x11 * (m x5 x13))) x2) → P_X10_rootCommon_85 Q K41 K61 n x2 x4 x5 x7 x8 x10 x11 (x13 + 1) m1) := h
    refine b_iload dX10_rootCommon_85 rfl ?_
    refine b_iload dX10_rootCommon_87 rfl ?_
    obtain ⟨g1, h⟩ := h
    obtain ⟨g2, h⟩ := h
    refine b_icmp_gt 131 dX10_rootCommon_89 g1 g2 (by decide) (fun c1 => ?_) (fun c1 => ?_)
    · have h := ifT c1 h
      refine b_iinc (ls' := [vU, vU, vL x2, vU, vR x4, vR x5, vU, vI x7, vL x8, vU, vI (x10 + (-1)), vL x11, vU, vI x13]) dX10_rootCommon_131 rfl rfl ?_
      refine b_goto 61 dX10_rootCommon_134 (by decide) ?_
      refine b_fgt [false, false, true, false, true, true, false, true, true, false, true, false, false, false] (ls' := [vU, vU, vL x2, vU, vR x4, vR x5, vU, vI x7, vL x8, vU, vI (x10 + (-1)), vU, vU, vU]) rfl rfl ?_
      exact hK61 _ _ _ _ _ _ _ h
    · have h := ifF c1 h
      refine b_aload dX10_rootCommon_92 rfl ?_
      refine b_iload dX10_rootCommon_94 rfl ?_
      refine b_iload dX10_rootCommon_96 rfl ?_
      refine b_isub dX10_rootCommon_98 ?_
      refine b_iload dX10_rootCommon_99 rfl ?_
      refine b_iadd dX10_rootCommon_101 ?_
      refine b_aload dX10_rootCommon_102 rfl ?_
      refine b_iload dX10_rootCommon_104 rfl ?_
      refine b_iload dX10_rootCommon_106 rfl ?_
      refine b_isub dX10_rootCommon_108 ?_
      refine b_iload dX10_rootCommon_109 rfl ?_
      refine b_iadd dX10_rootCommon_111 ?_
      obtain ⟨g3, h⟩ := h
      refine b_laldX dX10_rootCommon_112 g3 ?_
      refine b_lload dX10_rootCommon_113 rfl ?_
      refine b_aload dX10_rootCommon_115 rfl ?_
      refine b_iload dX10_rootCommon_117 rfl ?_
      obtain ⟨g4, h⟩ := h
      refine b_laldX dX10_rootCommon_119 g4 ?_
      refine b_lmul dX10_rootCommon_120 ?_
      refine b_ladd dX10_rootCommon_121 ?_
      refine b_lload_n dX10_rootCommon_122 rfl ?_
      obtain ⟨g5, h⟩ := h
      obtain ⟨g6, h⟩ := h
      obtain ⟨g7, h⟩ := h
      refine b_lrem dX10_rootCommon_123 g5 g6 g7 ?_
      refine b_lastX dX10_rootCommon_124 g3 (fun m1 em1 => ?_)
      have h := h m1 em1
      refine b_iinc (ls' := [vU, vU, vL x2, vU, vR x4, vR x5, vU, vI x7, vL x8, vU, vI x10, vL x11, vU, vI (x13 + 1)]) dX10_rootCommon_125 rfl rfl ?_
      refine b_goto 85 dX10_rootCommon_128 (by decide) ?_
      exact ih _ _ _ _ _ _ _ _ _ h
theorem pl_X10_rootCommon_159 {f : Nat} {Q : Int → MM → Prop} {T : MM → Prop} (hf : 2 ≤ f) {K41 : Int → Int → Int → Int → Int → MM → Prop} (hK41 : ∀ (x2 : Int) (x4 : Int) (x5 : Int) (x6 : Int) (x7 : Int) (m : MM), K41 x2 x4 x5 x6 x7 m → B f M_X10_rootCommon 41 [vU, vU, vL x2, vU, vR x4, vR x5, vI x6, vI x7, vU, vU, vU, vU, vU, vU] [] m Q T) : ∀ (n : Nat) (x2 : Int) (x4 : Int) (x5 : Int) (x6 : Int) (x7 : Int) (m : MM), P_X10_rootCommon_159 Q K41 n x2 x4 x5 x6 x7 m → B f M_X10_rootCommon 159 [vU, vU, vL x2, vU, vR x4, vR x5, vI x6, vI x7, vU, vU, vU, vU, vU, vU] [] m Q T := by
  intro n
  induction n with
  | zero => intro x2 x4 x5 x6 x7 m h; exact h.elim
  | succ n ih =>
    intro x2 x4 x5 x6 x7 m h
    have h : (RI x7) ∧ (if x7 < 0 then K41 x2 x4 x5 x6 x7 m else (inL x5 x7) ∧ (RL (m x5 x7)) ∧ (if (m x5 x7) = 0 then P_X10_rootCommon_159 Q K41 n x2 x4 x5 x6 (x7 + (-1)) m else K41 x2 x4 x5 x6 x7 m)) := h
    refine b_iload dX10_rootCommon_159 rfl ?_
    obtain ⟨g1, h⟩ := h
    refine b_if_lt 180 dX10_rootCommon_161 g1 (by decide) (fun c1 => ?_) (fun c1 => ?_)
    · have h := ifT c1 h
      refine b_goto 41 dX10_rootCommon_180 (by decide) ?_
      exact hK41 _ _ _ _ _ _ h
    · have h := ifF c1 h
      refine b_aload dX10_rootCommon_164 rfl ?_
      refine b_iload dX10_rootCommon_166 rfl ?_
      obtain ⟨g2, h⟩ := h
      refine b_laldX dX10_rootCommon_168 g2 ?_
      refine b_lconst 0 dX10_rootCommon_169 (by decide) ?_
      obtain ⟨g3, h⟩ := h
      refine b_lc_ne 180 dX10_rootCommon_170 dX10_rootCommon_171 g3 (by decide) (by decide) (fun c2 => ?_) (fun c2 => ?_)
      · have h := ifF c2 h
        refine b_goto 41 dX10_rootCommon_180 (by decide) ?_
        exact hK41 _ _ _ _ _ _ h
      · have h := ifT (Decidable.of_not_not c2) h
        refine b_iinc (ls' := [vU, vU, vL x2, vU, vR x4, vR x5, vI x6, vI (x7 + (-1)), vU, vU, vU, vU, vU, vU]) dX10_rootCommon_174 rfl rfl ?_
        refine b_goto 159 dX10_rootCommon_177 (by decide) ?_
        exact ih _ _ _ _ _ _ h
theorem pl_X10_rootCommon_137 {f : Nat} {Q : Int → MM → Prop} {T : MM → Prop} (hf : 2 ≤ f) {K41 : Int → Int → Int → Int → Int → MM → Prop} (hK41 : ∀ (x2 : Int) (x4 : Int) (x5 : Int) (x6 : Int) (x7 : Int) (m : MM), K41 x2 x4 x5 x6 x7 m → B f M_X10_rootCommon 41 [vU, vU, vL x2, vU, vR x4, vR x5, vI x6, vI x7, vU, vU, vU, vU, vU, vU] [] m Q T) : ∀ (x2 : Int) (x4 : Int) (x5 : Int) (x7 : Int) (m : MM), P_X10_rootCommon_137 Q K41 x2 x4 x5 x7 m → B f M_X10_rootCommon 137 [vU, vU, vL x2, vU, vR x4, vR x5, vU, vI x7, vU, vU, vU, vU, vU, vU] [] m Q T := by
  intro x2 x4 x5 x7 m h
  have h : ∃ nn, P_X10_rootCommon_159 Q K41 nn x2 x5 x4 x7 (x7 - 1) m := h
  refine b_aload dX10_rootCommon_137 rfl ?_
  refine b_astore (ls' := [vU, vU, vL x2, vU, vR x4, vR x5, vU, vI x7, vU, vU, vR x4, vU, vU, vU]) dX10_rootCommon_139 (Nat.le_of_ble_eq_true rfl) rfl ?_
  refine b_aload dX10_rootCommon_141 rfl ?_
  refine b_astore (ls' := [vU, vU, vL x2, vU, vR x5, vR x5, vU, vI x7, vU, vU, vR x4, vU, vU, vU]) dX10_rootCommon_143 (Nat.le_of_ble_eq_true rfl) rfl ?_
  refine b_aload dX10_rootCommon_145 rfl ?_
  refine b_astore (ls' := [vU, vU, vL x2, vU, vR x5, vR x4, vU, vI x7, vU, vU, vR x4, vU, vU, vU]) dX10_rootCommon_147 (Nat.le_of_ble_eq_true rfl) rfl ?_
  refine b_iload dX10_rootCommon_149 rfl ?_
  refine b_istore (ls' := [vU, vU, vL x2, vU, vR x5, vR x4, vI x7, vI x7, vU, vU, vR x4, vU, vU, vU]) dX10_rootCommon_151 (Nat.le_of_ble_eq_true rfl) rfl ?_
  refine b_iload dX10_rootCommon_153 rfl ?_
  refine b_iconst dX10_rootCommon_155 ?_
  refine b_isub dX10_rootCommon_156 ?_
  refine b_istore (ls' := [vU, vU, vL x2, vU, vR x5, vR x4, vI x7, vI (x7 - 1), vU, vU, vR x4, vU, vU, vU]) dX10_rootCommon_157 (Nat.le_of_ble_eq_true rfl) rfl ?_
  refine b_fgt [false, false, true, false, true, true, true, true, false, false, false, false, false, false] (ls' := [vU, vU, vL x2, vU, vR x5, vR x4, vI x7, vI (x7 - 1), vU, vU, vU, vU, vU, vU]) rfl rfl ?_
  obtain ⟨nn, h⟩ := h
  exact pl_X10_rootCommon_159 hf hK41 nn _ _ _ _ _ _ h
theorem pl_X10_rootCommon_61 {f : Nat} {Q : Int → MM → Prop} {T : MM → Prop} (hf : 2 ≤ f) {K41 : Int → Int → Int → Int → Int → MM → Prop} (hK41 : ∀ (x2 : Int) (x4 : Int) (x5 : Int) (x6 : Int) (x7 : Int) (m : MM), K41 x2 x4 x5 x6 x7 m → B f M_X10_rootCommon 41 [vU, vU, vL x2, vU, vR x4, vR x5, vI x6, vI x7, vU, vU, vU, vU, vU, vU] [] m Q T) : ∀ (n : Nat) (x2 : Int) (x4 : Int) (x5 : Int) (x7 : Int) (x8 : Int) (x10 : Int) (m : MM), P_X10_rootCommon_61 Q K41 n x2 x4 x5 x7 x8 x10 m → B f M_X10_rootCommon 61 [vU, vU, vL x2, vU, vR x4, vR x5, vU, vI x7, vL x8, vU, vI x10, vU, vU, vU] [] m Q T := by
  intro n
  induction n with
  | zero => intro x2 x4 x5 x7 x8 x10 m h; exact h.elim
  | succ n ih =>
    intro x2 x4 x5 x7 x8 x10 m h
    have h : (RI x10) ∧ (RI x7) ∧ (if x10 < x7 then P_X10_rootCommon_137 Q K41 x2 x4 x5 x7 m else (inL x4 x10) ∧ (RL ((m x4 x10) * x8)) ∧ (RL x2) ∧ (x2 ≠ 0) ∧ ∃ nn, P_X10_rootCommon_85 Q K41 (fun z0 z1 z2 z3 z4 z5 z6 => P_X10_rootCommon_61 Q K41 n z0 z1 z2 z3 z4 z5 z6) nn x2 x4 x5 x7 x8 x10 (x2 - (Int.tmod ((m x4 x10) * x8) x2)) 0 m) := h
    refine b_iload dX10_rootCommon_61 rfl ?_
    refine b_iload dX10_rootCommon_63 rfl ?_
    obtain ⟨g1, h⟩ := h
    obtain ⟨g2, h⟩ := h
    refine b_icmp_lt 137 dX10_rootCommon_65 g1 g2 (by decide) (fun c1 => ?_) (fun c1 => ?_)
    · have h := ifT c1 h
      refine b_fgt [false, false, true, false, true, true, false, true, false, false, false, false, false, false] (ls' := [vU, vU, vL x2, vU, vR x4, vR x5, vU, vI x7, vU, vU, vU, vU, vU, vU]) rfl rfl ?_
      exact pl_X10_rootCommon_137 hf hK41 _ _ _ _ _ h
    · have h := ifF c1 h
      refine b_lload_n dX10_rootCommon_68 rfl ?_
      refine b_aload dX10_rootCommon_69 rfl ?_
      refine b_iload dX10_rootCommon_71 rfl ?_
      obtain ⟨g3, h⟩ := h
      refine b_laldX dX10_rootCommon_73 g3 ?_
      refine b_lload dX10_rootCommon_74 rfl ?_
      refine b_lmul dX10_rootCommon_76 ?_
      refine b_lload_n dX10_rootCommon_77 rfl ?_
      obtain ⟨g4, h⟩ := h
      obtain ⟨g5, h⟩ := h
      obtain ⟨g6, h⟩ := h
      refine b_lrem dX10_rootCommon_78 g4 g5 g6 ?_
      refine b_lsub dX10_rootCommon_79 ?_
      refine b_lstore (ls' := [vU, vU, vL x2, vU, vR x4, vR x5, vU, vI x7, vL x8, vU, vI x10, vL (x2 - (Int.tmod ((m x4 x10) * x8) x2)), vU, vU]) dX10_rootCommon_80 (Nat.le_of_ble_eq_true rfl) rfl ?_
      refine b_iconst dX10_rootCommon_82 ?_
      refine b_istore (ls' := [vU, vU, vL x2, vU, vR x4, vR x5, vU, vI x7, vL x8, vU, vI x10, vL (x2 - (Int.tmod ((m x4 x10) * x8) x2)), vU, vI 0]) dX10_rootCommon_83 (Nat.le_of_ble_eq_true rfl) rfl ?_
      obtain ⟨nn, h⟩ := h
      exact pl_X10_rootCommon_85 hf hK41 (fun _ _ _ _ _ _ _ h => ih _ _ _ _ _ _ _ h) nn _ _ _ _ _ _ _ _ _ h
theorem pl_X10_rootCommon_41 {f : Nat} {Q : Int → MM → Prop} {T : MM → Prop} (hf : 2 ≤ f) : ∀ (n : Nat) (x2 : Int) (x4 : Int) (x5 : Int) (x6 : Int) (x7 : Int) (m : MM), P_X10_rootCommon_41 Q n x2 x4 x5 x6 x7 m → B f M_X10_rootCommon 41 [vU, vU, vL x2, vU, vR x4, vR x5, vI x6, vI x7, vU, vU, vU, vU, vU, vU] [] m Q T := by
  intro n
  induction n with
  | zero => intro x2 x4 x5 x6 x7 m h; exact h.elim
  | succ n ih =>
    intro x2 x4 x5 x6 x7 m h
    have h : (RI x7) ∧ (if x7 < 0 then Q x6 m else (inL x5 x7) ∧ P_X10_rootInverse (m x5 x7) x2 m (fun r1 m1 => ∃ nn, P_X10_rootCommon_61 Q (fun z0 z1 z2 z3 z4 z5 => P_X10_rootCommon_41 Q n z0 z1 z2 z3 z4 z5) nn x2 x4 x5 x7 r1 x6 m1)) := h
    refine b_iload dX10_rootCommon_41 rfl ?_
    obtain ⟨g1, h⟩ := h
    refine b_if_lt 183 dX10_rootCommon_43 g1 (by decide) (fun c1 => ?_) (fun c1 => ?_)
    · have h := ifT c1 h
      refine b_iload dX10_rootCommon_183 rfl ?_
      exact b_iret dX10_rootCommon_185 rfl h
    · have h := ifF c1 h
      refine b_aload dX10_rootCommon_46 rfl ?_
      refine b_iload dX10_rootCommon_48 rfl ?_
      obtain ⟨g2, h⟩ := h
      refine b_laldX dX10_rootCommon_50 g2 ?_
      refine b_lload_n dX10_rootCommon_51 rfl ?_
      refine b_cSl (as := [vL (m x5 x7), vL x2]) (st := []) dX10_rootCommon_52 mf_X10_rootInverse lk_X10_863 (p_X10_rootInverse (f := 1) (Nat.le_refl _) _ _ _ h) (by omega) rfl rfl (Nat.le_of_ble_eq_true rfl) (by decide) rfl (fun _ => rfl) (fun r1 m1 h => ?_) (fun _ h => h)
      refine b_lstore (ls' := [vU, vU, vL x2, vU, vR x4, vR x5, vI x6, vI x7, vL r1, vU, vU, vU, vU, vU]) dX10_rootCommon_55 (Nat.le_of_ble_eq_true rfl) rfl ?_
      refine b_iload dX10_rootCommon_57 rfl ?_
      refine b_istore (ls' := [vU, vU, vL x2, vU, vR x4, vR x5, vI x6, vI x7, vL r1, vU, vI x6, vU, vU, vU]) dX10_rootCommon_59 (Nat.le_of_ble_eq_true rfl) rfl ?_
      refine b_fgt [false, false, true, false, true, true, false, true, true, false, true, false, false, false] (ls' := [vU, vU, vL x2, vU, vR x4, vR x5, vU, vI x7, vL r1, vU, vI x6, vU, vU, vU]) rfl rfl ?_
      obtain ⟨nn, h⟩ := h
      exact pl_X10_rootCommon_61 hf (fun _ _ _ _ _ _ h => ih _ _ _ _ _ _ h) nn _ _ _ _ _ _ _ h
theorem pl_X10_rootCommon_20 {f : Nat} {Q : Int → MM → Prop} {T : MM → Prop} (hf : 2 ≤ f) : ∀ (n : Nat) (x2 : Int) (x4 : Int) (x5 : Int) (x6 : Int) (x7 : Int) (m : MM), P_X10_rootCommon_20 Q n x2 x4 x5 x6 x7 m → B f M_X10_rootCommon 20 [vU, vU, vL x2, vU, vR x4, vR x5, vI x6, vI x7, vU, vU, vU, vU, vU, vU] [] m Q T := by
  intro n
  induction n with
  | zero => intro x2 x4 x5 x6 x7 m h; exact h.elim
  | succ n ih =>
    intro x2 x4 x5 x6 x7 m h
    have h : (RI x7) ∧ (if x7 < 0 then ∃ nn, P_X10_rootCommon_41 Q nn x2 x4 x5 x6 x7 m else (inL x5 x7) ∧ (RL (m x5 x7)) ∧ (if (m x5 x7) = 0 then P_X10_rootCommon_20 Q n x2 x4 x5 x6 (x7 + (-1)) m else ∃ nn, P_X10_rootCommon_41 Q nn x2 x4 x5 x6 x7 m)) := h
    refine b_iload dX10_rootCommon_20 rfl ?_
    obtain ⟨g1, h⟩ := h
    refine b_if_lt 41 dX10_rootCommon_22 g1 (by decide) (fun c1 => ?_) (fun c1 => ?_)
    · have h := ifT c1 h
      obtain ⟨nn, h⟩ := h
      exact pl_X10_rootCommon_41 hf nn _ _ _ _ _ _ h
    · have h := ifF c1 h
      refine b_aload dX10_rootCommon_25 rfl ?_
      refine b_iload dX10_rootCommon_27 rfl ?_
      obtain ⟨g2, h⟩ := h
      refine b_laldX dX10_rootCommon_29 g2 ?_
      refine b_lconst 0 dX10_rootCommon_30 (by decide) ?_
      obtain ⟨g3, h⟩ := h
      refine b_lc_ne 41 dX10_rootCommon_31 dX10_rootCommon_32 g3 (by decide) (by decide) (fun c2 => ?_) (fun c2 => ?_)
      · have h := ifF c2 h
        obtain ⟨nn, h⟩ := h
        exact pl_X10_rootCommon_41 hf nn _ _ _ _ _ _ h
      · have h := ifT (Decidable.of_not_not c2) h
        refine b_iinc (ls' := [vU, vU, vL x2, vU, vR x4, vR x5, vI x6, vI (x7 + (-1)), vU, vU, vU, vU, vU, vU]) dX10_rootCommon_35 rfl rfl ?_
        refine b_goto 20 dX10_rootCommon_38 (by decide) ?_
        exact ih _ _ _ _ _ _ h
theorem p_X10_rootCommon {f : Nat} {Q : Int → MM → Prop} {T : MM → Prop} (hf : 2 ≤ f) (x1 : Int) (x2 : Int) (m : MM) (h : P_X10_rootCommon x1 x2 m Q) : CC f M_X10_rootCommon [vR 582, vI x1, vL x2] m Q T := by
  refine CC.of (plainFor_of_name (by decide)) (Nat.le_of_ble_eq_true rfl) (ls := [vR 582, vI x1, vL x2, vU, vU, vU, vU, vU, vU, vU, vU, vU, vU, vU]) rfl ?_
  have h : ∃ nn, P_X10_rootCommon_20 Q nn x2 648 649 x1 (x1 - 1) m := h
  refine b_aload_n dX10_rootCommon_0 rfl ?_
  refine b_getR dX10_rootCommon_1 fk_X10_292 ly_582 gg_582_107 ?_
  refine b_astore (ls' := [vR 582, vI x1, vL x2, vU, vR 648, vU, vU, vU, vU, vU, vU, vU, vU, vU]) dX10_rootCommon_4 (Nat.le_of_ble_eq_true rfl) rfl ?_
  refine b_aload_n dX10_rootCommon_6 rfl ?_
  refine b_getR dX10_rootCommon_7 fk_X10_295 ly_582 gg_582_108 ?_
  refine b_astore (ls' := [vR 582, vI x1, vL x2, vU, vR 648, vR 649, vU, vU, vU, vU, vU, vU, vU, vU]) dX10_rootCommon_10 (Nat.le_of_ble_eq_true rfl) rfl ?_
  refine b_iload_n dX10_rootCommon_12 rfl ?_
  refine b_istore (ls' := [vR 582, vI x1, vL x2, vU, vR 648, vR 649, vI x1, vU, vU, vU, vU, vU, vU, vU]) dX10_rootCommon_13 (Nat.le_of_ble_eq_true rfl) rfl ?_
  refine b_iload_n dX10_rootCommon_15 rfl ?_
  refine b_iconst dX10_rootCommon_16 ?_
  refine b_isub dX10_rootCommon_17 ?_
  refine b_istore (ls' := [vR 582, vI x1, vL x2, vU, vR 648, vR 649, vI x1, vI (x1 - 1), vU, vU, vU, vU, vU, vU]) dX10_rootCommon_18 (Nat.le_of_ble_eq_true rfl) rfl ?_
  refine b_fgt [false, false, true, false, true, true, true, true, false, false, false, false, false, false] (ls' := [vU, vU, vL x2, vU, vR 648, vR 649, vI x1, vI (x1 - 1), vU, vU, vU, vU, vU, vU]) rfl rfl ?_
  obtain ⟨nn, h⟩ := h
  exact pl_X10_rootCommon_20 hf nn _ _ _ _ _ _ h
theorem dX10_rootOne_0 : decode cX10_rootOne 0 = .ok (.iconst 0, 1) := by decide +kernel
theorem dX10_rootOne_1 : decode cX10_rootOne 1 = .ok (.istore_n 1, 1) := by decide +kernel
theorem dX10_rootOne_2 : decode cX10_rootOne 2 = .ok (.iload_n 1, 1) := by decide +kernel
theorem dX10_rootOne_3 : decode cX10_rootOne 3 = .ok (.bipush 7, 2) := by decide +kernel
theorem dX10_rootOne_5 : decode cX10_rootOne 5 = .ok (.if_icmp .ge 16, 3) := by decide +kernel
theorem dX10_rootOne_8 : decode cX10_rootOne 8 = .ok (.aload_n 0, 1) := by decide +kernel
theorem dX10_rootOne_9 : decode cX10_rootOne 9 = .ok (.getfield 295, 3) := by decide +kernel
theorem dX10_rootOne_12 : decode cX10_rootOne 12 = .ok (.iload_n 1, 1) := by decide +kernel
theorem dX10_rootOne_13 : decode cX10_rootOne 13 = .ok (.lconst 0, 1) := by decide +kernel
theorem dX10_rootOne_14 : decode cX10_rootOne 14 = .ok (.lastore, 1) := by decide +kernel
theorem dX10_rootOne_15 : decode cX10_rootOne 15 = .ok (.iinc 1 1, 3) := by decide +kernel
theorem dX10_rootOne_18 : decode cX10_rootOne 18 = .ok (.goto (-16), 3) := by decide +kernel
theorem dX10_rootOne_21 : decode cX10_rootOne 21 = .ok (.aload_n 0, 1) := by decide +kernel
theorem dX10_rootOne_22 : decode cX10_rootOne 22 = .ok (.getfield 295, 3) := by decide +kernel
theorem dX10_rootOne_25 : decode cX10_rootOne 25 = .ok (.iconst 0, 1) := by decide +kernel
theorem dX10_rootOne_26 : decode cX10_rootOne 26 = .ok (.lconst 1, 1) := by decide +kernel
theorem dX10_rootOne_27 : decode cX10_rootOne 27 = .ok (.lastore, 1) := by decide +kernel
theorem dX10_rootOne_28 : decode cX10_rootOne 28 = .ok (.return_, 1) := by decide +kernel
/-! AlgebraHouseModel.rootOne()V -/
def P_X10_rootOne_2 (Q : Int → MM → Prop) : Nat → Int → MM → Prop
  | 0, _, _ => False
  | n + 1, x1, m => (RI x1) ∧ (if 7 ≤ x1 then ∀ m1 : MM, m1 = up m 649 0 1 → Q 0 m1 else (0 ≤ x1 ∧ x1 < 7) ∧ ∀ m2 : MM, m2 = up m 649 x1 0 → P_X10_rootOne_2 Q n (x1 + 1) m2)
def P_X10_rootOne (m : MM) (Q : Int → MM → Prop) : Prop := ∃ nn, P_X10_rootOne_2 Q nn 0 m
theorem pl_X10_rootOne_2 {f : Nat} {Q : Int → MM → Prop} {T : MM → Prop} (hf : 1 ≤ f) : ∀ (n : Nat) (x1 : Int) (m : MM), P_X10_rootOne_2 Q n x1 m → B f M_X10_rootOne 2 [vR 582, vI x1] [] m Q T := by
  intro n
  induction n with
  | zero => intro x1 m h; exact h.elim
  | succ n ih =>
    intro x1 m h
    have h : (RI x1) ∧ (if 7 ≤ x1 then ∀ m1 : MM, m1 = up m 649 0 1 → Q 0 m1 else (0 ≤ x1 ∧ x1 < 7) ∧ ∀ m2 : MM, m2 = up m 649 x1 0 → P_X10_rootOne_2 Q n (x1 + 1) m2) := h
    refine b_iload_n dX10_rootOne_2 rfl ?_
    refine b_bipush dX10_rootOne_3 (by decide) ?_
    obtain ⟨g1, h⟩ := h
    refine b_icmp_ge 21 dX10_rootOne_5 g1 (by decide) (by decide) (fun c1 => ?_) (fun c1 => ?_)
    · have h := ifT c1 h
      refine b_aload_n dX10_rootOne_21 rfl ?_
      refine b_getR dX10_rootOne_22 fk_X10_295 ly_582 gg_582_108 ?_
      refine b_iconst dX10_rootOne_25 ?_
      refine b_lconst 1 dX10_rootOne_26 (by decide) ?_
      refine b_last dX10_rootOne_27 ly_649 (by decide) (fun m1 em1 => ?_)
      have h := h m1 em1
      exact b_vret dX10_rootOne_28 rfl h
    · have h := ifF c1 h
      refine b_aload_n dX10_rootOne_8 rfl ?_
      refine b_getR dX10_rootOne_9 fk_X10_295 ly_582 gg_582_108 ?_
      refine b_iload_n dX10_rootOne_12 rfl ?_
      refine b_lconst 0 dX10_rootOne_13 (by decide) ?_
      obtain ⟨g2, h⟩ := h
      refine b_last dX10_rootOne_14 ly_649 g2 (fun m2 em2 => ?_)
      have h := h m2 em2
      refine b_iinc (ls' := [vR 582, vI (x1 + 1)]) dX10_rootOne_15 rfl rfl ?_
      refine b_goto 2 dX10_rootOne_18 (by decide) ?_
      exact ih _ _ h
theorem p_X10_rootOne {f : Nat} {Q : Int → MM → Prop} {T : MM → Prop} (hf : 1 ≤ f) (m : MM) (h : P_X10_rootOne m Q) : CC f M_X10_rootOne [vR 582] m Q T := by
  refine CC.of (plainFor_of_name (by decide)) (Nat.le_of_ble_eq_true rfl) (ls := [vR 582, vU]) rfl ?_
  have h : ∃ nn, P_X10_rootOne_2 Q nn 0 m := h
  refine b_iconst dX10_rootOne_0 ?_
  refine b_istore_n (ls' := [vR 582, vI 0]) dX10_rootOne_1 (Nat.le_of_ble_eq_true rfl) rfl ?_
  obtain ⟨nn, h⟩ := h
  exact pl_X10_rootOne_2 hf nn _ _ h
theorem dX10_rootSquare_0 : decode cX10_rootSquare 0 = .ok (.iconst 0, 1) := by decide +kernel
theorem dX10_rootSquare_1 : decode cX10_rootSquare 1 = .ok (.istore 4, 2) := by decide +kernel
theorem dX10_rootSquare_3 : decode cX10_rootSquare 3 = .ok (.iload 4, 2) := by decide +kernel
theorem dX10_rootSquare_5 : decode cX10_rootSquare 5 = .ok (.bipush 14, 2) := by decide +kernel
theorem dX10_rootSquare_7 : decode cX10_rootSquare 7 = .ok (.if_icmp .ge 17, 3) := by decide +kernel
theorem dX10_rootSquare_10 : decode cX10_rootSquare 10 = .ok (.aload_n 0, 1) := by decide +kernel
theorem dX10_rootSquare_11 : decode cX10_rootSquare 11 = .ok (.getfield 298, 3) := by decide +kernel
theorem dX10_rootSquare_14 : decode cX10_rootSquare 14 = .ok (.iload 4, 2) := by decide +kernel
theorem dX10_rootSquare_16 : decode cX10_rootSquare 16 = .ok (.lconst 0, 1) := by decide +kernel
theorem dX10_rootSquare_17 : decode cX10_rootSquare 17 = .ok (.lastore, 1) := by decide +kernel
theorem dX10_rootSquare_18 : decode cX10_rootSquare 18 = .ok (.iinc 4 1, 3) := by decide +kernel
theorem dX10_rootSquare_21 : decode cX10_rootSquare 21 = .ok (.goto (-18), 3) := by decide +kernel
theorem dX10_rootSquare_24 : decode cX10_rootSquare 24 = .ok (.iconst 0, 1) := by decide +kernel
theorem dX10_rootSquare_25 : decode cX10_rootSquare 25 = .ok (.istore 4, 2) := by decide +kernel
theorem dX10_rootSquare_27 : decode cX10_rootSquare 27 = .ok (.iload 4, 2) := by decide +kernel
theorem dX10_rootSquare_29 : decode cX10_rootSquare 29 = .ok (.iload_n 1, 1) := by decide +kernel
theorem dX10_rootSquare_30 : decode cX10_rootSquare 30 = .ok (.if_icmp .ge 62, 3) := by decide +kernel
theorem dX10_rootSquare_33 : decode cX10_rootSquare 33 = .ok (.iconst 0, 1) := by decide +kernel
theorem dX10_rootSquare_34 : decode cX10_rootSquare 34 = .ok (.istore 5, 2) := by decide +kernel
theorem dX10_rootSquare_36 : decode cX10_rootSquare 36 = .ok (.iload 5, 2) := by decide +kernel
theorem dX10_rootSquare_38 : decode cX10_rootSquare 38 = .ok (.iload_n 1, 1) := by decide +kernel
theorem dX10_rootSquare_39 : decode cX10_rootSquare 39 = .ok (.if_icmp .ge 47, 3) := by decide +kernel
theorem dX10_rootSquare_42 : decode cX10_rootSquare 42 = .ok (.aload_n 0, 1) := by decide +kernel
theorem dX10_rootSquare_43 : decode cX10_rootSquare 43 = .ok (.getfield 298, 3) := by decide +kernel
theorem dX10_rootSquare_46 : decode cX10_rootSquare 46 = .ok (.iload 4, 2) := by decide +kernel
theorem dX10_rootSquare_48 : decode cX10_rootSquare 48 = .ok (.iload 5, 2) := by decide +kernel
theorem dX10_rootSquare_50 : decode cX10_rootSquare 50 = .ok (.iadd, 1) := by decide +kernel
theorem dX10_rootSquare_51 : decode cX10_rootSquare 51 = .ok (.aload_n 0, 1) := by decide +kernel
theorem dX10_rootSquare_52 : decode cX10_rootSquare 52 = .ok (.getfield 298, 3) := by decide +kernel
theorem dX10_rootSquare_55 : decode cX10_rootSquare 55 = .ok (.iload 4, 2) := by decide +kernel
theorem dX10_rootSquare_57 : decode cX10_rootSquare 57 = .ok (.iload 5, 2) := by decide +kernel
theorem dX10_rootSquare_59 : decode cX10_rootSquare 59 = .ok (.iadd, 1) := by decide +kernel
theorem dX10_rootSquare_60 : decode cX10_rootSquare 60 = .ok (.laload, 1) := by decide +kernel
theorem dX10_rootSquare_61 : decode cX10_rootSquare 61 = .ok (.aload_n 0, 1) := by decide +kernel
theorem dX10_rootSquare_62 : decode cX10_rootSquare 62 = .ok (.getfield 295, 3) := by decide +kernel
theorem dX10_rootSquare_65 : decode cX10_rootSquare 65 = .ok (.iload 4, 2) := by decide +kernel
theorem dX10_rootSquare_67 : decode cX10_rootSquare 67 = .ok (.laload, 1) := by decide +kernel
theorem dX10_rootSquare_68 : decode cX10_rootSquare 68 = .ok (.aload_n 0, 1) := by decide +kernel
theorem dX10_rootSquare_69 : decode cX10_rootSquare 69 = .ok (.getfield 295, 3) := by decide +kernel
theorem dX10_rootSquare_72 : decode cX10_rootSquare 72 = .ok (.iload 5, 2) := by decide +kernel
theorem dX10_rootSquare_74 : decode cX10_rootSquare 74 = .ok (.laload, 1) := by decide +kernel
theorem dX10_rootSquare_75 : decode cX10_rootSquare 75 = .ok (.lmul, 1) := by decide +kernel
theorem dX10_rootSquare_76 : decode cX10_rootSquare 76 = .ok (.ladd, 1) := by decide +kernel
theorem dX10_rootSquare_77 : decode cX10_rootSquare 77 = .ok (.lload_n 2, 1) := by decide +kernel
theorem dX10_rootSquare_78 : decode cX10_rootSquare 78 = .ok (.lrem, 1) := by decide +kernel
theorem dX10_rootSquare_79 : decode cX10_rootSquare 79 = .ok (.lastore, 1) := by decide +kernel
theorem dX10_rootSquare_80 : decode cX10_rootSquare 80 = .ok (.iinc 5 1, 3) := by decide +kernel
theorem dX10_rootSquare_83 : decode cX10_rootSquare 83 = .ok (.goto (-47), 3) := by decide +kernel
theorem dX10_rootSquare_86 : decode cX10_rootSquare 86 = .ok (.iinc 4 1, 3) := by decide +kernel
theorem dX10_rootSquare_89 : decode cX10_rootSquare 89 = .ok (.goto (-62), 3) := by decide +kernel
theorem dX10_rootSquare_92 : decode cX10_rootSquare 92 = .ok (.iconst 2, 1) := by decide +kernel
theorem dX10_rootSquare_93 : decode cX10_rootSquare 93 = .ok (.iload_n 1, 1) := by decide +kernel
theorem dX10_rootSquare_94 : decode cX10_rootSquare 94 = .ok (.imul, 1) := by decide +kernel
theorem dX10_rootSquare_95 : decode cX10_rootSquare 95 = .ok (.iconst 2, 1) := by decide +kernel
theorem dX10_rootSquare_96 : decode cX10_rootSquare 96 = .ok (.isub, 1) := by decide +kernel
theorem dX10_rootSquare_97 : decode cX10_rootSquare 97 = .ok (.istore 4, 2) := by decide +kernel
theorem dX10_rootSquare_99 : decode cX10_rootSquare 99 = .ok (.iload 4, 2) := by decide +kernel
theorem dX10_rootSquare_101 : decode cX10_rootSquare 101 = .ok (.iload_n 1, 1) := by decide +kernel
theorem dX10_rootSquare_102 : decode cX10_rootSquare 102 = .ok (.if_icmp .lt 72, 3) := by decide +kernel
theorem dX10_rootSquare_105 : decode cX10_rootSquare 105 = .ok (.lload_n 2, 1) := by decide +kernel
theorem dX10_rootSquare_106 : decode cX10_rootSquare 106 = .ok (.aload_n 0, 1) := by decide +kernel
theorem dX10_rootSquare_107 : decode cX10_rootSquare 107 = .ok (.getfield 298, 3) := by decide +kernel
theorem dX10_rootSquare_110 : decode cX10_rootSquare 110 = .ok (.iload 4, 2) := by decide +kernel
theorem dX10_rootSquare_112 : decode cX10_rootSquare 112 = .ok (.laload, 1) := by decide +kernel
theorem dX10_rootSquare_113 : decode cX10_rootSquare 113 = .ok (.lsub, 1) := by decide +kernel
theorem dX10_rootSquare_114 : decode cX10_rootSquare 114 = .ok (.lstore 5, 2) := by decide +kernel
theorem dX10_rootSquare_116 : decode cX10_rootSquare 116 = .ok (.iconst 0, 1) := by decide +kernel
theorem dX10_rootSquare_117 : decode cX10_rootSquare 117 = .ok (.istore 7, 2) := by decide +kernel
theorem dX10_rootSquare_119 : decode cX10_rootSquare 119 = .ok (.iload 7, 2) := by decide +kernel
theorem dX10_rootSquare_121 : decode cX10_rootSquare 121 = .ok (.iload_n 1, 1) := by decide +kernel
theorem dX10_rootSquare_122 : decode cX10_rootSquare 122 = .ok (.if_icmp .ge 46, 3) := by decide +kernel
theorem dX10_rootSquare_125 : decode cX10_rootSquare 125 = .ok (.aload_n 0, 1) := by decide +kernel
theorem dX10_rootSquare_126 : decode cX10_rootSquare 126 = .ok (.getfield 298, 3) := by decide +kernel
theorem dX10_rootSquare_129 : decode cX10_rootSquare 129 = .ok (.iload 4, 2) := by decide +kernel
theorem dX10_rootSquare_131 : decode cX10_rootSquare 131 = .ok (.iload_n 1, 1) := by decide +kernel
theorem dX10_rootSquare_132 : decode cX10_rootSquare 132 = .ok (.isub, 1) := by decide +kernel
theorem dX10_rootSquare_133 : decode cX10_rootSquare 133 = .ok (.iload 7, 2) := by decide +kernel
theorem dX10_rootSquare_135 : decode cX10_rootSquare 135 = .ok (.iadd, 1) := by decide +kernel
theorem dX10_rootSquare_136 : decode cX10_rootSquare 136 = .ok (.aload_n 0, 1) := by decide +kernel
theorem dX10_rootSquare_137 : decode cX10_rootSquare 137 = .ok (.getfield 298, 3) := by decide +kernel
theorem dX10_rootSquare_140 : decode cX10_rootSquare 140 = .ok (.iload 4, 2) := by decide +kernel
theorem dX10_rootSquare_142 : decode cX10_rootSquare 142 = .ok (.iload_n 1, 1) := by decide +kernel
theorem dX10_rootSquare_143 : decode cX10_rootSquare 143 = .ok (.isub, 1) := by decide +kernel
theorem dX10_rootSquare_144 : decode cX10_rootSquare 144 = .ok (.iload 7, 2) := by decide +kernel
theorem dX10_rootSquare_146 : decode cX10_rootSquare 146 = .ok (.iadd, 1) := by decide +kernel
theorem dX10_rootSquare_147 : decode cX10_rootSquare 147 = .ok (.laload, 1) := by decide +kernel
theorem dX10_rootSquare_148 : decode cX10_rootSquare 148 = .ok (.lload 5, 2) := by decide +kernel
theorem dX10_rootSquare_150 : decode cX10_rootSquare 150 = .ok (.aload_n 0, 1) := by decide +kernel
theorem dX10_rootSquare_151 : decode cX10_rootSquare 151 = .ok (.getfield 292, 3) := by decide +kernel
theorem dX10_rootSquare_154 : decode cX10_rootSquare 154 = .ok (.iload 7, 2) := by decide +kernel
theorem dX10_rootSquare_156 : decode cX10_rootSquare 156 = .ok (.laload, 1) := by decide +kernel
theorem dX10_rootSquare_157 : decode cX10_rootSquare 157 = .ok (.lmul, 1) := by decide +kernel
theorem dX10_rootSquare_158 : decode cX10_rootSquare 158 = .ok (.ladd, 1) := by decide +kernel
theorem dX10_rootSquare_159 : decode cX10_rootSquare 159 = .ok (.lload_n 2, 1) := by decide +kernel
theorem dX10_rootSquare_160 : decode cX10_rootSquare 160 = .ok (.lrem, 1) := by decide +kernel
theorem dX10_rootSquare_161 : decode cX10_rootSquare 161 = .ok (.lastore, 1) := by decide +kernel
theorem dX10_rootSquare_162 : decode cX10_rootSquare 162 = .ok (.iinc 7 1, 3) := by decide +kernel
theorem dX10_rootSquare_165 : decode cX10_rootSquare 165 = .ok (.goto (-46), 3) := by decide +kernel
theorem dX10_rootSquare_168 : decode cX10_rootSquare 168 = .ok (.iinc 4 (-1), 3) := by decide +kernel
theorem dX10_rootSquare_171 : decode cX10_rootSquare 171 = .ok (.goto (-72), 3) := by decide +kernel
theorem dX10_rootSquare_174 : decode cX10_rootSquare 174 = .ok (.iconst 0, 1) := by decide +kernel
theorem dX10_rootSquare_175 : decode cX10_rootSquare 175 = .ok (.istore 4, 2) := by decide +kernel
theorem dX10_rootSquare_177 : decode cX10_rootSquare 177 = .ok (.iload 4, 2) := by decide +kernel
theorem dX10_rootSquare_179 : decode cX10_rootSquare 179 = .ok (.iload_n 1, 1) := by decide +kernel
theorem dX10_rootSquare_180 : decode cX10_rootSquare 180 = .ok (.if_icmp .ge 23, 3) := by decide +kernel
theorem dX10_rootSquare_183 : decode cX10_rootSquare 183 = .ok (.aload_n 0, 1) := by decide +kernel
theorem dX10_rootSquare_184 : decode cX10_rootSquare 184 = .ok (.getfield 295, 3) := by decide +kernel
theorem dX10_rootSquare_187 : decode cX10_rootSquare 187 = .ok (.iload 4, 2) := by decide +kernel
theorem dX10_rootSquare_189 : decode cX10_rootSquare 189 = .ok (.aload_n 0, 1) := by decide +kernel
theorem dX10_rootSquare_190 : decode cX10_rootSquare 190 = .ok (.getfield 298, 3) := by decide +kernel
theorem dX10_rootSquare_193 : decode cX10_rootSquare 193 = .ok (.iload 4, 2) := by decide +kernel
theorem dX10_rootSquare_195 : decode cX10_rootSquare 195 = .ok (.laload, 1) := by decide +kernel
theorem dX10_rootSquare_196 : decode cX10_rootSquare 196 = .ok (.lastore, 1) := by decide +kernel
theorem dX10_rootSquare_197 : decode cX10_rootSquare 197 = .ok (.iinc 4 1, 3) := by decide +kernel
theorem dX10_rootSquare_200 : decode cX10_rootSquare 200 = .ok (.goto (-23), 3) := by decide +kernel
theorem dX10_rootSquare_203 : decode cX10_rootSquare 203 = .ok (.return_, 1) := by decide +kernel
/-! AlgebraHouseModel.rootSquare(IJ)V -/
def P_X10_rootSquare_36 (Q : Int → MM → Prop) (K27 : Int → Int → Int → MM → Prop) : Nat → Int → Int → Int → Int → MM → Prop
  | 0, _, _, _, _, _ => False
  | n + 1, x1, x2, x4, x5, m => (RI x5) ∧ (RI x1) ∧ (if x1 ≤ x5 then K27 x1 x2 (x4 + 1) m else (0 ≤ (x4 + x5) ∧ (x4 + x5) < 14) ∧ (0 ≤ x4 ∧ x4 < 7) ∧ (0 ≤ x5 ∧ x5 < 7) ∧ (RL ((m 650 (x4 + x5)) + ((m 649 x4) * (m 649 x5)))) ∧ (RL x2) ∧ (x2 ≠ 0) ∧ ∀ m1 : MM, m1 = up m 650 (x4 + x5) (Int.tmod ((m 650 (x4 + x5)) + ((m 649 x4) * (m 649 x5))) x2) → P_X10_rootSquare_36 Q K27 n x1 x2 x4 (x5 + 1) m1)
def P_X10_rootSquare_119 (Q : Int → MM → Prop) (K99 : Int → Int → Int → MM → Prop) : Nat → Int → Int → Int → Int → Int → MM → Prop
  | 0, _, _, _, _, _, _ => False
  | n + 1, x1, x2, x4, x5, x7, m => (RI x7) ∧ (RI x1) ∧ (if x1 ≤ x7 then K99 x1 x2 (x4 + (-1)) m else (0 ≤ ((x4 - x1) + x7) ∧ ((x4 - x1) + x7) < 14) ∧ (0 ≤ x7 ∧ x7 < 7) ∧ (RL ((m 650 ((x4 - x1) + x7)) + (x5 * (m 648 x7)))) ∧ (RL x2) ∧ (x2 ≠ 0) ∧ ∀ m1 : MM, m1 = up m 650 ((x4 - x1) + x7) (Int.tmod ((m 650 ((x4 - x1) + x7)) + (x5 * (m 648 x7))) x2) → P_X10_rootSquare_119 Q K99 n x1 x2 x4 x5 (x7 + 1) m1)
def P_X10_rootSquare_177 (Q : Int → MM → Prop) : Nat → Int → Int → MM → Prop
  | 0, _, _, _ => False
  | n + 1, x1, x4, m => (RI x4) ∧ (RI x1) ∧ (if x1 ≤ x4 then Q 0 m else (0 ≤ x4 ∧ x4 < 14) ∧ (0 ≤ x4 ∧ x4 < 7) ∧ ∀ m1 : MM, m1 = up m 649 x4 (m 650 x4) → P_X10_rootSquare_177 Q n x1 (x4 + 1) m1)
def P_X10_rootSquare_99 (Q : Int → MM → Prop) : Nat → Int → Int → Int → MM → Prop
  | 0, _, _, _, _ => False
  | n + 1, x1, x2, x4, m => (RI x4) ∧ (RI x1) ∧ (if x4 < x1 then ∃ nn, P_X10_rootSquare_177 Q nn x1 0 m else (0 ≤ x4 ∧ x4 < 14) ∧ ∃ nn, P_X10_rootSquare_119 Q (fun z0 z1 z2 z3 => P_X10_rootSquare_99 Q n z0 z1 z2 z3) nn x1 x2 x4 (x2 - (m 650 x4)) 0 m)
def P_X10_rootSquare_92 (Q : Int → MM → Prop) (x1 : Int) (x2 : Int) (m : MM) : Prop := ∃ nn, P_X10_rootSquare_99 Q nn x1 x2 ((2 * x1) - 2) m
def P_X10_rootSquare_27 (Q : Int → MM → Prop) : Nat → Int → Int → Int → MM → Prop
  | 0, _, _, _, _ => False
  | n + 1, x1, x2, x4, m => (RI x4) ∧ (RI x1) ∧ (if x1 ≤ x4 then P_X10_rootSquare_92 Q x1 x2 m else ∃ nn, P_X10_rootSquare_36 Q (fun z0 z1 z2 z3 => P_X10_rootSquare_27 Q n z0 z1 z2 z3) nn x1 x2 x4 0 m)
def P_X10_rootSquare_3 (Q : Int → MM → Prop) : Nat → Int → Int → Int → MM → Prop
  | 0, _, _, _, _ => False
  | n + 1, x1, x2, x4, m => (RI x4) ∧ (if 14 ≤ x4 then ∃ nn, P_X10_rootSquare_27 Q nn x1 x2 0 m else (0 ≤ x4 ∧ x4 < 14) ∧ ∀ m1 : MM, m1 = up m 650 x4 0 → P_X10_rootSquare_3 Q n x1 x2 (x4 + 1) m1)
def P_X10_rootSquare (x1 : Int) (x2 : Int) (m : MM) (Q : Int → MM → Prop) : Prop := ∃ nn, P_X10_rootSquare_3 Q nn x1 x2 0 m
theorem pl_X10_rootSquare_36 {f : Nat} {Q : Int → MM → Prop} {T : MM → Prop} (hf : 1 ≤ f) {K27 : Int → Int → Int → MM → Prop} (hK27 : ∀ (x1 : Int) (x2 : Int) (x4 : Int) (m : MM), K27 x1 x2 x4 m → B f M_X10_rootSquare 27 [vR 582, vI x1, vL x2, vU, vI x4, vU, vU, vU] [] m Q T) : ∀ (n : Nat) (x1 : Int) (x2 : Int) (x4 : Int) (x5 : Int) (m : MM), P_X10_rootSquare_36 Q K27 n x1 x2 x4 x5 m → B f M_X10_rootSquare 36 [vR 582, vI x1, vL x2, vU, vI x4, vI x5, vU, vU] [] m Q T := by
  intro n
  induction n with
  | zero => intro x1 x2 x4 x5 m h; exact h.elim
  | succ n ih =>
    intro x1 x2 x4 x5 m h
    have h : (RI x5) ∧ (RI x1) ∧ (if x1 ≤ x5 then K27 x1 x2 (x4 + 1) m else (0 ≤ (x4 + x5) ∧ (x4 + x5) < 14) ∧ (0 ≤ x4 ∧ x4 < 7) ∧ (0 ≤ x5 ∧ x5 < 7) ∧ (RL ((m 650 (x4 + x5)) + ((m 649 x4) * (m 649 x5)))) ∧ (RL x2) ∧ (x2 ≠ 0) ∧ ∀ m1 : MM, m1 = up m 650 (x4 + x5) (Int.tmod ((m 650 (x4 + x5)) + ((m 649 x4) * (m 649 x5))) x2) → P_X10_rootSquare_36 Q K27 n x1 x2 x4 (x5 + 1) m1) := h
    refine b_iload dX10_rootSquare_36 rfl ?_
    refine b_iload_n dX10_rootSquare_38 rfl ?_
    obtain ⟨g1, h⟩ := h
    obtain ⟨g2, h⟩ := h
    refine b_icmp_ge 86 dX10_rootSquare_39 g1 g2 (by decide) (fun c1 => ?_) (fun c1 => ?_)
    · have h := ifT c1 h
      refine b_iinc (ls' := [vR 582, vI x1, vL x2, vU, vI (x4 + 1), vI x5, vU, vU]) dX10_rootSquare_86 rfl rfl ?_
      refine b_goto 27 dX10_rootSquare_89 (by decide) ?_
      refine b_fgt [true, true, true, false, true, false, false, false] (ls' := [vR 582, vI x1, vL x2, vU, vI (x4 + 1), vU, vU, vU]) rfl rfl ?_
      exact hK27 _ _ _ _ h
    · have h := ifF c1 h
      refine b_aload_n dX10_rootSquare_42 rfl ?_
      refine b_getR dX10_rootSquare_43 fk_X10_298 ly_582 gg_582_109 ?_
      refine b_iload dX10_rootSquare_46 rfl ?_
      refine b_iload dX10_rootSquare_48 rfl ?_
      refine b_iadd dX10_rootSquare_50 ?_
      refine b_aload_n dX10_rootSquare_51 rfl ?_
      refine b_getR dX10_rootSquare_52 fk_X10_298 ly_582 gg_582_109 ?_
      refine b_iload dX10_rootSquare_55 rfl ?_
      refine b_iload dX10_rootSquare_57 rfl ?_
      refine b_iadd dX10_rootSquare_59 ?_
      obtain ⟨g3, h⟩ := h
      refine b_lald dX10_rootSquare_60 ly_650 g3 ?_
      refine b_aload_n dX10_rootSquare_61 rfl ?_
      refine b_getR dX10_rootSquare_62 fk_X10_295 ly_582 gg_582_108 ?_
      refine b_iload dX10_rootSquare_65 rfl ?_
      obtain ⟨g4, h⟩ := h
      refine b_lald dX10_rootSquare_67 ly_649 g4 ?_
      refine b_aload_n dX10_rootSquare_68 rfl ?_
      refine b_getR dX10_rootSquare_69 fk_X10_295 ly_582 gg_582_108 ?_
      refine b_iload dX10_rootSquare_72 rfl ?_
      obtain ⟨g5, h⟩ := h
      refine b_lald dX10_rootSquare_74 ly_649 g5 ?_
      refine b_lmul dX10_rootSquare_75 ?_
      refine b_ladd dX10_rootSquare_76 ?_
      refine b_lload_n dX10_rootSquare_77 rfl ?_
      obtain ⟨g6, h⟩ := h
      obtain ⟨g7, h⟩ := h
      obtain ⟨g8, h⟩ := h
      refine b_lrem dX10_rootSquare_78 g6 g7 g8 ?_
      refine b_last dX10_rootSquare_79 ly_650 g3 (fun m1 em1 => ?_)
      have h := h m1 em1
      refine b_iinc (ls' := [vR 582, vI x1, vL x2, vU, vI x4, vI (x5 + 1), vU, vU]) dX10_rootSquare_80 rfl rfl ?_
      refine b_goto 36 dX10_rootSquare_83 (by decide) ?_
      exact ih _ _ _ _ _ h
theorem pl_X10_rootSquare_119 {f : Nat} {Q : Int → MM → Prop} {T : MM → Prop} (hf : 1 ≤ f) {K99 : Int → Int → Int → MM → Prop} (hK99 : ∀ (x1 : Int) (x2 : Int) (x4 : Int) (m : MM), K99 x1 x2 x4 m → B f M_X10_rootSquare 99 [vR 582, vI x1, vL x2, vU, vI x4, vU, vU, vU] [] m Q T) : ∀ (n : Nat) (x1 : Int) (x2 : Int) (x4 : Int) (x5 : Int) (x7 : Int) (m : MM), P_X10_rootSquare_119 Q K99 n x1 x2 x4 x5 x7 m → B f M_X10_rootSquare 119 [vR 582, vI x1, vL x2, vU, vI x4, vL x5, vU, vI x7] [] m Q T := by
  intro n
  induction n with
  | zero => intro x1 x2 x4 x5 x7 m h; exact h.elim
  | succ n ih =>
    intro x1 x2 x4 x5 x7 m h
    have h : (RI x7) ∧ (RI x1) ∧ (if x1 ≤ x7 then K99 x1 x2 (x4 + (-1)) m else (0 ≤ ((x4 - x1) + x7) ∧ ((x4 - x1) + x7) < 14) ∧ (0 ≤ x7 ∧ x7 < 7) ∧ (RL ((m 650 ((x4 - x1) + x7)) + (x5 * (m 648 x7)))) ∧ (RL x2) ∧ (x2 ≠ 0) ∧ ∀ m1 : MM, m1 = up m 650 ((x4 - x1) + x7) (Int.tmod ((m 650 ((x4 - x1) + x7)) + (x5 * (m 648 x7))) x2) → P_X10_rootSquare_119 Q K99 n x1 x2 x4 x5 (x7 + 1) m1) := h
    refine b_iload dX10_rootSquare_119 rfl ?_
    refine b_iload_n dX10_rootSquare_121 rfl ?_
    obtain ⟨g1, h⟩ := h
    obtain ⟨g2, h⟩ := h
    refine b_icmp_ge 168 dX10_rootSquare_122 g1 g2 (by decide) (fun c1 => ?_) (fun c1 => ?_)
    · have h := ifT c1 h
      refine b_iinc (ls' := [vR 582, vI x1, vL x2, vU, vI (x4 + (-1)), vL x5, vU, vI x7]) dX10_rootSquare_168 rfl rfl ?_
      refine b_goto 99 dX10_rootSquare_171 (by decide) ?_
      refine b_fgt [true, true, true, false, true, false, false, false] (ls' := [vR 582, vI x1, vL x2, vU, vI (x4 + (-1)), vU, vU, vU]) rfl rfl ?_
      exact hK99 _ _ _ _ h
    · have h := ifF c1 h
      refine b_aload_n dX10_rootSquare_125 rfl ?_
      refine b_getR dX10_rootSquare_126 fk_X10_298 ly_582 gg_582_109 ?_
      refine b_iload dX10_rootSquare_129 rfl ?_
      refine b_iload_n dX10_rootSquare_131 rfl ?_
      refine b_isub dX10_rootSquare_132 ?_
      refine b_iload dX10_rootSquare_133 rfl ?_
      refine b_iadd dX10_rootSquare_135 ?_
      refine b_aload_n dX10_rootSquare_136 rfl ?_
      refine b_getR dX10_rootSquare_137 fk_X10_298 ly_582 gg_582_109 ?_
      refine b_iload dX10_rootSquare_140 rfl ?_
      refine b_iload_n dX10_rootSquare_142 rfl ?_
      refine b_isub dX10_rootSquare_143 ?_
      refine b_iload dX10_rootSquare_144 rfl ?_
      refine b_iadd dX10_rootSquare_146 ?_
      obtain ⟨g3, h⟩ := h
      refine b_lald dX10_rootSquare_147 ly_650 g3 ?_
      refine b_lload dX10_rootSquare_148 rfl ?_
      refine b_aload_n dX10_rootSquare_150 rfl ?_
      refine b_getR dX10_rootSquare_151 fk_X10_292 ly_582 gg_582_107 ?_
      refine b_iload dX10_rootSquare_154 rfl ?_
      obtain ⟨g4, h⟩ := h
      refine b_lald dX10_rootSquare_156 ly_648 g4 ?_
      refine b_lmul dX10_rootSquare_157 ?_
      refine b_ladd dX10_rootSquare_158 ?_
      refine b_lload_n dX10_rootSquare_159 rfl ?_
      obtain ⟨g5, h⟩ := h
      obtain ⟨g6, h⟩ := h
      obtain ⟨g7, h⟩ := h
      refine b_lrem dX10_rootSquare_160 g5 g6 g7 ?_
      refine b_last dX10_rootSquare_161 ly_650 g3 (fun m1 em1 => ?_)
      have h := h m1 em1
      refine b_iinc (ls' := [vR 582, vI x1, vL x2, vU, vI x4, vL x5, vU, vI (x7 + 1)]) dX10_rootSquare_162 rfl rfl ?_
      refine b_goto 119 dX10_rootSquare_165 (by decide) ?_
      exact ih _ _ _ _ _ _ h
theorem pl_X10_rootSquare_177 {f : Nat} {Q : Int → MM → Prop} {T : MM → Prop} (hf : 1 ≤ f) : ∀ (n : Nat) (x1 : Int) (x4 : Int) (m : MM), P_X10_rootSquare_177 Q n x1 x4 m → B f M_X10_rootSquare 177 [vR 582, vI x1, vU, vU, vI x4, vU, vU, vU] [] m Q T := by
  intro n
  induction n with
  | zero => intro x1 x4 m h; exact h.elim
  | succ n ih =>
    intro x1 x4 m h
    have h : (RI x4) ∧ (RI x1) ∧ (if x1 ≤ x4 then Q 0 m else (0 ≤ x4 ∧ x4 < 14) ∧ (0 ≤ x4 ∧ x4 < 7) ∧ ∀ m1 : MM, m1 = up m 649 x4 (m 650 x4) → P_X10_rootSquare_177 Q n x1 (x4 + 1) m1) := h
    refine b_iload dX10_rootSquare_177 rfl ?_
    refine b_iload_n dX10_rootSquare_179 rfl ?_
    obtain ⟨g1, h⟩ := h
    obtain ⟨g2, h⟩ := h
    refine b_icmp_ge 203 dX10_rootSquare_180 g1 g2 (by decide) (fun c1 => ?_) (fun c1 => ?_)
    · have h := ifT c1 h
      exact b_vret dX10_rootSquare_203 rfl h
    · have h := ifF c1 h
      refine b_aload_n dX10_rootSquare_183 rfl ?_
      refine b_getR dX10_rootSquare_184 fk_X10_295 ly_582 gg_582_108 ?_
      refine b_iload dX10_rootSquare_187 rfl ?_
      refine b_aload_n dX10_rootSquare_189 rfl ?_
      refine b_getR dX10_rootSquare_190 fk_X10_298 ly_582 gg_582_109 ?_
      refine b_iload dX10_rootSquare_193 rfl ?_
      obtain ⟨g3, h⟩ := h
      refine b_lald dX10_rootSquare_195 ly_650 g3 ?_
      obtain ⟨g4, h⟩ := h
      refine b_last dX10_rootSquare_196 ly_649 g4 (fun m1 em1 => ?_)
      have h := h m1 em1
      refine b_iinc (ls' := [vR 582, vI x1, vU, vU, vI (x4 + 1), vU, vU, vU]) dX10_rootSquare_197 rfl rfl ?_
      refine b_goto 177 dX10_rootSquare_200 (by decide) ?_
      exact ih _ _ _ h
theorem pl_X10_rootSquare_99 {f : Nat} {Q : Int → MM → Prop} {T : MM → Prop} (hf : 1 ≤ f) : ∀ (n : Nat) (x1 : Int) (x2 : Int) (x4 : Int) (m : MM), P_X10_rootSquare_99 Q n x1 x2 x4 m → B f M_X10_rootSquare 99 [vR 582, vI x1, vL x2, vU, vI x4, vU, vU, vU] [] m Q T := by
  intro n
  induction n with
  | zero => intro x1 x2 x4 m h; exact h.elim
  | succ n ih =>
    intro x1 x2 x4 m h
    have h : (RI x4) ∧ (RI x1) ∧ (if x4 < x1 then ∃ nn, P_X10_rootSquare_177 Q nn x1 0 m else (0 ≤ x4 ∧ x4 < 14) ∧ ∃ nn, P_X10_rootSquare_119 Q (fun z0 z1 z2 z3 => P_X10_rootSquare_99 Q n z0 z1 z2 z3) nn x1 x2 x4 (x2 - (m 650 x4)) 0 m) := h
    refine b_iload dX10_rootSquare_99 rfl ?_
    refine b_iload_n dX10_rootSquare_101 rfl ?_
    obtain ⟨g1, h⟩ := h
    obtain ⟨g2, h⟩ := h
    refine b_icmp_lt 174 dX10_rootSquare_102 g1 g2 (by decide) (fun c1 => ?_) (fun c1 => ?_)
    · have h := ifT c1 h
      refine b_iconst dX10_rootSquare_174 ?_
      refine b_istore (ls' := [vR 582, vI x1, vL x2, vU, vI 0, vU, vU, vU]) dX10_rootSquare_175 (Nat.le_of_ble_eq_true rfl) rfl ?_
      refine b_fgt [true, true, false, false, true, false, false, false] (ls' := [vR 582, vI x1, vU, vU, vI 0, vU, vU, vU]) rfl rfl ?_
      obtain ⟨nn, h⟩ := h
      exact pl_X10_rootSquare_177 hf nn _ _ _ h
    · have h := ifF c1 h
      refine b_lload_n dX10_rootSquare_105 rfl ?_
      refine b_aload_n dX10_rootSquare_106 rfl ?_
      refine b_getR dX10_rootSquare_107 fk_X10_298 ly_582 gg_582_109 ?_
      refine b_iload dX10_rootSquare_110 rfl ?_
      obtain ⟨g3, h⟩ := h
      refine b_lald dX10_rootSquare_112 ly_650 g3 ?_
      refine b_lsub dX10_rootSquare_113 ?_
      refine b_lstore (ls' := [vR 582, vI x1, vL x2, vU, vI x4, vL (x2 - (m 650 x4)), vU, vU]) dX10_rootSquare_114 (Nat.le_of_ble_eq_true rfl) rfl ?_
      refine b_iconst dX10_rootSquare_116 ?_
      refine b_istore (ls' := [vR 582, vI x1, vL x2, vU, vI x4, vL (x2 - (m 650 x4)), vU, vI 0]) dX10_rootSquare_117 (Nat.le_of_ble_eq_true rfl) rfl ?_
      obtain ⟨nn, h⟩ := h
      exact pl_X10_rootSquare_119 hf (fun _ _ _ _ h => ih _ _ _ _ h) nn _ _ _ _ _ _ h
theorem pl_X10_rootSquare_92 {f : Nat} {Q : Int → MM → Prop} {T : MM → Prop} (hf : 1 ≤ f) : ∀ (x1 : Int) (x2 : Int) (m : MM), P_X10_rootSquare_92 Q x1 x2 m → B f M_X10_rootSquare 92 [vR 582, vI x1, vL x2, vU, vU, vU, vU, vU] [] m Q T := by
  intro x1 x2 m h
  have h : ∃ nn, P_X10_rootSquare_99 Q nn x1 x2 ((2 * x1) - 2) m := h
  refine b_iconst dX10_rootSquare_92 ?_
  refine b_iload_n dX10_rootSquare_93 rfl ?_
  refine b_imul dX10_rootSquare_94 ?_
  refine b_iconst dX10_rootSquare_95 ?_
  refine b_isub dX10_rootSquare_96 ?_
  refine b_istore (ls' := [vR 582, vI x1, vL x2, vU, vI ((2 * x1) - 2), vU, vU, vU]) dX10_rootSquare_97 (Nat.le_of_ble_eq_true rfl) rfl ?_
  obtain ⟨nn, h⟩ := h
  exact pl_X10_rootSquare_99 hf nn _ _ _ _ h
theorem pl_X10_rootSquare_27 {f : Nat} {Q : Int → MM → Prop} {T : MM → Prop} (hf : 1 ≤ f) : ∀ (n : Nat) (x1 : Int) (x2 : Int) (x4 : Int) (m : MM), P_X10_rootSquare_27 Q n x1 x2 x4 m → B f M_X10_rootSquare 27 [vR 582, vI x1, vL x2, vU, vI x4, vU, vU, vU] [] m Q T := by
  intro n
  induction n with
  | zero => intro x1 x2 x4 m h; exact h.elim
  | succ n ih =>
    intro x1 x2 x4 m h
    have h : (RI x4) ∧ (RI x1) ∧ (if x1 ≤ x4 then P_X10_rootSquare_92 Q x1 x2 m else ∃ nn, P_X10_rootSquare_36 Q (fun z0 z1 z2 z3 => P_X10_rootSquare_27 Q n z0 z1 z2 z3) nn x1 x2 x4 0 m) := h
    refine b_iload dX10_rootSquare_27 rfl ?_
    refine b_iload_n dX10_rootSquare_29 rfl ?_
    obtain ⟨g1, h⟩ := h
    obtain ⟨g2, h⟩ := h
    refine b_icmp_ge 92 dX10_rootSquare_30 g1 g2 (by decide) (fun c1 => ?_) (fun c1 => ?_)
    · have h := ifT c1 h
      refine b_fgt [true, true, true, false, false, false, false, false] (ls' := [vR 582, vI x1, vL x2, vU, vU, vU, vU, vU]) rfl rfl ?_
      exact pl_X10_rootSquare_92 hf _ _ _ h
    · have h := ifF c1 h
      refine b_iconst dX10_rootSquare_33 ?_
      refine b_istore (ls' := [vR 582, vI x1, vL x2, vU, vI x4, vI 0, vU, vU]) dX10_rootSquare_34 (Nat.le_of_ble_eq_true rfl) rfl ?_
      obtain ⟨nn, h⟩ := h
      exact pl_X10_rootSquare_36 hf (fun _ _ _ _ h => ih _ _ _ _ h) nn _ _ _ _ _ h
theorem pl_X10_rootSquare_3 {f : Nat} {Q : Int → MM → Prop} {T : MM → Prop} (hf : 1 ≤ f) : ∀ (n : Nat) (x1 : Int) (x2 : Int) (x4 : Int) (m : MM), P_X10_rootSquare_3 Q n x1 x2 x4 m → B f M_X10_rootSquare 3 [vR 582, vI x1, vL x2, vU, vI x4, vU, vU, vU] [] m Q T := by
  intro n
  induction n with
  | zero => intro x1 x2 x4 m h; exact h.elim
  | succ n ih =>
    intro x1 x2 x4 m h
    have h : (RI x4) ∧ (if 14 ≤ x4 then ∃ nn, P_X10_rootSquare_27 Q nn x1 x2 0 m else (0 ≤ x4 ∧ x4 < 14) ∧ ∀ m1 : MM, m1 = up m 650 x4 0 → P_X10_rootSquare_3 Q n x1 x2 (x4 + 1) m1) := h
    refine b_iload dX10_rootSquare_3 rfl ?_
    refine b_bipush dX10_rootSquare_5 (by decide) ?_
    obtain ⟨g1, h⟩ := h
    refine b_icmp_ge 24 dX10_rootSquare_7 g1 (by decide) (by decide) (fun c1 => ?_) (fun c1 => ?_)
    · have h := ifT c1 h
      refine b_iconst dX10_rootSquare_24 ?_
      refine b_istore (ls' := [vR 582, vI x1, vL x2, vU, vI 0, vU, vU, vU]) dX10_rootSquare_25 (Nat.le_of_ble_eq_true rfl) rfl ?_
      obtain ⟨nn, h⟩ := h
      exact pl_X10_rootSquare_27 hf nn _ _ _ _ h
    · have h := ifF c1 h
      refine b_aload_n dX10_rootSquare_10 rfl ?_
      refine b_getR dX10_rootSquare_11 fk_X10_298 ly_582 gg_582_109 ?_
      refine b_iload dX10_rootSquare_14 rfl ?_
      refine b_lconst 0 dX10_rootSquare_16 (by decide) ?_
      obtain ⟨g2, h⟩ := h
      refine b_last dX10_rootSquare_17 ly_650 g2 (fun m1 em1 => ?_)
      have h := h m1 em1
      refine b_iinc (ls' := [vR 582, vI x1, vL x2, vU, vI (x4 + 1), vU, vU, vU]) dX10_rootSquare_18 rfl rfl ?_
      refine b_goto 3 dX10_rootSquare_21 (by decide) ?_
      exact ih _ _ _ _ h
theorem p_X10_rootSquare {f : Nat} {Q : Int → MM → Prop} {T : MM → Prop} (hf : 1 ≤ f) (x1 : Int) (x2 : Int) (m : MM) (h : P_X10_rootSquare x1 x2 m Q) : CC f M_X10_rootSquare [vR 582, vI x1, vL x2] m Q T := by
  refine CC.of (plainFor_of_name (by decide)) (Nat.le_of_ble_eq_true rfl) (ls := [vR 582, vI x1, vL x2, vU, vU, vU, vU, vU]) rfl ?_
  have h : ∃ nn, P_X10_rootSquare_3 Q nn x1 x2 0 m := h
  refine b_iconst dX10_rootSquare_0 ?_
  refine b_istore (ls' := [vR 582, vI x1, vL x2, vU, vI 0, vU, vU, vU]) dX10_rootSquare_1 (Nat.le_of_ble_eq_true rfl) rfl ?_
  obtain ⟨nn, h⟩ := h
  exact pl_X10_rootSquare_3 hf nn _ _ _ _ h
