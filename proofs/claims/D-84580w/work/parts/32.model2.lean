set_option maxRecDepth 100000
theorem dX10_judge_0 : decode cX10_judge 0 = .ok (.aload_n 0, 1) := by decide +kernel
theorem dX10_judge_1 : decode cX10_judge 1 = .ok (.getfield 460, 3) := by decide +kernel
theorem dX10_judge_4 : decode cX10_judge 4 = .ok (.istore_n 2, 1) := by decide +kernel
theorem dX10_judge_5 : decode cX10_judge 5 = .ok (.iload_n 1, 1) := by decide +kernel
theorem dX10_judge_6 : decode cX10_judge 6 = .ok (.istore_n 3, 1) := by decide +kernel
theorem dX10_judge_7 : decode cX10_judge 7 = .ok (.aload_n 0, 1) := by decide +kernel
theorem dX10_judge_8 : decode cX10_judge 8 = .ok (.getfield 106, 3) := by decide +kernel
theorem dX10_judge_11 : decode cX10_judge 11 = .ok (.iload_n 3, 1) := by decide +kernel
theorem dX10_judge_12 : decode cX10_judge 12 = .ok (.iaload, 1) := by decide +kernel
theorem dX10_judge_13 : decode cX10_judge 13 = .ok (.invokestatic 463, 3) := by decide +kernel
theorem dX10_judge_16 : decode cX10_judge 16 = .ok (.ifCond .eq 33, 3) := by decide +kernel
theorem dX10_judge_19 : decode cX10_judge 19 = .ok (.aload_n 0, 1) := by decide +kernel
theorem dX10_judge_20 : decode cX10_judge 20 = .ok (.getfield 237, 3) := by decide +kernel
theorem dX10_judge_23 : decode cX10_judge 23 = .ok (.aload_n 0, 1) := by decide +kernel
theorem dX10_judge_24 : decode cX10_judge 24 = .ok (.getfield 460, 3) := by decide +kernel
theorem dX10_judge_27 : decode cX10_judge 27 = .ok (.iload_n 3, 1) := by decide +kernel
theorem dX10_judge_28 : decode cX10_judge 28 = .ok (.iastore, 1) := by decide +kernel
theorem dX10_judge_29 : decode cX10_judge 29 = .ok (.aload_n 0, 1) := by decide +kernel
theorem dX10_judge_30 : decode cX10_judge 30 = .ok (.dup, 1) := by decide +kernel
theorem dX10_judge_31 : decode cX10_judge 31 = .ok (.getfield 460, 3) := by decide +kernel
theorem dX10_judge_34 : decode cX10_judge 34 = .ok (.iconst 1, 1) := by decide +kernel
theorem dX10_judge_35 : decode cX10_judge 35 = .ok (.iadd, 1) := by decide +kernel
theorem dX10_judge_36 : decode cX10_judge 36 = .ok (.putfield 460, 3) := by decide +kernel
theorem dX10_judge_39 : decode cX10_judge 39 = .ok (.aload_n 0, 1) := by decide +kernel
theorem dX10_judge_40 : decode cX10_judge 40 = .ok (.getfield 109, 3) := by decide +kernel
theorem dX10_judge_43 : decode cX10_judge 43 = .ok (.iload_n 3, 1) := by decide +kernel
theorem dX10_judge_44 : decode cX10_judge 44 = .ok (.iaload, 1) := by decide +kernel
theorem dX10_judge_45 : decode cX10_judge 45 = .ok (.istore_n 3, 1) := by decide +kernel
theorem dX10_judge_46 : decode cX10_judge 46 = .ok (.goto (-39), 3) := by decide +kernel
theorem dX10_judge_49 : decode cX10_judge 49 = .ok (.aload_n 0, 1) := by decide +kernel
theorem dX10_judge_50 : decode cX10_judge 50 = .ok (.iload_n 3, 1) := by decide +kernel
theorem dX10_judge_51 : decode cX10_judge 51 = .ok (.invokevirtual 466, 3) := by decide +kernel
theorem dX10_judge_54 : decode cX10_judge 54 = .ok (.aload_n 0, 1) := by decide +kernel
theorem dX10_judge_55 : decode cX10_judge 55 = .ok (.getfield 460, 3) := by decide +kernel
theorem dX10_judge_58 : decode cX10_judge 58 = .ok (.iload_n 2, 1) := by decide +kernel
theorem dX10_judge_59 : decode cX10_judge 59 = .ok (.if_icmp .le 29, 3) := by decide +kernel
theorem dX10_judge_62 : decode cX10_judge 62 = .ok (.aload_n 0, 1) := by decide +kernel
theorem dX10_judge_63 : decode cX10_judge 63 = .ok (.dup, 1) := by decide +kernel
theorem dX10_judge_64 : decode cX10_judge 64 = .ok (.getfield 460, 3) := by decide +kernel
theorem dX10_judge_67 : decode cX10_judge 67 = .ok (.iconst 1, 1) := by decide +kernel
theorem dX10_judge_68 : decode cX10_judge 68 = .ok (.isub, 1) := by decide +kernel
theorem dX10_judge_69 : decode cX10_judge 69 = .ok (.putfield 460, 3) := by decide +kernel
theorem dX10_judge_72 : decode cX10_judge 72 = .ok (.aload_n 0, 1) := by decide +kernel
theorem dX10_judge_73 : decode cX10_judge 73 = .ok (.aload_n 0, 1) := by decide +kernel
theorem dX10_judge_74 : decode cX10_judge 74 = .ok (.getfield 237, 3) := by decide +kernel
theorem dX10_judge_77 : decode cX10_judge 77 = .ok (.aload_n 0, 1) := by decide +kernel
theorem dX10_judge_78 : decode cX10_judge 78 = .ok (.getfield 460, 3) := by decide +kernel
theorem dX10_judge_81 : decode cX10_judge 81 = .ok (.iaload, 1) := by decide +kernel
theorem dX10_judge_82 : decode cX10_judge 82 = .ok (.invokevirtual 469, 3) := by decide +kernel
theorem dX10_judge_85 : decode cX10_judge 85 = .ok (.goto (-31), 3) := by decide +kernel
theorem dX10_judge_88 : decode cX10_judge 88 = .ok (.return_, 1) := by decide +kernel
/-! AlgebraHouseModel.judge(I)V -/
def P_X10_judge_54 (rec : Nat → List Int → MM → (Int → MM → Prop) → (MM → Prop) → Prop) (Q : Int → MM → Prop) (T : MM → Prop) : Nat → Int → MM → Prop
  | 0, _, _ => False
  | n + 1, x2, m => (RI (m 582 68)) ∧ (RI x2) ∧ (if (m 582 68) ≤ x2 then Q 0 m else ∀ m1 : MM, m1 = up m 582 68 ((m 582 68) - 1) → (0 ≤ (m1 582 68) ∧ (m1 582 68) < 5000) ∧ rec 3 [(m1 631 (m1 582 68))] m1 (fun r1 m2 => P_X10_judge_54 rec Q T n x2 m2) T)
def P_X10_judge_49 (rec : Nat → List Int → MM → (Int → MM → Prop) → (MM → Prop) → Prop) (Q : Int → MM → Prop) (T : MM → Prop) (x2 : Int) (x3 : Int) (m : MM) : Prop := rec 5 [x3] m (fun r1 m1 => ∃ nn, P_X10_judge_54 rec Q T nn x2 m1) T
def P_X10_judge_7 (rec : Nat → List Int → MM → (Int → MM → Prop) → (MM → Prop) → Prop) (Q : Int → MM → Prop) (T : MM → Prop) : Nat → Int → Int → MM → Prop
  | 0, _, _, _ => False
  | n + 1, x2, x3, m => (0 ≤ x3 ∧ x3 < 12000) ∧ P_X10_isLeft (m 590 x3) m (fun r1 m1 => (RI r1) ∧ (if r1 = 0 then P_X10_judge_49 rec Q T x2 x3 m1 else (0 ≤ (m1 582 68) ∧ (m1 582 68) < 5000) ∧ ∀ m2 : MM, m2 = up m1 631 (m1 582 68) x3 → ∀ m3 : MM, m3 = up m2 582 68 ((m2 582 68) + 1) → P_X10_judge_7 rec Q T n x2 (m3 591 x3) m3))
def W_X10_judge (rec : Nat → List Int → MM → (Int → MM → Prop) → (MM → Prop) → Prop) (x1 : Int) (m : MM) (Q : Int → MM → Prop) (T : MM → Prop) : Prop := ∃ nn, P_X10_judge_7 rec Q T nn (m 582 68) x1 m
theorem dX10_judgeBuilt_0 : decode cX10_judgeBuilt 0 = .ok (.iconst 1, 1) := by decide +kernel
theorem dX10_judgeBuilt_1 : decode cX10_judgeBuilt 1 = .ok (.istore_n 2, 1) := by decide +kernel
theorem dX10_judgeBuilt_2 : decode cX10_judgeBuilt 2 = .ok (.iconst 0, 1) := by decide +kernel
theorem dX10_judgeBuilt_3 : decode cX10_judgeBuilt 3 = .ok (.istore_n 3, 1) := by decide +kernel
theorem dX10_judgeBuilt_4 : decode cX10_judgeBuilt 4 = .ok (.aload_n 0, 1) := by decide +kernel
theorem dX10_judgeBuilt_5 : decode cX10_judgeBuilt 5 = .ok (.getfield 109, 3) := by decide +kernel
theorem dX10_judgeBuilt_8 : decode cX10_judgeBuilt 8 = .ok (.iload_n 1, 1) := by decide +kernel
theorem dX10_judgeBuilt_9 : decode cX10_judgeBuilt 9 = .ok (.iaload, 1) := by decide +kernel
theorem dX10_judgeBuilt_10 : decode cX10_judgeBuilt 10 = .ok (.istore 4, 2) := by decide +kernel
theorem dX10_judgeBuilt_12 : decode cX10_judgeBuilt 12 = .ok (.iload 4, 2) := by decide +kernel
theorem dX10_judgeBuilt_14 : decode cX10_judgeBuilt 14 = .ok (.ifCond .lt 56, 3) := by decide +kernel
theorem dX10_judgeBuilt_17 : decode cX10_judgeBuilt 17 = .ok (.aload_n 0, 1) := by decide +kernel
theorem dX10_judgeBuilt_18 : decode cX10_judgeBuilt 18 = .ok (.aload_n 0, 1) := by decide +kernel
theorem dX10_judgeBuilt_19 : decode cX10_judgeBuilt 19 = .ok (.getfield 109, 3) := by decide +kernel
theorem dX10_judgeBuilt_22 : decode cX10_judgeBuilt 22 = .ok (.iload 4, 2) := by decide +kernel
theorem dX10_judgeBuilt_24 : decode cX10_judgeBuilt 24 = .ok (.iaload, 1) := by decide +kernel
theorem dX10_judgeBuilt_25 : decode cX10_judgeBuilt 25 = .ok (.invokevirtual 476, 3) := by decide +kernel
theorem dX10_judgeBuilt_28 : decode cX10_judgeBuilt 28 = .ok (.iload_n 2, 1) := by decide +kernel
theorem dX10_judgeBuilt_29 : decode cX10_judgeBuilt 29 = .ok (.ifCond .eq 24, 3) := by decide +kernel
theorem dX10_judgeBuilt_32 : decode cX10_judgeBuilt 32 = .ok (.aload_n 0, 1) := by decide +kernel
theorem dX10_judgeBuilt_33 : decode cX10_judgeBuilt 33 = .ok (.getfield 130, 3) := by decide +kernel
theorem dX10_judgeBuilt_36 : decode cX10_judgeBuilt 36 = .ok (.aload_n 0, 1) := by decide +kernel
theorem dX10_judgeBuilt_37 : decode cX10_judgeBuilt 37 = .ok (.getfield 109, 3) := by decide +kernel
theorem dX10_judgeBuilt_40 : decode cX10_judgeBuilt 40 = .ok (.iload 4, 2) := by decide +kernel
theorem dX10_judgeBuilt_42 : decode cX10_judgeBuilt 42 = .ok (.iaload, 1) := by decide +kernel
theorem dX10_judgeBuilt_43 : decode cX10_judgeBuilt 43 = .ok (.iaload, 1) := by decide +kernel
theorem dX10_judgeBuilt_44 : decode cX10_judgeBuilt 44 = .ok (.bipush (-9), 2) := by decide +kernel
theorem dX10_judgeBuilt_46 : decode cX10_judgeBuilt 46 = .ok (.if_icmp .eq 7, 3) := by decide +kernel
theorem dX10_judgeBuilt_49 : decode cX10_judgeBuilt 49 = .ok (.iconst 1, 1) := by decide +kernel
theorem dX10_judgeBuilt_50 : decode cX10_judgeBuilt 50 = .ok (.goto 4, 3) := by decide +kernel
theorem dX10_judgeBuilt_53 : decode cX10_judgeBuilt 53 = .ok (.iconst 0, 1) := by decide +kernel
theorem dX10_judgeBuilt_54 : decode cX10_judgeBuilt 54 = .ok (.istore_n 2, 1) := by decide +kernel
theorem dX10_judgeBuilt_55 : decode cX10_judgeBuilt 55 = .ok (.iinc 3 1, 3) := by decide +kernel
theorem dX10_judgeBuilt_58 : decode cX10_judgeBuilt 58 = .ok (.aload_n 0, 1) := by decide +kernel
theorem dX10_judgeBuilt_59 : decode cX10_judgeBuilt 59 = .ok (.getfield 118, 3) := by decide +kernel
theorem dX10_judgeBuilt_62 : decode cX10_judgeBuilt 62 = .ok (.iload 4, 2) := by decide +kernel
theorem dX10_judgeBuilt_64 : decode cX10_judgeBuilt 64 = .ok (.iaload, 1) := by decide +kernel
theorem dX10_judgeBuilt_65 : decode cX10_judgeBuilt 65 = .ok (.istore 4, 2) := by decide +kernel
theorem dX10_judgeBuilt_67 : decode cX10_judgeBuilt 67 = .ok (.goto (-55), 3) := by decide +kernel
theorem dX10_judgeBuilt_70 : decode cX10_judgeBuilt 70 = .ok (.iload_n 2, 1) := by decide +kernel
theorem dX10_judgeBuilt_71 : decode cX10_judgeBuilt 71 = .ok (.ifCond .ne 4, 3) := by decide +kernel
theorem dX10_judgeBuilt_74 : decode cX10_judgeBuilt 74 = .ok (.return_, 1) := by decide +kernel
theorem dX10_judgeBuilt_75 : decode cX10_judgeBuilt 75 = .ok (.aload_n 0, 1) := by decide +kernel
theorem dX10_judgeBuilt_76 : decode cX10_judgeBuilt 76 = .ok (.aload_n 0, 1) := by decide +kernel
theorem dX10_judgeBuilt_77 : decode cX10_judgeBuilt 77 = .ok (.getfield 152, 3) := by decide +kernel
theorem dX10_judgeBuilt_80 : decode cX10_judgeBuilt 80 = .ok (.iload_n 1, 1) := by decide +kernel
theorem dX10_judgeBuilt_81 : decode cX10_judgeBuilt 81 = .ok (.laload, 1) := by decide +kernel
theorem dX10_judgeBuilt_82 : decode cX10_judgeBuilt 82 = .ok (.invokevirtual 344, 3) := by decide +kernel
theorem dX10_judgeBuilt_85 : decode cX10_judgeBuilt 85 = .ok (.istore 4, 2) := by decide +kernel
theorem dX10_judgeBuilt_87 : decode cX10_judgeBuilt 87 = .ok (.aload_n 0, 1) := by decide +kernel
theorem dX10_judgeBuilt_88 : decode cX10_judgeBuilt 88 = .ok (.getfield 127, 3) := by decide +kernel
theorem dX10_judgeBuilt_91 : decode cX10_judgeBuilt 91 = .ok (.iload_n 1, 1) := by decide +kernel
theorem dX10_judgeBuilt_92 : decode cX10_judgeBuilt 92 = .ok (.iload 4, 2) := by decide +kernel
theorem dX10_judgeBuilt_94 : decode cX10_judgeBuilt 94 = .ok (.iastore, 1) := by decide +kernel
theorem dX10_judgeBuilt_95 : decode cX10_judgeBuilt 95 = .ok (.aload_n 0, 1) := by decide +kernel
theorem dX10_judgeBuilt_96 : decode cX10_judgeBuilt 96 = .ok (.getfield 109, 3) := by decide +kernel
theorem dX10_judgeBuilt_99 : decode cX10_judgeBuilt 99 = .ok (.aload_n 0, 1) := by decide +kernel
theorem dX10_judgeBuilt_100 : decode cX10_judgeBuilt 100 = .ok (.getfield 109, 3) := by decide +kernel
theorem dX10_judgeBuilt_103 : decode cX10_judgeBuilt 103 = .ok (.iload_n 1, 1) := by decide +kernel
theorem dX10_judgeBuilt_104 : decode cX10_judgeBuilt 104 = .ok (.iaload, 1) := by decide +kernel
theorem dX10_judgeBuilt_105 : decode cX10_judgeBuilt 105 = .ok (.iaload, 1) := by decide +kernel
theorem dX10_judgeBuilt_106 : decode cX10_judgeBuilt 106 = .ok (.istore 5, 2) := by decide +kernel
theorem dX10_judgeBuilt_108 : decode cX10_judgeBuilt 108 = .ok (.aload_n 0, 1) := by decide +kernel
theorem dX10_judgeBuilt_109 : decode cX10_judgeBuilt 109 = .ok (.getfield 118, 3) := by decide +kernel
theorem dX10_judgeBuilt_112 : decode cX10_judgeBuilt 112 = .ok (.aload_n 0, 1) := by decide +kernel
theorem dX10_judgeBuilt_113 : decode cX10_judgeBuilt 113 = .ok (.getfield 109, 3) := by decide +kernel
theorem dX10_judgeBuilt_116 : decode cX10_judgeBuilt 116 = .ok (.iload_n 1, 1) := by decide +kernel
theorem dX10_judgeBuilt_117 : decode cX10_judgeBuilt 117 = .ok (.iaload, 1) := by decide +kernel
theorem dX10_judgeBuilt_118 : decode cX10_judgeBuilt 118 = .ok (.iaload, 1) := by decide +kernel
theorem dX10_judgeBuilt_119 : decode cX10_judgeBuilt 119 = .ok (.ifCond .ge 7, 3) := by decide +kernel
theorem dX10_judgeBuilt_122 : decode cX10_judgeBuilt 122 = .ok (.iconst (-1), 1) := by decide +kernel
theorem dX10_judgeBuilt_123 : decode cX10_judgeBuilt 123 = .ok (.goto 19, 3) := by decide +kernel
theorem dX10_judgeBuilt_126 : decode cX10_judgeBuilt 126 = .ok (.aload_n 0, 1) := by decide +kernel
theorem dX10_judgeBuilt_127 : decode cX10_judgeBuilt 127 = .ok (.getfield 109, 3) := by decide +kernel
theorem dX10_judgeBuilt_130 : decode cX10_judgeBuilt 130 = .ok (.aload_n 0, 1) := by decide +kernel
theorem dX10_judgeBuilt_131 : decode cX10_judgeBuilt 131 = .ok (.getfield 118, 3) := by decide +kernel
theorem dX10_judgeBuilt_134 : decode cX10_judgeBuilt 134 = .ok (.aload_n 0, 1) := by decide +kernel
theorem dX10_judgeBuilt_135 : decode cX10_judgeBuilt 135 = .ok (.getfield 109, 3) := by decide +kernel
theorem dX10_judgeBuilt_138 : decode cX10_judgeBuilt 138 = .ok (.iload_n 1, 1) := by decide +kernel
theorem dX10_judgeBuilt_139 : decode cX10_judgeBuilt 139 = .ok (.iaload, 1) := by decide +kernel
theorem dX10_judgeBuilt_140 : decode cX10_judgeBuilt 140 = .ok (.iaload, 1) := by decide +kernel
theorem dX10_judgeBuilt_141 : decode cX10_judgeBuilt 141 = .ok (.iaload, 1) := by decide +kernel
theorem dX10_judgeBuilt_142 : decode cX10_judgeBuilt 142 = .ok (.istore 6, 2) := by decide +kernel
theorem dX10_judgeBuilt_144 : decode cX10_judgeBuilt 144 = .ok (.iload 4, 2) := by decide +kernel
theorem dX10_judgeBuilt_146 : decode cX10_judgeBuilt 146 = .ok (.ifCond .eq 15, 3) := by decide +kernel
theorem dX10_judgeBuilt_149 : decode cX10_judgeBuilt 149 = .ok (.iload 4, 2) := by decide +kernel
theorem dX10_judgeBuilt_151 : decode cX10_judgeBuilt 151 = .ok (.iconst 2, 1) := by decide +kernel
theorem dX10_judgeBuilt_152 : decode cX10_judgeBuilt 152 = .ok (.if_icmp .eq 9, 3) := by decide +kernel
theorem dX10_judgeBuilt_155 : decode cX10_judgeBuilt 155 = .ok (.iload 4, 2) := by decide +kernel
theorem dX10_judgeBuilt_157 : decode cX10_judgeBuilt 157 = .ok (.iconst 3, 1) := by decide +kernel
theorem dX10_judgeBuilt_158 : decode cX10_judgeBuilt 158 = .ok (.if_icmp .ne 7, 3) := by decide +kernel
theorem dX10_judgeBuilt_161 : decode cX10_judgeBuilt 161 = .ok (.iconst 1, 1) := by decide +kernel
theorem dX10_judgeBuilt_162 : decode cX10_judgeBuilt 162 = .ok (.goto 4, 3) := by decide +kernel
theorem dX10_judgeBuilt_165 : decode cX10_judgeBuilt 165 = .ok (.iconst 0, 1) := by decide +kernel
theorem dX10_judgeBuilt_166 : decode cX10_judgeBuilt 166 = .ok (.istore 7, 2) := by decide +kernel
theorem dX10_judgeBuilt_168 : decode cX10_judgeBuilt 168 = .ok (.iload_n 3, 1) := by decide +kernel
theorem dX10_judgeBuilt_169 : decode cX10_judgeBuilt 169 = .ok (.iload 7, 2) := by decide +kernel
theorem dX10_judgeBuilt_171 : decode cX10_judgeBuilt 171 = .ok (.ifCond .eq 7, 3) := by decide +kernel
theorem dX10_judgeBuilt_174 : decode cX10_judgeBuilt 174 = .ok (.iconst 2, 1) := by decide +kernel
theorem dX10_judgeBuilt_175 : decode cX10_judgeBuilt 175 = .ok (.goto 4, 3) := by decide +kernel
theorem dX10_judgeBuilt_178 : decode cX10_judgeBuilt 178 = .ok (.iconst 1, 1) := by decide +kernel
theorem dX10_judgeBuilt_179 : decode cX10_judgeBuilt 179 = .ok (.if_icmp .eq 9, 3) := by decide +kernel
theorem dX10_judgeBuilt_182 : decode cX10_judgeBuilt 182 = .ok (.aload_n 0, 1) := by decide +kernel
theorem dX10_judgeBuilt_183 : decode cX10_judgeBuilt 183 = .ok (.iload_n 1, 1) := by decide +kernel
theorem dX10_judgeBuilt_184 : decode cX10_judgeBuilt 184 = .ok (.invokevirtual 486, 3) := by decide +kernel
theorem dX10_judgeBuilt_187 : decode cX10_judgeBuilt 187 = .ok (.return_, 1) := by decide +kernel
theorem dX10_judgeBuilt_188 : decode cX10_judgeBuilt 188 = .ok (.aload_n 0, 1) := by decide +kernel
theorem dX10_judgeBuilt_189 : decode cX10_judgeBuilt 189 = .ok (.getfield 130, 3) := by decide +kernel
theorem dX10_judgeBuilt_192 : decode cX10_judgeBuilt 192 = .ok (.iload 5, 2) := by decide +kernel
theorem dX10_judgeBuilt_194 : decode cX10_judgeBuilt 194 = .ok (.iaload, 1) := by decide +kernel
theorem dX10_judgeBuilt_195 : decode cX10_judgeBuilt 195 = .ok (.istore 8, 2) := by decide +kernel
theorem dX10_judgeBuilt_197 : decode cX10_judgeBuilt 197 = .ok (.aload_n 0, 1) := by decide +kernel
theorem dX10_judgeBuilt_198 : decode cX10_judgeBuilt 198 = .ok (.getfield 133, 3) := by decide +kernel
theorem dX10_judgeBuilt_201 : decode cX10_judgeBuilt 201 = .ok (.iload 5, 2) := by decide +kernel
theorem dX10_judgeBuilt_203 : decode cX10_judgeBuilt 203 = .ok (.iaload, 1) := by decide +kernel
theorem dX10_judgeBuilt_204 : decode cX10_judgeBuilt 204 = .ok (.istore 9, 2) := by decide +kernel
theorem dX10_judgeBuilt_206 : decode cX10_judgeBuilt 206 = .ok (.aload_n 0, 1) := by decide +kernel
theorem dX10_judgeBuilt_207 : decode cX10_judgeBuilt 207 = .ok (.getfield 136, 3) := by decide +kernel
theorem dX10_judgeBuilt_210 : decode cX10_judgeBuilt 210 = .ok (.iload 5, 2) := by decide +kernel
theorem dX10_judgeBuilt_212 : decode cX10_judgeBuilt 212 = .ok (.iaload, 1) := by decide +kernel
theorem dX10_judgeBuilt_213 : decode cX10_judgeBuilt 213 = .ok (.istore 10, 2) := by decide +kernel
theorem dX10_judgeBuilt_215 : decode cX10_judgeBuilt 215 = .ok (.iload 9, 2) := by decide +kernel
theorem dX10_judgeBuilt_217 : decode cX10_judgeBuilt 217 = .ok (.ifCond .le 12, 3) := by decide +kernel
theorem dX10_judgeBuilt_220 : decode cX10_judgeBuilt 220 = .ok (.iload 10, 2) := by decide +kernel
theorem dX10_judgeBuilt_222 : decode cX10_judgeBuilt 222 = .ok (.ifCond .ne 7, 3) := by decide +kernel
theorem dX10_judgeBuilt_225 : decode cX10_judgeBuilt 225 = .ok (.iconst 1, 1) := by decide +kernel
theorem dX10_judgeBuilt_226 : decode cX10_judgeBuilt 226 = .ok (.goto 4, 3) := by decide +kernel
theorem dX10_judgeBuilt_229 : decode cX10_judgeBuilt 229 = .ok (.iconst 0, 1) := by decide +kernel
theorem dX10_judgeBuilt_230 : decode cX10_judgeBuilt 230 = .ok (.istore 11, 2) := by decide +kernel
theorem dX10_judgeBuilt_232 : decode cX10_judgeBuilt 232 = .ok (.iconst 0, 1) := by decide +kernel
theorem dX10_judgeBuilt_233 : decode cX10_judgeBuilt 233 = .ok (.istore 12, 2) := by decide +kernel
theorem dX10_judgeBuilt_235 : decode cX10_judgeBuilt 235 = .ok (.iload 4, 2) := by decide +kernel
theorem dX10_judgeBuilt_237 : decode cX10_judgeBuilt 237 = .ok (.tableswitch 426 0 11 #[63, 108, 123, 160, 239, 256, 256, 281, 281, 307, 354, 383], 63) := by decide +kernel
theorem dX10_judgeBuilt_300 : decode cX10_judgeBuilt 300 = .ok (.aload_n 0, 1) := by decide +kernel
theorem dX10_judgeBuilt_301 : decode cX10_judgeBuilt 301 = .ok (.iload 5, 2) := by decide +kernel
theorem dX10_judgeBuilt_303 : decode cX10_judgeBuilt 303 = .ok (.iload 6, 2) := by decide +kernel
theorem dX10_judgeBuilt_305 : decode cX10_judgeBuilt 305 = .ok (.invokevirtual 489, 3) := by decide +kernel
theorem dX10_judgeBuilt_308 : decode cX10_judgeBuilt 308 = .ok (.ifCond .eq 14, 3) := by decide +kernel
theorem dX10_judgeBuilt_311 : decode cX10_judgeBuilt 311 = .ok (.aload_n 0, 1) := by decide +kernel
theorem dX10_judgeBuilt_312 : decode cX10_judgeBuilt 312 = .ok (.invokevirtual 496, 3) := by decide +kernel
theorem dX10_judgeBuilt_315 : decode cX10_judgeBuilt 315 = .ok (.ifCond .eq 7, 3) := by decide +kernel
theorem dX10_judgeBuilt_318 : decode cX10_judgeBuilt 318 = .ok (.iconst 1, 1) := by decide +kernel
theorem dX10_judgeBuilt_319 : decode cX10_judgeBuilt 319 = .ok (.goto 4, 3) := by decide +kernel
theorem dX10_judgeBuilt_322 : decode cX10_judgeBuilt 322 = .ok (.iconst 0, 1) := by decide +kernel
theorem dX10_judgeBuilt_323 : decode cX10_judgeBuilt 323 = .ok (.istore 12, 2) := by decide +kernel
theorem dX10_judgeBuilt_325 : decode cX10_judgeBuilt 325 = .ok (.aload_n 0, 1) := by decide +kernel
theorem dX10_judgeBuilt_326 : decode cX10_judgeBuilt 326 = .ok (.iload_n 1, 1) := by decide +kernel
theorem dX10_judgeBuilt_327 : decode cX10_judgeBuilt 327 = .ok (.aload_n 0, 1) := by decide +kernel
theorem dX10_judgeBuilt_328 : decode cX10_judgeBuilt 328 = .ok (.getfield 442, 3) := by decide +kernel
theorem dX10_judgeBuilt_331 : decode cX10_judgeBuilt 331 = .ok (.aload_n 0, 1) := by decide +kernel
theorem dX10_judgeBuilt_332 : decode cX10_judgeBuilt 332 = .ok (.getfield 450, 3) := by decide +kernel
theorem dX10_judgeBuilt_335 : decode cX10_judgeBuilt 335 = .ok (.aload_n 0, 1) := by decide +kernel
theorem dX10_judgeBuilt_336 : decode cX10_judgeBuilt 336 = .ok (.getfield 453, 3) := by decide +kernel
theorem dX10_judgeBuilt_339 : decode cX10_judgeBuilt 339 = .ok (.invokevirtual 482, 3) := by decide +kernel
theorem dX10_judgeBuilt_342 : decode cX10_judgeBuilt 342 = .ok (.goto 356, 3) := by decide +kernel
theorem dX10_judgeBuilt_345 : decode cX10_judgeBuilt 345 = .ok (.iload 11, 2) := by decide +kernel
theorem dX10_judgeBuilt_347 : decode cX10_judgeBuilt 347 = .ok (.istore 12, 2) := by decide +kernel
theorem dX10_judgeBuilt_349 : decode cX10_judgeBuilt 349 = .ok (.aload_n 0, 1) := by decide +kernel
theorem dX10_judgeBuilt_350 : decode cX10_judgeBuilt 350 = .ok (.iload_n 1, 1) := by decide +kernel
theorem dX10_judgeBuilt_351 : decode cX10_judgeBuilt 351 = .ok (.iconst 0, 1) := by decide +kernel
theorem dX10_judgeBuilt_352 : decode cX10_judgeBuilt 352 = .ok (.iconst 0, 1) := by decide +kernel
theorem dX10_judgeBuilt_353 : decode cX10_judgeBuilt 353 = .ok (.iconst 0, 1) := by decide +kernel
theorem dX10_judgeBuilt_354 : decode cX10_judgeBuilt 354 = .ok (.invokevirtual 482, 3) := by decide +kernel
theorem dX10_judgeBuilt_357 : decode cX10_judgeBuilt 357 = .ok (.goto 341, 3) := by decide +kernel
theorem dX10_judgeBuilt_360 : decode cX10_judgeBuilt 360 = .ok (.iload 11, 2) := by decide +kernel
theorem dX10_judgeBuilt_362 : decode cX10_judgeBuilt 362 = .ok (.ifCond .eq 17, 3) := by decide +kernel
theorem dX10_judgeBuilt_365 : decode cX10_judgeBuilt 365 = .ok (.aload_n 0, 1) := by decide +kernel
theorem dX10_judgeBuilt_366 : decode cX10_judgeBuilt 366 = .ok (.iload 6, 2) := by decide +kernel
theorem dX10_judgeBuilt_368 : decode cX10_judgeBuilt 368 = .ok (.iconst 0, 1) := by decide +kernel
theorem dX10_judgeBuilt_369 : decode cX10_judgeBuilt 369 = .ok (.invokevirtual 598, 3) := by decide +kernel
theorem dX10_judgeBuilt_372 : decode cX10_judgeBuilt 372 = .ok (.ifCond .eq 7, 3) := by decide +kernel
theorem dX10_judgeBuilt_375 : decode cX10_judgeBuilt 375 = .ok (.iconst 1, 1) := by decide +kernel
theorem dX10_judgeBuilt_376 : decode cX10_judgeBuilt 376 = .ok (.goto 4, 3) := by decide +kernel
theorem dX10_judgeBuilt_379 : decode cX10_judgeBuilt 379 = .ok (.iconst 0, 1) := by decide +kernel
theorem dX10_judgeBuilt_380 : decode cX10_judgeBuilt 380 = .ok (.istore 12, 2) := by decide +kernel
theorem dX10_judgeBuilt_382 : decode cX10_judgeBuilt 382 = .ok (.aload_n 0, 1) := by decide +kernel
theorem dX10_judgeBuilt_383 : decode cX10_judgeBuilt 383 = .ok (.iload_n 1, 1) := by decide +kernel
theorem dX10_judgeBuilt_384 : decode cX10_judgeBuilt 384 = .ok (.iload 8, 2) := by decide +kernel
theorem dX10_judgeBuilt_386 : decode cX10_judgeBuilt 386 = .ok (.iload 9, 2) := by decide +kernel
theorem dX10_judgeBuilt_388 : decode cX10_judgeBuilt 388 = .ok (.iconst 1, 1) := by decide +kernel
theorem dX10_judgeBuilt_389 : decode cX10_judgeBuilt 389 = .ok (.isub, 1) := by decide +kernel
theorem dX10_judgeBuilt_390 : decode cX10_judgeBuilt 390 = .ok (.iconst 0, 1) := by decide +kernel
theorem dX10_judgeBuilt_391 : decode cX10_judgeBuilt 391 = .ok (.invokevirtual 482, 3) := by decide +kernel
theorem dX10_judgeBuilt_394 : decode cX10_judgeBuilt 394 = .ok (.goto 304, 3) := by decide +kernel
theorem dX10_judgeBuilt_397 : decode cX10_judgeBuilt 397 = .ok (.iload 11, 2) := by decide +kernel
theorem dX10_judgeBuilt_399 : decode cX10_judgeBuilt 399 = .ok (.ifCond .eq 54, 3) := by decide +kernel
theorem dX10_judgeBuilt_402 : decode cX10_judgeBuilt 402 = .ok (.aload_n 0, 1) := by decide +kernel
theorem dX10_judgeBuilt_403 : decode cX10_judgeBuilt 403 = .ok (.getfield 130, 3) := by decide +kernel
theorem dX10_judgeBuilt_406 : decode cX10_judgeBuilt 406 = .ok (.iload 6, 2) := by decide +kernel
theorem dX10_judgeBuilt_408 : decode cX10_judgeBuilt 408 = .ok (.iaload, 1) := by decide +kernel
theorem dX10_judgeBuilt_409 : decode cX10_judgeBuilt 409 = .ok (.bipush (-2), 2) := by decide +kernel
theorem dX10_judgeBuilt_411 : decode cX10_judgeBuilt 411 = .ok (.if_icmp .eq 42, 3) := by decide +kernel
theorem dX10_judgeBuilt_414 : decode cX10_judgeBuilt 414 = .ok (.aload_n 0, 1) := by decide +kernel
theorem dX10_judgeBuilt_415 : decode cX10_judgeBuilt 415 = .ok (.iload 8, 2) := by decide +kernel
theorem dX10_judgeBuilt_417 : decode cX10_judgeBuilt 417 = .ok (.iload 9, 2) := by decide +kernel
theorem dX10_judgeBuilt_419 : decode cX10_judgeBuilt 419 = .ok (.iconst 1, 1) := by decide +kernel
theorem dX10_judgeBuilt_420 : decode cX10_judgeBuilt 420 = .ok (.isub, 1) := by decide +kernel
theorem dX10_judgeBuilt_421 : decode cX10_judgeBuilt 421 = .ok (.iconst 0, 1) := by decide +kernel
theorem dX10_judgeBuilt_422 : decode cX10_judgeBuilt 422 = .ok (.aload_n 0, 1) := by decide +kernel
theorem dX10_judgeBuilt_423 : decode cX10_judgeBuilt 423 = .ok (.getfield 130, 3) := by decide +kernel
theorem dX10_judgeBuilt_426 : decode cX10_judgeBuilt 426 = .ok (.iload 6, 2) := by decide +kernel
theorem dX10_judgeBuilt_428 : decode cX10_judgeBuilt 428 = .ok (.iaload, 1) := by decide +kernel
theorem dX10_judgeBuilt_429 : decode cX10_judgeBuilt 429 = .ok (.aload_n 0, 1) := by decide +kernel
theorem dX10_judgeBuilt_430 : decode cX10_judgeBuilt 430 = .ok (.getfield 133, 3) := by decide +kernel
theorem dX10_judgeBuilt_433 : decode cX10_judgeBuilt 433 = .ok (.iload 6, 2) := by decide +kernel
theorem dX10_judgeBuilt_435 : decode cX10_judgeBuilt 435 = .ok (.iaload, 1) := by decide +kernel
theorem dX10_judgeBuilt_436 : decode cX10_judgeBuilt 436 = .ok (.aload_n 0, 1) := by decide +kernel
theorem dX10_judgeBuilt_437 : decode cX10_judgeBuilt 437 = .ok (.getfield 136, 3) := by decide +kernel
theorem dX10_judgeBuilt_440 : decode cX10_judgeBuilt 440 = .ok (.iload 6, 2) := by decide +kernel
theorem dX10_judgeBuilt_442 : decode cX10_judgeBuilt 442 = .ok (.iaload, 1) := by decide +kernel
theorem dX10_judgeBuilt_443 : decode cX10_judgeBuilt 443 = .ok (.invokevirtual 456, 3) := by decide +kernel
theorem dX10_judgeBuilt_446 : decode cX10_judgeBuilt 446 = .ok (.ifCond .eq 7, 3) := by decide +kernel
theorem dX10_judgeBuilt_449 : decode cX10_judgeBuilt 449 = .ok (.iconst 1, 1) := by decide +kernel
theorem dX10_judgeBuilt_450 : decode cX10_judgeBuilt 450 = .ok (.goto 4, 3) := by decide +kernel
theorem dX10_judgeBuilt_453 : decode cX10_judgeBuilt 453 = .ok (.iconst 0, 1) := by decide +kernel
theorem dX10_judgeBuilt_454 : decode cX10_judgeBuilt 454 = .ok (.istore 12, 2) := by decide +kernel
theorem dX10_judgeBuilt_456 : decode cX10_judgeBuilt 456 = .ok (.aload_n 0, 1) := by decide +kernel
theorem dX10_judgeBuilt_457 : decode cX10_judgeBuilt 457 = .ok (.iload_n 1, 1) := by decide +kernel
theorem dX10_judgeBuilt_458 : decode cX10_judgeBuilt 458 = .ok (.aload_n 0, 1) := by decide +kernel
theorem dX10_judgeBuilt_459 : decode cX10_judgeBuilt 459 = .ok (.getfield 442, 3) := by decide +kernel
theorem dX10_judgeBuilt_462 : decode cX10_judgeBuilt 462 = .ok (.aload_n 0, 1) := by decide +kernel
theorem dX10_judgeBuilt_463 : decode cX10_judgeBuilt 463 = .ok (.getfield 450, 3) := by decide +kernel
theorem dX10_judgeBuilt_466 : decode cX10_judgeBuilt 466 = .ok (.aload_n 0, 1) := by decide +kernel
theorem dX10_judgeBuilt_467 : decode cX10_judgeBuilt 467 = .ok (.getfield 453, 3) := by decide +kernel
theorem dX10_judgeBuilt_470 : decode cX10_judgeBuilt 470 = .ok (.invokevirtual 482, 3) := by decide +kernel
theorem dX10_judgeBuilt_473 : decode cX10_judgeBuilt 473 = .ok (.goto 225, 3) := by decide +kernel
theorem dX10_judgeBuilt_476 : decode cX10_judgeBuilt 476 = .ok (.iload 11, 2) := by decide +kernel
theorem dX10_judgeBuilt_478 : decode cX10_judgeBuilt 478 = .ok (.istore 12, 2) := by decide +kernel
theorem dX10_judgeBuilt_480 : decode cX10_judgeBuilt 480 = .ok (.aload_n 0, 1) := by decide +kernel
theorem dX10_judgeBuilt_481 : decode cX10_judgeBuilt 481 = .ok (.iload_n 1, 1) := by decide +kernel
theorem dX10_judgeBuilt_482 : decode cX10_judgeBuilt 482 = .ok (.iload 8, 2) := by decide +kernel
theorem dX10_judgeBuilt_484 : decode cX10_judgeBuilt 484 = .ok (.iload 9, 2) := by decide +kernel
theorem dX10_judgeBuilt_486 : decode cX10_judgeBuilt 486 = .ok (.iconst 0, 1) := by decide +kernel
theorem dX10_judgeBuilt_487 : decode cX10_judgeBuilt 487 = .ok (.invokevirtual 482, 3) := by decide +kernel
theorem dX10_judgeBuilt_490 : decode cX10_judgeBuilt 490 = .ok (.goto 208, 3) := by decide +kernel
theorem dX10_judgeBuilt_493 : decode cX10_judgeBuilt 493 = .ok (.iload 10, 2) := by decide +kernel
theorem dX10_judgeBuilt_495 : decode cX10_judgeBuilt 495 = .ok (.ifCond .le 7, 3) := by decide +kernel
theorem dX10_judgeBuilt_498 : decode cX10_judgeBuilt 498 = .ok (.iconst 1, 1) := by decide +kernel
theorem dX10_judgeBuilt_499 : decode cX10_judgeBuilt 499 = .ok (.goto 4, 3) := by decide +kernel
theorem dX10_judgeBuilt_502 : decode cX10_judgeBuilt 502 = .ok (.iconst 0, 1) := by decide +kernel
theorem dX10_judgeBuilt_503 : decode cX10_judgeBuilt 503 = .ok (.istore 12, 2) := by decide +kernel
theorem dX10_judgeBuilt_505 : decode cX10_judgeBuilt 505 = .ok (.aload_n 0, 1) := by decide +kernel
theorem dX10_judgeBuilt_506 : decode cX10_judgeBuilt 506 = .ok (.iload_n 1, 1) := by decide +kernel
theorem dX10_judgeBuilt_507 : decode cX10_judgeBuilt 507 = .ok (.iload 8, 2) := by decide +kernel
theorem dX10_judgeBuilt_509 : decode cX10_judgeBuilt 509 = .ok (.iload 9, 2) := by decide +kernel
theorem dX10_judgeBuilt_511 : decode cX10_judgeBuilt 511 = .ok (.iconst 0, 1) := by decide +kernel
theorem dX10_judgeBuilt_512 : decode cX10_judgeBuilt 512 = .ok (.invokevirtual 482, 3) := by decide +kernel
theorem dX10_judgeBuilt_515 : decode cX10_judgeBuilt 515 = .ok (.goto 183, 3) := by decide +kernel
theorem dX10_judgeBuilt_518 : decode cX10_judgeBuilt 518 = .ok (.iload 10, 2) := by decide +kernel
theorem dX10_judgeBuilt_520 : decode cX10_judgeBuilt 520 = .ok (.ifCond .le 7, 3) := by decide +kernel
theorem dX10_judgeBuilt_523 : decode cX10_judgeBuilt 523 = .ok (.iconst 1, 1) := by decide +kernel
theorem dX10_judgeBuilt_524 : decode cX10_judgeBuilt 524 = .ok (.goto 4, 3) := by decide +kernel
theorem dX10_judgeBuilt_527 : decode cX10_judgeBuilt 527 = .ok (.iconst 0, 1) := by decide +kernel
theorem dX10_judgeBuilt_528 : decode cX10_judgeBuilt 528 = .ok (.istore 12, 2) := by decide +kernel
theorem dX10_judgeBuilt_530 : decode cX10_judgeBuilt 530 = .ok (.aload_n 0, 1) := by decide +kernel
theorem dX10_judgeBuilt_531 : decode cX10_judgeBuilt 531 = .ok (.iload_n 1, 1) := by decide +kernel
theorem dX10_judgeBuilt_532 : decode cX10_judgeBuilt 532 = .ok (.iload 8, 2) := by decide +kernel
theorem dX10_judgeBuilt_534 : decode cX10_judgeBuilt 534 = .ok (.iload 9, 2) := by decide +kernel
theorem dX10_judgeBuilt_536 : decode cX10_judgeBuilt 536 = .ok (.iload 10, 2) := by decide +kernel
theorem dX10_judgeBuilt_538 : decode cX10_judgeBuilt 538 = .ok (.invokevirtual 482, 3) := by decide +kernel
theorem dX10_judgeBuilt_541 : decode cX10_judgeBuilt 541 = .ok (.goto 157, 3) := by decide +kernel
theorem dX10_judgeBuilt_544 : decode cX10_judgeBuilt 544 = .ok (.iload 9, 2) := by decide +kernel
theorem dX10_judgeBuilt_546 : decode cX10_judgeBuilt 546 = .ok (.ifCond .ne 20, 3) := by decide +kernel
theorem dX10_judgeBuilt_549 : decode cX10_judgeBuilt 549 = .ok (.iload 8, 2) := by decide +kernel
theorem dX10_judgeBuilt_551 : decode cX10_judgeBuilt 551 = .ok (.ifCond .eq 11, 3) := by decide +kernel
theorem dX10_judgeBuilt_554 : decode cX10_judgeBuilt 554 = .ok (.iload 8, 2) := by decide +kernel
theorem dX10_judgeBuilt_556 : decode cX10_judgeBuilt 556 = .ok (.invokestatic 493, 3) := by decide +kernel
theorem dX10_judgeBuilt_559 : decode cX10_judgeBuilt 559 = .ok (.ifCond .eq 7, 3) := by decide +kernel
theorem dX10_judgeBuilt_562 : decode cX10_judgeBuilt 562 = .ok (.iconst 1, 1) := by decide +kernel
theorem dX10_judgeBuilt_563 : decode cX10_judgeBuilt 563 = .ok (.goto 4, 3) := by decide +kernel
theorem dX10_judgeBuilt_566 : decode cX10_judgeBuilt 566 = .ok (.iconst 0, 1) := by decide +kernel
theorem dX10_judgeBuilt_567 : decode cX10_judgeBuilt 567 = .ok (.istore 12, 2) := by decide +kernel
theorem dX10_judgeBuilt_569 : decode cX10_judgeBuilt 569 = .ok (.aload_n 0, 1) := by decide +kernel
theorem dX10_judgeBuilt_570 : decode cX10_judgeBuilt 570 = .ok (.iload_n 1, 1) := by decide +kernel
theorem dX10_judgeBuilt_571 : decode cX10_judgeBuilt 571 = .ok (.iload 8, 2) := by decide +kernel
theorem dX10_judgeBuilt_573 : decode cX10_judgeBuilt 573 = .ok (.ifCond .ne 7, 3) := by decide +kernel
theorem dX10_judgeBuilt_576 : decode cX10_judgeBuilt 576 = .ok (.iconst 1, 1) := by decide +kernel
theorem dX10_judgeBuilt_577 : decode cX10_judgeBuilt 577 = .ok (.goto 5, 3) := by decide +kernel
theorem dX10_judgeBuilt_580 : decode cX10_judgeBuilt 580 = .ok (.iload 8, 2) := by decide +kernel
theorem dX10_judgeBuilt_582 : decode cX10_judgeBuilt 582 = .ok (.iconst 0, 1) := by decide +kernel
theorem dX10_judgeBuilt_583 : decode cX10_judgeBuilt 583 = .ok (.iload 10, 2) := by decide +kernel
theorem dX10_judgeBuilt_585 : decode cX10_judgeBuilt 585 = .ok (.invokevirtual 482, 3) := by decide +kernel
theorem dX10_judgeBuilt_588 : decode cX10_judgeBuilt 588 = .ok (.goto 110, 3) := by decide +kernel
theorem dX10_judgeBuilt_591 : decode cX10_judgeBuilt 591 = .ok (.iload 10, 2) := by decide +kernel
theorem dX10_judgeBuilt_593 : decode cX10_judgeBuilt 593 = .ok (.ifCond .le 12, 3) := by decide +kernel
theorem dX10_judgeBuilt_596 : decode cX10_judgeBuilt 596 = .ok (.iload 9, 2) := by decide +kernel
theorem dX10_judgeBuilt_598 : decode cX10_judgeBuilt 598 = .ok (.ifCond .ne 7, 3) := by decide +kernel
theorem dX10_judgeBuilt_601 : decode cX10_judgeBuilt 601 = .ok (.iconst 1, 1) := by decide +kernel
theorem dX10_judgeBuilt_602 : decode cX10_judgeBuilt 602 = .ok (.goto 4, 3) := by decide +kernel
theorem dX10_judgeBuilt_605 : decode cX10_judgeBuilt 605 = .ok (.iconst 0, 1) := by decide +kernel
theorem dX10_judgeBuilt_606 : decode cX10_judgeBuilt 606 = .ok (.istore 12, 2) := by decide +kernel
theorem dX10_judgeBuilt_608 : decode cX10_judgeBuilt 608 = .ok (.aload_n 0, 1) := by decide +kernel
theorem dX10_judgeBuilt_609 : decode cX10_judgeBuilt 609 = .ok (.iload_n 1, 1) := by decide +kernel
theorem dX10_judgeBuilt_610 : decode cX10_judgeBuilt 610 = .ok (.iload 8, 2) := by decide +kernel
theorem dX10_judgeBuilt_612 : decode cX10_judgeBuilt 612 = .ok (.iconst 1, 1) := by decide +kernel
theorem dX10_judgeBuilt_613 : decode cX10_judgeBuilt 613 = .ok (.iconst 0, 1) := by decide +kernel
theorem dX10_judgeBuilt_614 : decode cX10_judgeBuilt 614 = .ok (.invokevirtual 482, 3) := by decide +kernel
theorem dX10_judgeBuilt_617 : decode cX10_judgeBuilt 617 = .ok (.goto 81, 3) := by decide +kernel
theorem dX10_judgeBuilt_620 : decode cX10_judgeBuilt 620 = .ok (.iload 8, 2) := by decide +kernel
theorem dX10_judgeBuilt_622 : decode cX10_judgeBuilt 622 = .ok (.iconst 1, 1) := by decide +kernel
theorem dX10_judgeBuilt_623 : decode cX10_judgeBuilt 623 = .ok (.if_icmp .le 26, 3) := by decide +kernel
theorem dX10_judgeBuilt_626 : decode cX10_judgeBuilt 626 = .ok (.iload 8, 2) := by decide +kernel
theorem dX10_judgeBuilt_628 : decode cX10_judgeBuilt 628 = .ok (.invokestatic 493, 3) := by decide +kernel
theorem dX10_judgeBuilt_631 : decode cX10_judgeBuilt 631 = .ok (.ifCond .eq 18, 3) := by decide +kernel
theorem dX10_judgeBuilt_634 : decode cX10_judgeBuilt 634 = .ok (.iload 9, 2) := by decide +kernel
theorem dX10_judgeBuilt_636 : decode cX10_judgeBuilt 636 = .ok (.iconst 1, 1) := by decide +kernel
theorem dX10_judgeBuilt_637 : decode cX10_judgeBuilt 637 = .ok (.if_icmp .ne 12, 3) := by decide +kernel
theorem dX10_judgeBuilt_640 : decode cX10_judgeBuilt 640 = .ok (.iload 10, 2) := by decide +kernel
theorem dX10_judgeBuilt_642 : decode cX10_judgeBuilt 642 = .ok (.ifCond .ne 7, 3) := by decide +kernel
theorem dX10_judgeBuilt_645 : decode cX10_judgeBuilt 645 = .ok (.iconst 1, 1) := by decide +kernel
theorem dX10_judgeBuilt_646 : decode cX10_judgeBuilt 646 = .ok (.goto 4, 3) := by decide +kernel
theorem dX10_judgeBuilt_649 : decode cX10_judgeBuilt 649 = .ok (.iconst 0, 1) := by decide +kernel
theorem dX10_judgeBuilt_650 : decode cX10_judgeBuilt 650 = .ok (.istore 12, 2) := by decide +kernel
theorem dX10_judgeBuilt_652 : decode cX10_judgeBuilt 652 = .ok (.aload_n 0, 1) := by decide +kernel
theorem dX10_judgeBuilt_653 : decode cX10_judgeBuilt 653 = .ok (.iload_n 1, 1) := by decide +kernel
theorem dX10_judgeBuilt_654 : decode cX10_judgeBuilt 654 = .ok (.iconst 0, 1) := by decide +kernel
theorem dX10_judgeBuilt_655 : decode cX10_judgeBuilt 655 = .ok (.iconst 0, 1) := by decide +kernel
theorem dX10_judgeBuilt_656 : decode cX10_judgeBuilt 656 = .ok (.iconst 0, 1) := by decide +kernel
theorem dX10_judgeBuilt_657 : decode cX10_judgeBuilt 657 = .ok (.invokevirtual 482, 3) := by decide +kernel
theorem dX10_judgeBuilt_660 : decode cX10_judgeBuilt 660 = .ok (.goto 38, 3) := by decide +kernel
theorem dX10_judgeBuilt_663 : decode cX10_judgeBuilt 663 = .ok (.aload_n 0, 1) := by decide +kernel
theorem dX10_judgeBuilt_664 : decode cX10_judgeBuilt 664 = .ok (.iload 5, 2) := by decide +kernel
theorem dX10_judgeBuilt_666 : decode cX10_judgeBuilt 666 = .ok (.iconst 0, 1) := by decide +kernel
theorem dX10_judgeBuilt_667 : decode cX10_judgeBuilt 667 = .ok (.invokevirtual 598, 3) := by decide +kernel
theorem dX10_judgeBuilt_670 : decode cX10_judgeBuilt 670 = .ok (.ifCond .ne 13, 3) := by decide +kernel
theorem dX10_judgeBuilt_673 : decode cX10_judgeBuilt 673 = .ok (.aload_n 0, 1) := by decide +kernel
theorem dX10_judgeBuilt_674 : decode cX10_judgeBuilt 674 = .ok (.iload 5, 2) := by decide +kernel
theorem dX10_judgeBuilt_676 : decode cX10_judgeBuilt 676 = .ok (.iconst 1, 1) := by decide +kernel
theorem dX10_judgeBuilt_677 : decode cX10_judgeBuilt 677 = .ok (.invokevirtual 598, 3) := by decide +kernel
theorem dX10_judgeBuilt_680 : decode cX10_judgeBuilt 680 = .ok (.ifCond .eq 7, 3) := by decide +kernel
theorem dX10_judgeBuilt_683 : decode cX10_judgeBuilt 683 = .ok (.iconst 1, 1) := by decide +kernel
theorem dX10_judgeBuilt_684 : decode cX10_judgeBuilt 684 = .ok (.goto 4, 3) := by decide +kernel
theorem dX10_judgeBuilt_687 : decode cX10_judgeBuilt 687 = .ok (.iconst 0, 1) := by decide +kernel
theorem dX10_judgeBuilt_688 : decode cX10_judgeBuilt 688 = .ok (.istore 12, 2) := by decide +kernel
theorem dX10_judgeBuilt_690 : decode cX10_judgeBuilt 690 = .ok (.aload_n 0, 1) := by decide +kernel
theorem dX10_judgeBuilt_691 : decode cX10_judgeBuilt 691 = .ok (.iload_n 1, 1) := by decide +kernel
theorem dX10_judgeBuilt_692 : decode cX10_judgeBuilt 692 = .ok (.iconst 0, 1) := by decide +kernel
theorem dX10_judgeBuilt_693 : decode cX10_judgeBuilt 693 = .ok (.iconst 0, 1) := by decide +kernel
theorem dX10_judgeBuilt_694 : decode cX10_judgeBuilt 694 = .ok (.iconst 0, 1) := by decide +kernel
theorem dX10_judgeBuilt_695 : decode cX10_judgeBuilt 695 = .ok (.invokevirtual 482, 3) := by decide +kernel
theorem dX10_judgeBuilt_698 : decode cX10_judgeBuilt 698 = .ok (.iload 12, 2) := by decide +kernel
theorem dX10_judgeBuilt_700 : decode cX10_judgeBuilt 700 = .ok (.ifCond .ne 8, 3) := by decide +kernel
theorem dX10_judgeBuilt_703 : decode cX10_judgeBuilt 703 = .ok (.aload_n 0, 1) := by decide +kernel
theorem dX10_judgeBuilt_704 : decode cX10_judgeBuilt 704 = .ok (.iload_n 1, 1) := by decide +kernel
theorem dX10_judgeBuilt_705 : decode cX10_judgeBuilt 705 = .ok (.invokevirtual 486, 3) := by decide +kernel
theorem dX10_judgeBuilt_708 : decode cX10_judgeBuilt 708 = .ok (.return_, 1) := by decide +kernel
/-! AlgebraHouseModel.judgeBuilt(I)V -/
def P_X10_judgeBuilt_698 (rec : Nat → List Int → MM → (Int → MM → Prop) → (MM → Prop) → Prop) (Q : Int → MM → Prop) (T : MM → Prop) (x1 : Int) (x12 : Int) (m : MM) : Prop := (RI x12) ∧ (if x12 = 0 then P_X10_wrong x1 m (fun r1 m1 => Q 0 m1) else Q 0 m)
def P_X10_judgeBuilt_322 (rec : Nat → List Int → MM → (Int → MM → Prop) → (MM → Prop) → Prop) (Q : Int → MM → Prop) (T : MM → Prop) (x1 : Int) (m : MM) : Prop := P_X10_setRing x1 (m 582 65) (m 582 66) (m 582 67) m (fun r1 m1 => P_X10_judgeBuilt_698 rec Q T x1 0 m1)
def P_X10_judgeBuilt_379 (rec : Nat → List Int → MM → (Int → MM → Prop) → (MM → Prop) → Prop) (Q : Int → MM → Prop) (T : MM → Prop) (x1 : Int) (x8 : Int) (x9 : Int) (m : MM) : Prop := P_X10_setRing x1 x8 (x9 - 1) 0 m (fun r1 m1 => P_X10_judgeBuilt_698 rec Q T x1 0 m1)
def P_X10_judgeBuilt_453 (rec : Nat → List Int → MM → (Int → MM → Prop) → (MM → Prop) → Prop) (Q : Int → MM → Prop) (T : MM → Prop) (x1 : Int) (m : MM) : Prop := P_X10_setRing x1 (m 582 65) (m 582 66) (m 582 67) m (fun r1 m1 => P_X10_judgeBuilt_698 rec Q T x1 0 m1)
def P_X10_judgeBuilt_493 (rec : Nat → List Int → MM → (Int → MM → Prop) → (MM → Prop) → Prop) (Q : Int → MM → Prop) (T : MM → Prop) (x1 : Int) (x8 : Int) (x9 : Int) (x10 : Int) (m : MM) : Prop := ((RI x10)) ∧ P_X10_setRing x1 x8 x9 0 m (fun r1 m1 => P_X10_judgeBuilt_698 rec Q T x1 (if x10 ≤ 0 then 0 else 1 : Int) m1)
def P_X10_judgeBuilt_518 (rec : Nat → List Int → MM → (Int → MM → Prop) → (MM → Prop) → Prop) (Q : Int → MM → Prop) (T : MM → Prop) (x1 : Int) (x8 : Int) (x9 : Int) (x10 : Int) (m : MM) : Prop := ((RI x10)) ∧ P_X10_setRing x1 x8 x9 x10 m (fun r1 m1 => P_X10_judgeBuilt_698 rec Q T x1 (if x10 ≤ 0 then 0 else 1 : Int) m1)
def P_X10_judgeBuilt_562 (rec : Nat → List Int → MM → (Int → MM → Prop) → (MM → Prop) → Prop) (Q : Int → MM → Prop) (T : MM → Prop) (x1 : Int) (x8 : Int) (x10 : Int) (m : MM) : Prop := ((RI x8)) ∧ P_X10_setRing x1 (if x8 = 0 then 1 else x8 : Int) 0 x10 m (fun r1 m1 => P_X10_judgeBuilt_698 rec Q T x1 1 m1)
def P_X10_judgeBuilt_566 (rec : Nat → List Int → MM → (Int → MM → Prop) → (MM → Prop) → Prop) (Q : Int → MM → Prop) (T : MM → Prop) (x1 : Int) (x8 : Int) (x10 : Int) (m : MM) : Prop := ((RI x8)) ∧ P_X10_setRing x1 (if x8 = 0 then 1 else x8 : Int) 0 x10 m (fun r1 m1 => P_X10_judgeBuilt_698 rec Q T x1 0 m1)
def P_X10_judgeBuilt_649 (rec : Nat → List Int → MM → (Int → MM → Prop) → (MM → Prop) → Prop) (Q : Int → MM → Prop) (T : MM → Prop) (x1 : Int) (m : MM) : Prop := P_X10_setRing x1 0 0 0 m (fun r1 m1 => P_X10_judgeBuilt_698 rec Q T x1 0 m1)
def P_X10_judgeBuilt_683 (rec : Nat → List Int → MM → (Int → MM → Prop) → (MM → Prop) → Prop) (Q : Int → MM → Prop) (T : MM → Prop) (x1 : Int) (m : MM) : Prop := P_X10_setRing x1 0 0 0 m (fun r1 m1 => P_X10_judgeBuilt_698 rec Q T x1 1 m1)
def P_X10_judgeBuilt_70 (rec : Nat → List Int → MM → (Int → MM → Prop) → (MM → Prop) → Prop) (Q : Int → MM → Prop) (T : MM → Prop) (x1 : Int) (x2 : Int) (x3 : Int) (m : MM) : Prop := (RI x2) ∧ (if x2 = 0 then Q 0 m else (0 ≤ x1 ∧ x1 < 12000) ∧ P_X10_builtInOf (m 605 x1) m (fun r1 m1 => ∀ m2 : MM, m2 = up m1 597 x1 r1 → (0 ≤ (m2 591 x1) ∧ (m2 591 x1) < 12000) ∧ ((RI (m2 594 (m2 591 x1))) ∧ (if 0 ≤ (m2 594 (m2 591 x1)) then ((0 ≤ (m2 594 (m2 591 x1)) ∧ (m2 594 (m2 591 x1)) < 12000)) else True)) ∧ ((RI r1)) ∧ ((RI (if r1 = 0 then 1 else (if r1 = 2 then 1 else (if r1 = 3 then 1 else 0 : Int) : Int) : Int))) ∧ (RI x3) ∧ (RI (if (if r1 = 0 then 1 else (if r1 = 2 then 1 else (if r1 = 3 then 1 else 0 : Int) : Int) : Int) = 0 then 1 else 2 : Int)) ∧ (if x3 = (if (if r1 = 0 then 1 else (if r1 = 2 then 1 else (if r1 = 3 then 1 else 0 : Int) : Int) : Int) = 0 then 1 else 2 : Int) then (0 ≤ (m2 591 (m2 591 x1)) ∧ (m2 591 (m2 591 x1)) < 12000) ∧ ((RI (m2 599 (m2 591 (m2 591 x1)))) ∧ (if (m2 599 (m2 591 (m2 591 x1))) ≤ 0 then True else ((RI (m2 600 (m2 591 (m2 591 x1))))))) ∧ (RI r1) ∧ (if r1 = 0 then P_X10_joinsParts (m2 591 (m2 591 x1)) (if 0 ≤ (m2 594 (m2 591 x1)) then (m2 591 (m2 594 (m2 591 x1))) else (-1) : Int) m2 (fun r2 m3 => (RI r2) ∧ (if r2 = 0 then P_X10_judgeBuilt_322 rec Q T x1 m3 else P_X10_isDivided m3 (fun r3 m4 => ((RI r3)) ∧ P_X10_setRing x1 (m4 582 65) (m4 582 66) (m4 582 67) m4 (fun r4 m5 => P_X10_judgeBuilt_698 rec Q T x1 (if r3 = 0 then 0 else 1 : Int) m5)))) else (if r1 = 1 then P_X10_setRing x1 0 0 0 m2 (fun r5 m6 => P_X10_judgeBuilt_698 rec Q T x1 (if (m2 599 (m2 591 (m2 591 x1))) ≤ 0 then 0 else (if (m2 600 (m2 591 (m2 591 x1))) = 0 then 1 else 0 : Int) : Int) m6) else (if r1 = 2 then (RI (if (m2 599 (m2 591 (m2 591 x1))) ≤ 0 then 0 else (if (m2 600 (m2 591 (m2 591 x1))) = 0 then 1 else 0 : Int) : Int)) ∧ (if (if (m2 599 (m2 591 (m2 591 x1))) ≤ 0 then 0 else (if (m2 600 (m2 591 (m2 591 x1))) = 0 then 1 else 0 : Int) : Int) = 0 then P_X10_judgeBuilt_379 rec Q T x1 (m2 598 (m2 591 (m2 591 x1))) (m2 599 (m2 591 (m2 591 x1))) m2 else P_X10_isNumber (if 0 ≤ (m2 594 (m2 591 x1)) then (m2 591 (m2 594 (m2 591 x1))) else (-1) : Int) 0 m2 (fun r6 m7 => ((RI r6)) ∧ P_X10_setRing x1 (m2 598 (m2 591 (m2 591 x1))) ((m2 599 (m2 591 (m2 591 x1))) - 1) 0 m7 (fun r7 m8 => P_X10_judgeBuilt_698 rec Q T x1 (if r6 = 0 then 0 else 1 : Int) m8))) else (if r1 = 3 then (RI (if (m2 599 (m2 591 (m2 591 x1))) ≤ 0 then 0 else (if (m2 600 (m2 591 (m2 591 x1))) = 0 then 1 else 0 : Int) : Int)) ∧ (if (if (m2 599 (m2 591 (m2 591 x1))) ≤ 0 then 0 else (if (m2 600 (m2 591 (m2 591 x1))) = 0 then 1 else 0 : Int) : Int) = 0 then P_X10_judgeBuilt_453 rec Q T x1 m2 else (0 ≤ (if 0 ≤ (m2 594 (m2 591 x1)) then (m2 591 (m2 594 (m2 591 x1))) else (-1) : Int) ∧ (if 0 ≤ (m2 594 (m2 591 x1)) then (m2 591 (m2 594 (m2 591 x1))) else (-1) : Int) < 12000) ∧ (RI (m2 598 (if 0 ≤ (m2 594 (m2 591 x1)) then (m2 591 (m2 594 (m2 591 x1))) else (-1) : Int))) ∧ (if (m2 598 (if 0 ≤ (m2 594 (m2 591 x1)) then (m2 591 (m2 594 (m2 591 x1))) else (-1) : Int)) = (-2) then P_X10_judgeBuilt_453 rec Q T x1 m2 else P_X10_joins (m2 598 (m2 591 (m2 591 x1))) ((m2 599 (m2 591 (m2 591 x1))) - 1) 0 (m2 598 (if 0 ≤ (m2 594 (m2 591 x1)) then (m2 591 (m2 594 (m2 591 x1))) else (-1) : Int)) (m2 599 (if 0 ≤ (m2 594 (m2 591 x1)) then (m2 591 (m2 594 (m2 591 x1))) else (-1) : Int)) (m2 600 (if 0 ≤ (m2 594 (m2 591 x1)) then (m2 591 (m2 594 (m2 591 x1))) else (-1) : Int)) m2 (fun r8 m9 => ((RI r8)) ∧ P_X10_setRing x1 (m9 582 65) (m9 582 66) (m9 582 67) m9 (fun r9 m10 => P_X10_judgeBuilt_698 rec Q T x1 (if r8 = 0 then 0 else 1 : Int) m10)))) else (if r1 = 4 then P_X10_setRing x1 (m2 598 (m2 591 (m2 591 x1))) (m2 599 (m2 591 (m2 591 x1))) 0 m2 (fun r10 m11 => P_X10_judgeBuilt_698 rec Q T x1 (if (m2 599 (m2 591 (m2 591 x1))) ≤ 0 then 0 else (if (m2 600 (m2 591 (m2 591 x1))) = 0 then 1 else 0 : Int) : Int) m11) else (if r1 = 5 then P_X10_judgeBuilt_493 rec Q T x1 (m2 598 (m2 591 (m2 591 x1))) (m2 599 (m2 591 (m2 591 x1))) (m2 600 (m2 591 (m2 591 x1))) m2 else (if r1 = 6 then P_X10_judgeBuilt_493 rec Q T x1 (m2 598 (m2 591 (m2 591 x1))) (m2 599 (m2 591 (m2 591 x1))) (m2 600 (m2 591 (m2 591 x1))) m2 else (if r1 = 7 then P_X10_judgeBuilt_518 rec Q T x1 (m2 598 (m2 591 (m2 591 x1))) (m2 599 (m2 591 (m2 591 x1))) (m2 600 (m2 591 (m2 591 x1))) m2 else (if r1 = 8 then P_X10_judgeBuilt_518 rec Q T x1 (m2 598 (m2 591 (m2 591 x1))) (m2 599 (m2 591 (m2 591 x1))) (m2 600 (m2 591 (m2 591 x1))) m2 else (if r1 = 9 then (RI (m2 599 (m2 591 (m2 591 x1)))) ∧ (if (m2 599 (m2 591 (m2 591 x1))) = 0 then (RI (m2 598 (m2 591 (m2 591 x1)))) ∧ (if (m2 598 (m2 591 (m2 591 x1))) = 0 then P_X10_judgeBuilt_562 rec Q T x1 (m2 598 (m2 591 (m2 591 x1))) (m2 600 (m2 591 (m2 591 x1))) m2 else P_X10_isField (m2 598 (m2 591 (m2 591 x1))) m2 (fun r11 m12 => ((RI r11)) ∧ P_X10_setRing x1 (if (m2 598 (m2 591 (m2 591 x1))) = 0 then 1 else (m2 598 (m2 591 (m2 591 x1))) : Int) 0 (m2 600 (m2 591 (m2 591 x1))) m12 (fun r12 m13 => P_X10_judgeBuilt_698 rec Q T x1 (if r11 = 0 then 0 else 1 : Int) m13))) else P_X10_judgeBuilt_566 rec Q T x1 (m2 598 (m2 591 (m2 591 x1))) (m2 600 (m2 591 (m2 591 x1))) m2) else (if r1 = 10 then ((RI (m2 600 (m2 591 (m2 591 x1)))) ∧ (if (m2 600 (m2 591 (m2 591 x1))) ≤ 0 then True else ((RI (m2 599 (m2 591 (m2 591 x1))))))) ∧ P_X10_setRing x1 (m2 598 (m2 591 (m2 591 x1))) 1 0 m2 (fun r13 m14 => P_X10_judgeBuilt_698 rec Q T x1 (if (m2 600 (m2 591 (m2 591 x1))) ≤ 0 then 0 else (if (m2 599 (m2 591 (m2 591 x1))) = 0 then 1 else 0 : Int) : Int) m14) else (if r1 = 11 then (RI (m2 598 (m2 591 (m2 591 x1)))) ∧ (if (m2 598 (m2 591 (m2 591 x1))) ≤ 1 then P_X10_judgeBuilt_649 rec Q T x1 m2 else P_X10_isField (m2 598 (m2 591 (m2 591 x1))) m2 (fun r14 m15 => ((RI r14) ∧ (if r14 = 0 then True else ((RI (m2 599 (m2 591 (m2 591 x1)))) ∧ (if (m2 599 (m2 591 (m2 591 x1))) = 1 then ((RI (m2 600 (m2 591 (m2 591 x1))))) else True)))) ∧ P_X10_setRing x1 0 0 0 m15 (fun r15 m16 => P_X10_judgeBuilt_698 rec Q T x1 (if r14 = 0 then 0 else (if (m2 599 (m2 591 (m2 591 x1))) = 1 then (if (m2 600 (m2 591 (m2 591 x1))) = 0 then 1 else 0 : Int) else 0 : Int) : Int) m16))) else P_X10_isNumber (m2 591 (m2 591 x1)) 0 m2 (fun r16 m17 => (RI r16) ∧ (if r16 = 0 then P_X10_isNumber (m2 591 (m2 591 x1)) 1 m17 (fun r17 m18 => ((RI r17)) ∧ P_X10_setRing x1 0 0 0 m18 (fun r18 m19 => P_X10_judgeBuilt_698 rec Q T x1 (if r17 = 0 then 0 else 1 : Int) m19)) else P_X10_judgeBuilt_683 rec Q T x1 m17)))))))))))))) else P_X10_wrong x1 m2 (fun r19 m20 => Q 0 m20))))
def P_X10_judgeBuilt_12 (rec : Nat → List Int → MM → (Int → MM → Prop) → (MM → Prop) → Prop) (Q : Int → MM → Prop) (T : MM → Prop) : Nat → Int → Int → Int → Int → MM → Prop
  | 0, _, _, _, _, _ => False
  | n + 1, x1, x2, x3, x4, m => (RI x4) ∧ (if x4 < 0 then P_X10_judgeBuilt_70 rec Q T x1 x2 x3 m else (0 ≤ x4 ∧ x4 < 12000) ∧ rec 0 [(m 591 x4)] m (fun r1 m1 => ((RI x2) ∧ (if x2 = 0 then True else ((0 ≤ (m1 591 x4) ∧ (m1 591 x4) < 12000) ∧ (RI (m1 598 (m1 591 x4)))))) ∧ P_X10_judgeBuilt_12 rec Q T n x1 (if x2 = 0 then 0 else (if (m1 598 (m1 591 x4)) = (-9) then 0 else 1 : Int) : Int) (x3 + 1) (m1 594 x4) m1) T)
def W_X10_judgeBuilt (rec : Nat → List Int → MM → (Int → MM → Prop) → (MM → Prop) → Prop) (x1 : Int) (m : MM) (Q : Int → MM → Prop) (T : MM → Prop) : Prop := (0 ≤ x1 ∧ x1 < 12000) ∧ ∃ nn, P_X10_judgeBuilt_12 rec Q T nn x1 1 0 (m 591 x1) m
theorem dX10_judgeCall_0 : decode cX10_judgeCall 0 = .ok (.iconst 1, 1) := by decide +kernel
theorem dX10_judgeCall_1 : decode cX10_judgeCall 1 = .ok (.istore_n 2, 1) := by decide +kernel
theorem dX10_judgeCall_2 : decode cX10_judgeCall 2 = .ok (.iconst 0, 1) := by decide +kernel
theorem dX10_judgeCall_3 : decode cX10_judgeCall 3 = .ok (.istore_n 3, 1) := by decide +kernel
theorem dX10_judgeCall_4 : decode cX10_judgeCall 4 = .ok (.aload_n 0, 1) := by decide +kernel
theorem dX10_judgeCall_5 : decode cX10_judgeCall 5 = .ok (.getfield 109, 3) := by decide +kernel
theorem dX10_judgeCall_8 : decode cX10_judgeCall 8 = .ok (.iload_n 1, 1) := by decide +kernel
theorem dX10_judgeCall_9 : decode cX10_judgeCall 9 = .ok (.iaload, 1) := by decide +kernel
theorem dX10_judgeCall_10 : decode cX10_judgeCall 10 = .ok (.istore 4, 2) := by decide +kernel
theorem dX10_judgeCall_12 : decode cX10_judgeCall 12 = .ok (.iload 4, 2) := by decide +kernel
theorem dX10_judgeCall_14 : decode cX10_judgeCall 14 = .ok (.ifCond .lt 56, 3) := by decide +kernel
theorem dX10_judgeCall_17 : decode cX10_judgeCall 17 = .ok (.aload_n 0, 1) := by decide +kernel
theorem dX10_judgeCall_18 : decode cX10_judgeCall 18 = .ok (.aload_n 0, 1) := by decide +kernel
theorem dX10_judgeCall_19 : decode cX10_judgeCall 19 = .ok (.getfield 109, 3) := by decide +kernel
theorem dX10_judgeCall_22 : decode cX10_judgeCall 22 = .ok (.iload 4, 2) := by decide +kernel
theorem dX10_judgeCall_24 : decode cX10_judgeCall 24 = .ok (.iaload, 1) := by decide +kernel
theorem dX10_judgeCall_25 : decode cX10_judgeCall 25 = .ok (.invokevirtual 476, 3) := by decide +kernel
theorem dX10_judgeCall_28 : decode cX10_judgeCall 28 = .ok (.iload_n 2, 1) := by decide +kernel
theorem dX10_judgeCall_29 : decode cX10_judgeCall 29 = .ok (.ifCond .eq 24, 3) := by decide +kernel
theorem dX10_judgeCall_32 : decode cX10_judgeCall 32 = .ok (.aload_n 0, 1) := by decide +kernel
theorem dX10_judgeCall_33 : decode cX10_judgeCall 33 = .ok (.getfield 130, 3) := by decide +kernel
theorem dX10_judgeCall_36 : decode cX10_judgeCall 36 = .ok (.aload_n 0, 1) := by decide +kernel
theorem dX10_judgeCall_37 : decode cX10_judgeCall 37 = .ok (.getfield 109, 3) := by decide +kernel
theorem dX10_judgeCall_40 : decode cX10_judgeCall 40 = .ok (.iload 4, 2) := by decide +kernel
theorem dX10_judgeCall_42 : decode cX10_judgeCall 42 = .ok (.iaload, 1) := by decide +kernel
theorem dX10_judgeCall_43 : decode cX10_judgeCall 43 = .ok (.iaload, 1) := by decide +kernel
theorem dX10_judgeCall_44 : decode cX10_judgeCall 44 = .ok (.bipush (-9), 2) := by decide +kernel
theorem dX10_judgeCall_46 : decode cX10_judgeCall 46 = .ok (.if_icmp .eq 7, 3) := by decide +kernel
theorem dX10_judgeCall_49 : decode cX10_judgeCall 49 = .ok (.iconst 1, 1) := by decide +kernel
theorem dX10_judgeCall_50 : decode cX10_judgeCall 50 = .ok (.goto 4, 3) := by decide +kernel
theorem dX10_judgeCall_53 : decode cX10_judgeCall 53 = .ok (.iconst 0, 1) := by decide +kernel
theorem dX10_judgeCall_54 : decode cX10_judgeCall 54 = .ok (.istore_n 2, 1) := by decide +kernel
theorem dX10_judgeCall_55 : decode cX10_judgeCall 55 = .ok (.iinc 3 1, 3) := by decide +kernel
theorem dX10_judgeCall_58 : decode cX10_judgeCall 58 = .ok (.aload_n 0, 1) := by decide +kernel
theorem dX10_judgeCall_59 : decode cX10_judgeCall 59 = .ok (.getfield 118, 3) := by decide +kernel
theorem dX10_judgeCall_62 : decode cX10_judgeCall 62 = .ok (.iload 4, 2) := by decide +kernel
theorem dX10_judgeCall_64 : decode cX10_judgeCall 64 = .ok (.iaload, 1) := by decide +kernel
theorem dX10_judgeCall_65 : decode cX10_judgeCall 65 = .ok (.istore 4, 2) := by decide +kernel
theorem dX10_judgeCall_67 : decode cX10_judgeCall 67 = .ok (.goto (-55), 3) := by decide +kernel
theorem dX10_judgeCall_70 : decode cX10_judgeCall 70 = .ok (.aload_n 0, 1) := by decide +kernel
theorem dX10_judgeCall_71 : decode cX10_judgeCall 71 = .ok (.getfield 231, 3) := by decide +kernel
theorem dX10_judgeCall_74 : decode cX10_judgeCall 74 = .ok (.ifCond .lt 12, 3) := by decide +kernel
theorem dX10_judgeCall_77 : decode cX10_judgeCall 77 = .ok (.aload_n 0, 1) := by decide +kernel
theorem dX10_judgeCall_78 : decode cX10_judgeCall 78 = .ok (.getfield 231, 3) := by decide +kernel
theorem dX10_judgeCall_81 : decode cX10_judgeCall 81 = .ok (.iconst 1, 1) := by decide +kernel
theorem dX10_judgeCall_82 : decode cX10_judgeCall 82 = .ok (.iadd, 1) := by decide +kernel
theorem dX10_judgeCall_83 : decode cX10_judgeCall 83 = .ok (.goto 7, 3) := by decide +kernel
theorem dX10_judgeCall_86 : decode cX10_judgeCall 86 = .ok (.aload_n 0, 1) := by decide +kernel
theorem dX10_judgeCall_87 : decode cX10_judgeCall 87 = .ok (.getfield 591, 3) := by decide +kernel
theorem dX10_judgeCall_90 : decode cX10_judgeCall 90 = .ok (.istore 4, 2) := by decide +kernel
theorem dX10_judgeCall_92 : decode cX10_judgeCall 92 = .ok (.iconst 0, 1) := by decide +kernel
theorem dX10_judgeCall_93 : decode cX10_judgeCall 93 = .ok (.istore 5, 2) := by decide +kernel
theorem dX10_judgeCall_95 : decode cX10_judgeCall 95 = .ok (.iconst 0, 1) := by decide +kernel
theorem dX10_judgeCall_96 : decode cX10_judgeCall 96 = .ok (.istore 6, 2) := by decide +kernel
theorem dX10_judgeCall_98 : decode cX10_judgeCall 98 = .ok (.iload 6, 2) := by decide +kernel
theorem dX10_judgeCall_100 : decode cX10_judgeCall 100 = .ok (.iload 4, 2) := by decide +kernel
theorem dX10_judgeCall_102 : decode cX10_judgeCall 102 = .ok (.if_icmp .ge 38, 3) := by decide +kernel
theorem dX10_judgeCall_105 : decode cX10_judgeCall 105 = .ok (.iload 5, 2) := by decide +kernel
theorem dX10_judgeCall_107 : decode cX10_judgeCall 107 = .ok (.ifCond .ne 20, 3) := by decide +kernel
theorem dX10_judgeCall_110 : decode cX10_judgeCall 110 = .ok (.aload_n 0, 1) := by decide +kernel
theorem dX10_judgeCall_111 : decode cX10_judgeCall 111 = .ok (.getfield 155, 3) := by decide +kernel
theorem dX10_judgeCall_114 : decode cX10_judgeCall 114 = .ok (.iload 6, 2) := by decide +kernel
theorem dX10_judgeCall_116 : decode cX10_judgeCall 116 = .ok (.laload, 1) := by decide +kernel
theorem dX10_judgeCall_117 : decode cX10_judgeCall 117 = .ok (.aload_n 0, 1) := by decide +kernel
theorem dX10_judgeCall_118 : decode cX10_judgeCall 118 = .ok (.getfield 152, 3) := by decide +kernel
theorem dX10_judgeCall_121 : decode cX10_judgeCall 121 = .ok (.iload_n 1, 1) := by decide +kernel
theorem dX10_judgeCall_122 : decode cX10_judgeCall 122 = .ok (.laload, 1) := by decide +kernel
theorem dX10_judgeCall_123 : decode cX10_judgeCall 123 = .ok (.lcmp, 1) := by decide +kernel
theorem dX10_judgeCall_124 : decode cX10_judgeCall 124 = .ok (.ifCond .ne 7, 3) := by decide +kernel
theorem dX10_judgeCall_127 : decode cX10_judgeCall 127 = .ok (.iconst 1, 1) := by decide +kernel
theorem dX10_judgeCall_128 : decode cX10_judgeCall 128 = .ok (.goto 4, 3) := by decide +kernel
theorem dX10_judgeCall_131 : decode cX10_judgeCall 131 = .ok (.iconst 0, 1) := by decide +kernel
theorem dX10_judgeCall_132 : decode cX10_judgeCall 132 = .ok (.istore 5, 2) := by decide +kernel
theorem dX10_judgeCall_134 : decode cX10_judgeCall 134 = .ok (.iinc 6 1, 3) := by decide +kernel
theorem dX10_judgeCall_137 : decode cX10_judgeCall 137 = .ok (.goto (-39), 3) := by decide +kernel
theorem dX10_judgeCall_140 : decode cX10_judgeCall 140 = .ok (.iload 5, 2) := by decide +kernel
theorem dX10_judgeCall_142 : decode cX10_judgeCall 142 = .ok (.ifCond .ne 14, 3) := by decide +kernel
theorem dX10_judgeCall_145 : decode cX10_judgeCall 145 = .ok (.aload_n 0, 1) := by decide +kernel
theorem dX10_judgeCall_146 : decode cX10_judgeCall 146 = .ok (.iconst 3, 1) := by decide +kernel
theorem dX10_judgeCall_147 : decode cX10_judgeCall 147 = .ok (.aload_n 0, 1) := by decide +kernel
theorem dX10_judgeCall_148 : decode cX10_judgeCall 148 = .ok (.getfield 121, 3) := by decide +kernel
theorem dX10_judgeCall_151 : decode cX10_judgeCall 151 = .ok (.iload_n 1, 1) := by decide +kernel
theorem dX10_judgeCall_152 : decode cX10_judgeCall 152 = .ok (.iaload, 1) := by decide +kernel
theorem dX10_judgeCall_153 : decode cX10_judgeCall 153 = .ok (.invokevirtual 472, 3) := by decide +kernel
theorem dX10_judgeCall_156 : decode cX10_judgeCall 156 = .ok (.iload 5, 2) := by decide +kernel
theorem dX10_judgeCall_158 : decode cX10_judgeCall 158 = .ok (.ifCond .eq 7, 3) := by decide +kernel
theorem dX10_judgeCall_161 : decode cX10_judgeCall 161 = .ok (.iload_n 2, 1) := by decide +kernel
theorem dX10_judgeCall_162 : decode cX10_judgeCall 162 = .ok (.ifCond .ne 4, 3) := by decide +kernel
theorem dX10_judgeCall_165 : decode cX10_judgeCall 165 = .ok (.return_, 1) := by decide +kernel
theorem dX10_judgeCall_166 : decode cX10_judgeCall 166 = .ok (.aload_n 0, 1) := by decide +kernel
theorem dX10_judgeCall_167 : decode cX10_judgeCall 167 = .ok (.iload_n 3, 1) := by decide +kernel
theorem dX10_judgeCall_168 : decode cX10_judgeCall 168 = .ok (.putfield 566, 3) := by decide +kernel
theorem dX10_judgeCall_171 : decode cX10_judgeCall 171 = .ok (.iconst 0, 1) := by decide +kernel
theorem dX10_judgeCall_172 : decode cX10_judgeCall 172 = .ok (.istore 6, 2) := by decide +kernel
theorem dX10_judgeCall_174 : decode cX10_judgeCall 174 = .ok (.aload_n 0, 1) := by decide +kernel
theorem dX10_judgeCall_175 : decode cX10_judgeCall 175 = .ok (.getfield 109, 3) := by decide +kernel
theorem dX10_judgeCall_178 : decode cX10_judgeCall 178 = .ok (.iload_n 1, 1) := by decide +kernel
theorem dX10_judgeCall_179 : decode cX10_judgeCall 179 = .ok (.iaload, 1) := by decide +kernel
theorem dX10_judgeCall_180 : decode cX10_judgeCall 180 = .ok (.istore 7, 2) := by decide +kernel
theorem dX10_judgeCall_182 : decode cX10_judgeCall 182 = .ok (.iload 7, 2) := by decide +kernel
theorem dX10_judgeCall_184 : decode cX10_judgeCall 184 = .ok (.ifCond .lt 80, 3) := by decide +kernel
theorem dX10_judgeCall_187 : decode cX10_judgeCall 187 = .ok (.iload_n 3, 1) := by decide +kernel
theorem dX10_judgeCall_188 : decode cX10_judgeCall 188 = .ok (.iconst 3, 1) := by decide +kernel
theorem dX10_judgeCall_189 : decode cX10_judgeCall 189 = .ok (.if_icmp .gt 75, 3) := by decide +kernel
theorem dX10_judgeCall_192 : decode cX10_judgeCall 192 = .ok (.aload_n 0, 1) := by decide +kernel
theorem dX10_judgeCall_193 : decode cX10_judgeCall 193 = .ok (.getfield 240, 3) := by decide +kernel
theorem dX10_judgeCall_196 : decode cX10_judgeCall 196 = .ok (.iload 6, 2) := by decide +kernel
theorem dX10_judgeCall_198 : decode cX10_judgeCall 198 = .ok (.aload_n 0, 1) := by decide +kernel
theorem dX10_judgeCall_199 : decode cX10_judgeCall 199 = .ok (.getfield 130, 3) := by decide +kernel
theorem dX10_judgeCall_202 : decode cX10_judgeCall 202 = .ok (.aload_n 0, 1) := by decide +kernel
theorem dX10_judgeCall_203 : decode cX10_judgeCall 203 = .ok (.getfield 109, 3) := by decide +kernel
theorem dX10_judgeCall_206 : decode cX10_judgeCall 206 = .ok (.iload 7, 2) := by decide +kernel
theorem dX10_judgeCall_208 : decode cX10_judgeCall 208 = .ok (.iaload, 1) := by decide +kernel
theorem dX10_judgeCall_209 : decode cX10_judgeCall 209 = .ok (.iaload, 1) := by decide +kernel
theorem dX10_judgeCall_210 : decode cX10_judgeCall 210 = .ok (.iastore, 1) := by decide +kernel
theorem dX10_judgeCall_211 : decode cX10_judgeCall 211 = .ok (.aload_n 0, 1) := by decide +kernel
theorem dX10_judgeCall_212 : decode cX10_judgeCall 212 = .ok (.getfield 243, 3) := by decide +kernel
theorem dX10_judgeCall_215 : decode cX10_judgeCall 215 = .ok (.iload 6, 2) := by decide +kernel
theorem dX10_judgeCall_217 : decode cX10_judgeCall 217 = .ok (.aload_n 0, 1) := by decide +kernel
theorem dX10_judgeCall_218 : decode cX10_judgeCall 218 = .ok (.getfield 133, 3) := by decide +kernel
theorem dX10_judgeCall_221 : decode cX10_judgeCall 221 = .ok (.aload_n 0, 1) := by decide +kernel
theorem dX10_judgeCall_222 : decode cX10_judgeCall 222 = .ok (.getfield 109, 3) := by decide +kernel
theorem dX10_judgeCall_225 : decode cX10_judgeCall 225 = .ok (.iload 7, 2) := by decide +kernel
theorem dX10_judgeCall_227 : decode cX10_judgeCall 227 = .ok (.iaload, 1) := by decide +kernel
theorem dX10_judgeCall_228 : decode cX10_judgeCall 228 = .ok (.iaload, 1) := by decide +kernel
theorem dX10_judgeCall_229 : decode cX10_judgeCall 229 = .ok (.iastore, 1) := by decide +kernel
theorem dX10_judgeCall_230 : decode cX10_judgeCall 230 = .ok (.aload_n 0, 1) := by decide +kernel
theorem dX10_judgeCall_231 : decode cX10_judgeCall 231 = .ok (.getfield 246, 3) := by decide +kernel
theorem dX10_judgeCall_234 : decode cX10_judgeCall 234 = .ok (.iload 6, 2) := by decide +kernel
theorem dX10_judgeCall_236 : decode cX10_judgeCall 236 = .ok (.aload_n 0, 1) := by decide +kernel
theorem dX10_judgeCall_237 : decode cX10_judgeCall 237 = .ok (.getfield 136, 3) := by decide +kernel
theorem dX10_judgeCall_240 : decode cX10_judgeCall 240 = .ok (.aload_n 0, 1) := by decide +kernel
theorem dX10_judgeCall_241 : decode cX10_judgeCall 241 = .ok (.getfield 109, 3) := by decide +kernel
theorem dX10_judgeCall_244 : decode cX10_judgeCall 244 = .ok (.iload 7, 2) := by decide +kernel
theorem dX10_judgeCall_246 : decode cX10_judgeCall 246 = .ok (.iaload, 1) := by decide +kernel
theorem dX10_judgeCall_247 : decode cX10_judgeCall 247 = .ok (.iaload, 1) := by decide +kernel
theorem dX10_judgeCall_248 : decode cX10_judgeCall 248 = .ok (.iastore, 1) := by decide +kernel
theorem dX10_judgeCall_249 : decode cX10_judgeCall 249 = .ok (.iinc 6 1, 3) := by decide +kernel
theorem dX10_judgeCall_252 : decode cX10_judgeCall 252 = .ok (.aload_n 0, 1) := by decide +kernel
theorem dX10_judgeCall_253 : decode cX10_judgeCall 253 = .ok (.getfield 118, 3) := by decide +kernel
theorem dX10_judgeCall_256 : decode cX10_judgeCall 256 = .ok (.iload 7, 2) := by decide +kernel
theorem dX10_judgeCall_258 : decode cX10_judgeCall 258 = .ok (.iaload, 1) := by decide +kernel
theorem dX10_judgeCall_259 : decode cX10_judgeCall 259 = .ok (.istore 7, 2) := by decide +kernel
theorem dX10_judgeCall_261 : decode cX10_judgeCall 261 = .ok (.goto (-79), 3) := by decide +kernel
theorem dX10_judgeCall_264 : decode cX10_judgeCall 264 = .ok (.aload_n 0, 1) := by decide +kernel
theorem dX10_judgeCall_265 : decode cX10_judgeCall 265 = .ok (.aload_n 0, 1) := by decide +kernel
theorem dX10_judgeCall_266 : decode cX10_judgeCall 266 = .ok (.getfield 152, 3) := by decide +kernel
theorem dX10_judgeCall_269 : decode cX10_judgeCall 269 = .ok (.iload_n 1, 1) := by decide +kernel
theorem dX10_judgeCall_270 : decode cX10_judgeCall 270 = .ok (.laload, 1) := by decide +kernel
theorem dX10_judgeCall_271 : decode cX10_judgeCall 271 = .ok (.iload 4, 2) := by decide +kernel
theorem dX10_judgeCall_273 : decode cX10_judgeCall 273 = .ok (.invokevirtual 594, 3) := by decide +kernel
theorem dX10_judgeCall_276 : decode cX10_judgeCall 276 = .ok (.istore 7, 2) := by decide +kernel
theorem dX10_judgeCall_278 : decode cX10_judgeCall 278 = .ok (.iload 7, 2) := by decide +kernel
theorem dX10_judgeCall_280 : decode cX10_judgeCall 280 = .ok (.ifCond .ge 9, 3) := by decide +kernel
theorem dX10_judgeCall_283 : decode cX10_judgeCall 283 = .ok (.aload_n 0, 1) := by decide +kernel
theorem dX10_judgeCall_284 : decode cX10_judgeCall 284 = .ok (.iload_n 1, 1) := by decide +kernel
theorem dX10_judgeCall_285 : decode cX10_judgeCall 285 = .ok (.invokevirtual 486, 3) := by decide +kernel
theorem dX10_judgeCall_288 : decode cX10_judgeCall 288 = .ok (.return_, 1) := by decide +kernel
theorem dX10_judgeCall_289 : decode cX10_judgeCall 289 = .ok (.aload_n 0, 1) := by decide +kernel
theorem dX10_judgeCall_290 : decode cX10_judgeCall 290 = .ok (.getfield 127, 3) := by decide +kernel
theorem dX10_judgeCall_293 : decode cX10_judgeCall 293 = .ok (.iload_n 1, 1) := by decide +kernel
theorem dX10_judgeCall_294 : decode cX10_judgeCall 294 = .ok (.iload 7, 2) := by decide +kernel
theorem dX10_judgeCall_296 : decode cX10_judgeCall 296 = .ok (.iastore, 1) := by decide +kernel
theorem dX10_judgeCall_297 : decode cX10_judgeCall 297 = .ok (.aload_n 0, 1) := by decide +kernel
theorem dX10_judgeCall_298 : decode cX10_judgeCall 298 = .ok (.getfield 139, 3) := by decide +kernel
theorem dX10_judgeCall_301 : decode cX10_judgeCall 301 = .ok (.iload_n 1, 1) := by decide +kernel
theorem dX10_judgeCall_302 : decode cX10_judgeCall 302 = .ok (.aload_n 0, 1) := by decide +kernel
theorem dX10_judgeCall_303 : decode cX10_judgeCall 303 = .ok (.getfield 170, 3) := by decide +kernel
theorem dX10_judgeCall_306 : decode cX10_judgeCall 306 = .ok (.iload 7, 2) := by decide +kernel
theorem dX10_judgeCall_308 : decode cX10_judgeCall 308 = .ok (.iaload, 1) := by decide +kernel
theorem dX10_judgeCall_309 : decode cX10_judgeCall 309 = .ok (.ifCond .le 10, 3) := by decide +kernel
theorem dX10_judgeCall_312 : decode cX10_judgeCall 312 = .ok (.aload_n 0, 1) := by decide +kernel
theorem dX10_judgeCall_313 : decode cX10_judgeCall 313 = .ok (.getfield 582, 3) := by decide +kernel
theorem dX10_judgeCall_316 : decode cX10_judgeCall 316 = .ok (.goto 5, 3) := by decide +kernel
theorem dX10_judgeCall_319 : decode cX10_judgeCall 319 = .ok (.bipush (-9), 2) := by decide +kernel
theorem dX10_judgeCall_321 : decode cX10_judgeCall 321 = .ok (.iastore, 1) := by decide +kernel
theorem dX10_judgeCall_322 : decode cX10_judgeCall 322 = .ok (.aload_n 0, 1) := by decide +kernel
theorem dX10_judgeCall_323 : decode cX10_judgeCall 323 = .ok (.getfield 142, 3) := by decide +kernel
theorem dX10_judgeCall_326 : decode cX10_judgeCall 326 = .ok (.iload_n 1, 1) := by decide +kernel
theorem dX10_judgeCall_327 : decode cX10_judgeCall 327 = .ok (.aload_n 0, 1) := by decide +kernel
theorem dX10_judgeCall_328 : decode cX10_judgeCall 328 = .ok (.getfield 585, 3) := by decide +kernel
theorem dX10_judgeCall_331 : decode cX10_judgeCall 331 = .ok (.iastore, 1) := by decide +kernel
theorem dX10_judgeCall_332 : decode cX10_judgeCall 332 = .ok (.aload_n 0, 1) := by decide +kernel
theorem dX10_judgeCall_333 : decode cX10_judgeCall 333 = .ok (.getfield 145, 3) := by decide +kernel
theorem dX10_judgeCall_336 : decode cX10_judgeCall 336 = .ok (.iload_n 1, 1) := by decide +kernel
theorem dX10_judgeCall_337 : decode cX10_judgeCall 337 = .ok (.aload_n 0, 1) := by decide +kernel
theorem dX10_judgeCall_338 : decode cX10_judgeCall 338 = .ok (.getfield 588, 3) := by decide +kernel
theorem dX10_judgeCall_341 : decode cX10_judgeCall 341 = .ok (.iastore, 1) := by decide +kernel
theorem dX10_judgeCall_342 : decode cX10_judgeCall 342 = .ok (.aload_n 0, 1) := by decide +kernel
theorem dX10_judgeCall_343 : decode cX10_judgeCall 343 = .ok (.iload 7, 2) := by decide +kernel
theorem dX10_judgeCall_345 : decode cX10_judgeCall 345 = .ok (.iconst (-1), 1) := by decide +kernel
theorem dX10_judgeCall_346 : decode cX10_judgeCall 346 = .ok (.aload_n 0, 1) := by decide +kernel
theorem dX10_judgeCall_347 : decode cX10_judgeCall 347 = .ok (.getfield 139, 3) := by decide +kernel
theorem dX10_judgeCall_350 : decode cX10_judgeCall 350 = .ok (.iload_n 1, 1) := by decide +kernel
theorem dX10_judgeCall_351 : decode cX10_judgeCall 351 = .ok (.iaload, 1) := by decide +kernel
theorem dX10_judgeCall_352 : decode cX10_judgeCall 352 = .ok (.aload_n 0, 1) := by decide +kernel
theorem dX10_judgeCall_353 : decode cX10_judgeCall 353 = .ok (.getfield 585, 3) := by decide +kernel
theorem dX10_judgeCall_356 : decode cX10_judgeCall 356 = .ok (.aload_n 0, 1) := by decide +kernel
theorem dX10_judgeCall_357 : decode cX10_judgeCall 357 = .ok (.getfield 588, 3) := by decide +kernel
theorem dX10_judgeCall_360 : decode cX10_judgeCall 360 = .ok (.invokevirtual 538, 3) := by decide +kernel
theorem dX10_judgeCall_363 : decode cX10_judgeCall 363 = .ok (.ifCond .eq 20, 3) := by decide +kernel
theorem dX10_judgeCall_366 : decode cX10_judgeCall 366 = .ok (.aload_n 0, 1) := by decide +kernel
theorem dX10_judgeCall_367 : decode cX10_judgeCall 367 = .ok (.iload_n 1, 1) := by decide +kernel
theorem dX10_judgeCall_368 : decode cX10_judgeCall 368 = .ok (.aload_n 0, 1) := by decide +kernel
theorem dX10_judgeCall_369 : decode cX10_judgeCall 369 = .ok (.getfield 542, 3) := by decide +kernel
theorem dX10_judgeCall_372 : decode cX10_judgeCall 372 = .ok (.aload_n 0, 1) := by decide +kernel
theorem dX10_judgeCall_373 : decode cX10_judgeCall 373 = .ok (.getfield 545, 3) := by decide +kernel
theorem dX10_judgeCall_376 : decode cX10_judgeCall 376 = .ok (.aload_n 0, 1) := by decide +kernel
theorem dX10_judgeCall_377 : decode cX10_judgeCall 377 = .ok (.getfield 548, 3) := by decide +kernel
theorem dX10_judgeCall_380 : decode cX10_judgeCall 380 = .ok (.invokevirtual 482, 3) := by decide +kernel
theorem dX10_judgeCall_383 : decode cX10_judgeCall 383 = .ok (.return_, 1) := by decide +kernel
/-! AlgebraHouseModel.judgeCall(I)V -/
def P_X10_judgeCall_127 (rec : Nat → List Int → MM → (Int → MM → Prop) → (MM → Prop) → Prop) (Q : Int → MM → Prop) (T : MM → Prop) (K98 : Int → Int → Int → Int → Int → Int → MM → Prop) (x1 : Int) (x2 : Int) (x3 : Int) (x4 : Int) (x6 : Int) (m : MM) : Prop := K98 x1 x2 x3 x4 1 (x6 + 1) m
def P_X10_judgeCall_264 (rec : Nat → List Int → MM → (Int → MM → Prop) → (MM → Prop) → Prop) (Q : Int → MM → Prop) (T : MM → Prop) (x1 : Int) (x4 : Int) (m : MM) : Prop := (0 ≤ x1 ∧ x1 < 12000) ∧ P_X10_meantOf (m 605 x1) x4 m (fun r1 m1 => (RI r1) ∧ (if 0 ≤ r1 then ∀ m2 : MM, m2 = up m1 597 x1 r1 → (0 ≤ r1 ∧ r1 < 21) ∧ ((RI (m2 611 r1))) ∧ ∀ m3 : MM, m3 = up m2 601 x1 (if (m2 611 r1) ≤ 0 then (-9) else (m2 582 81) : Int) → ∀ m4 : MM, m4 = up m3 602 x1 (m3 582 82) → ∀ m5 : MM, m5 = up m4 603 x1 (m4 582 83) → P_X10_instance r1 (-1) (m5 601 x1) (m5 582 82) (m5 582 83) m5 (fun r2 m6 => (RI r2) ∧ (if r2 = 0 then Q 0 m6 else P_X10_setRing x1 (m6 582 70) (m6 582 71) (m6 582 72) m6 (fun r3 m7 => Q 0 m7))) else P_X10_wrong x1 m1 (fun r4 m8 => Q 0 m8)))
def P_X10_judgeCall_182 (rec : Nat → List Int → MM → (Int → MM → Prop) → (MM → Prop) → Prop) (Q : Int → MM → Prop) (T : MM → Prop) : Nat → Int → Int → Int → Int → Int → MM → Prop
  | 0, _, _, _, _, _, _ => False
  | n + 1, x1, x3, x4, x6, x7, m => (RI x7) ∧ (if x7 < 0 then P_X10_judgeCall_264 rec Q T x1 x4 m else (RI x3) ∧ (if 3 < x3 then P_X10_judgeCall_264 rec Q T x1 x4 m else (0 ≤ x7 ∧ x7 < 12000) ∧ (0 ≤ (m 591 x7) ∧ (m 591 x7) < 12000) ∧ (0 ≤ x6 ∧ x6 < 3) ∧ ∀ m1 : MM, m1 = up m 632 x6 (m 598 (m 591 x7)) → (0 ≤ (m1 591 x7) ∧ (m1 591 x7) < 12000) ∧ ∀ m2 : MM, m2 = up m1 633 x6 (m1 599 (m1 591 x7)) → (0 ≤ (m2 591 x7) ∧ (m2 591 x7) < 12000) ∧ ∀ m3 : MM, m3 = up m2 634 x6 (m2 600 (m2 591 x7)) → P_X10_judgeCall_182 rec Q T n x1 x3 x4 (x6 + 1) (m3 594 x7) m3))
def P_X10_judgeCall_156 (rec : Nat → List Int → MM → (Int → MM → Prop) → (MM → Prop) → Prop) (Q : Int → MM → Prop) (T : MM → Prop) (x1 : Int) (x2 : Int) (x3 : Int) (x4 : Int) (x5 : Int) (m : MM) : Prop := (RI x5) ∧ (if x5 = 0 then Q 0 m else (RI x2) ∧ (if x2 = 0 then Q 0 m else ∀ m1 : MM, m1 = up m 582 73 x3 → (0 ≤ x1 ∧ x1 < 12000) ∧ ∃ nn, P_X10_judgeCall_182 rec Q T nn x1 x3 x4 0 (m1 591 x1) m1))
def P_X10_judgeCall_140 (rec : Nat → List Int → MM → (Int → MM → Prop) → (MM → Prop) → Prop) (Q : Int → MM → Prop) (T : MM → Prop) (x1 : Int) (x2 : Int) (x3 : Int) (x4 : Int) (x5 : Int) (m : MM) : Prop := (RI x5) ∧ (if x5 = 0 then (0 ≤ x1 ∧ x1 < 12000) ∧ P_X10_note 3 (m 595 x1) m (fun r1 m1 => P_X10_judgeCall_156 rec Q T x1 x2 x3 x4 x5 m1) else P_X10_judgeCall_156 rec Q T x1 x2 x3 x4 x5 m)
def P_X10_judgeCall_98 (rec : Nat → List Int → MM → (Int → MM → Prop) → (MM → Prop) → Prop) (Q : Int → MM → Prop) (T : MM → Prop) : Nat → Int → Int → Int → Int → Int → Int → MM → Prop
  | 0, _, _, _, _, _, _, _ => False
  | n + 1, x1, x2, x3, x4, x5, x6, m => (RI x6) ∧ (RI x4) ∧ (if x4 ≤ x6 then P_X10_judgeCall_140 rec Q T x1 x2 x3 x4 x5 m else (RI x5) ∧ (if x5 = 0 then (0 ≤ x6 ∧ x6 < 21) ∧ (0 ≤ x1 ∧ x1 < 12000) ∧ (RL (m 606 x6)) ∧ (RL (m 605 x1)) ∧ (if (m 606 x6) = (m 605 x1) then P_X10_judgeCall_127 rec Q T (fun z0 z1 z2 z3 z4 z5 z6 => P_X10_judgeCall_98 rec Q T n z0 z1 z2 z3 z4 z5 z6) x1 x2 x3 x4 x6 m else P_X10_judgeCall_98 rec Q T n x1 x2 x3 x4 0 (x6 + 1) m) else P_X10_judgeCall_127 rec Q T (fun z0 z1 z2 z3 z4 z5 z6 => P_X10_judgeCall_98 rec Q T n z0 z1 z2 z3 z4 z5 z6) x1 x2 x3 x4 x6 m))
def P_X10_judgeCall_70 (rec : Nat → List Int → MM → (Int → MM → Prop) → (MM → Prop) → Prop) (Q : Int → MM → Prop) (T : MM → Prop) (x1 : Int) (x2 : Int) (x3 : Int) (m : MM) : Prop := ((RI (m 582 61))) ∧ ∃ nn, P_X10_judgeCall_98 rec Q T nn x1 x2 x3 (if (m 582 61) < 0 then (m 582 32) else ((m 582 61) + 1) : Int) 0 0 m
def P_X10_judgeCall_12 (rec : Nat → List Int → MM → (Int → MM → Prop) → (MM → Prop) → Prop) (Q : Int → MM → Prop) (T : MM → Prop) : Nat → Int → Int → Int → Int → MM → Prop
  | 0, _, _, _, _, _ => False
  | n + 1, x1, x2, x3, x4, m => (RI x4) ∧ (if x4 < 0 then P_X10_judgeCall_70 rec Q T x1 x2 x3 m else (0 ≤ x4 ∧ x4 < 12000) ∧ rec 0 [(m 591 x4)] m (fun r1 m1 => ((RI x2) ∧ (if x2 = 0 then True else ((0 ≤ (m1 591 x4) ∧ (m1 591 x4) < 12000) ∧ (RI (m1 598 (m1 591 x4)))))) ∧ P_X10_judgeCall_12 rec Q T n x1 (if x2 = 0 then 0 else (if (m1 598 (m1 591 x4)) = (-9) then 0 else 1 : Int) : Int) (x3 + 1) (m1 594 x4) m1) T)
def W_X10_judgeCall (rec : Nat → List Int → MM → (Int → MM → Prop) → (MM → Prop) → Prop) (x1 : Int) (m : MM) (Q : Int → MM → Prop) (T : MM → Prop) : Prop := (0 ≤ x1 ∧ x1 < 12000) ∧ ∃ nn, P_X10_judgeCall_12 rec Q T nn x1 1 0 (m 591 x1) m
theorem dX10_judgeLeft_0 : decode cX10_judgeLeft 0 = .ok (.aload_n 0, 1) := by decide +kernel
theorem dX10_judgeLeft_1 : decode cX10_judgeLeft 1 = .ok (.getfield 109, 3) := by decide +kernel
theorem dX10_judgeLeft_4 : decode cX10_judgeLeft 4 = .ok (.iload_n 1, 1) := by decide +kernel
theorem dX10_judgeLeft_5 : decode cX10_judgeLeft 5 = .ok (.iaload, 1) := by decide +kernel
theorem dX10_judgeLeft_6 : decode cX10_judgeLeft 6 = .ok (.istore_n 2, 1) := by decide +kernel
theorem dX10_judgeLeft_7 : decode cX10_judgeLeft 7 = .ok (.aload_n 0, 1) := by decide +kernel
theorem dX10_judgeLeft_8 : decode cX10_judgeLeft 8 = .ok (.getfield 112, 3) := by decide +kernel
theorem dX10_judgeLeft_11 : decode cX10_judgeLeft 11 = .ok (.iload_n 1, 1) := by decide +kernel
theorem dX10_judgeLeft_12 : decode cX10_judgeLeft 12 = .ok (.iaload, 1) := by decide +kernel
theorem dX10_judgeLeft_13 : decode cX10_judgeLeft 13 = .ok (.istore_n 3, 1) := by decide +kernel
theorem dX10_judgeLeft_14 : decode cX10_judgeLeft 14 = .ok (.aload_n 0, 1) := by decide +kernel
theorem dX10_judgeLeft_15 : decode cX10_judgeLeft 15 = .ok (.getfield 115, 3) := by decide +kernel
theorem dX10_judgeLeft_18 : decode cX10_judgeLeft 18 = .ok (.iload_n 1, 1) := by decide +kernel
theorem dX10_judgeLeft_19 : decode cX10_judgeLeft 19 = .ok (.iaload, 1) := by decide +kernel
theorem dX10_judgeLeft_20 : decode cX10_judgeLeft 20 = .ok (.istore 4, 2) := by decide +kernel
theorem dX10_judgeLeft_22 : decode cX10_judgeLeft 22 = .ok (.iload_n 3, 1) := by decide +kernel
theorem dX10_judgeLeft_23 : decode cX10_judgeLeft 23 = .ok (.ifCond .lt 8, 3) := by decide +kernel
theorem dX10_judgeLeft_26 : decode cX10_judgeLeft 26 = .ok (.aload_n 0, 1) := by decide +kernel
theorem dX10_judgeLeft_27 : decode cX10_judgeLeft 27 = .ok (.iload_n 3, 1) := by decide +kernel
theorem dX10_judgeLeft_28 : decode cX10_judgeLeft 28 = .ok (.invokevirtual 476, 3) := by decide +kernel
theorem dX10_judgeLeft_31 : decode cX10_judgeLeft 31 = .ok (.iload 4, 2) := by decide +kernel
theorem dX10_judgeLeft_33 : decode cX10_judgeLeft 33 = .ok (.ifCond .lt 9, 3) := by decide +kernel
theorem dX10_judgeLeft_36 : decode cX10_judgeLeft 36 = .ok (.aload_n 0, 1) := by decide +kernel
theorem dX10_judgeLeft_37 : decode cX10_judgeLeft 37 = .ok (.iload 4, 2) := by decide +kernel
theorem dX10_judgeLeft_39 : decode cX10_judgeLeft 39 = .ok (.invokevirtual 479, 3) := by decide +kernel
theorem dX10_judgeLeft_42 : decode cX10_judgeLeft 42 = .ok (.aload_n 0, 1) := by decide +kernel
theorem dX10_judgeLeft_43 : decode cX10_judgeLeft 43 = .ok (.getfield 130, 3) := by decide +kernel
theorem dX10_judgeLeft_46 : decode cX10_judgeLeft 46 = .ok (.iload_n 1, 1) := by decide +kernel
theorem dX10_judgeLeft_47 : decode cX10_judgeLeft 47 = .ok (.bipush (-9), 2) := by decide +kernel
theorem dX10_judgeLeft_49 : decode cX10_judgeLeft 49 = .ok (.iastore, 1) := by decide +kernel
theorem dX10_judgeLeft_50 : decode cX10_judgeLeft 50 = .ok (.aload_n 0, 1) := by decide +kernel
theorem dX10_judgeLeft_51 : decode cX10_judgeLeft 51 = .ok (.getfield 130, 3) := by decide +kernel
theorem dX10_judgeLeft_54 : decode cX10_judgeLeft 54 = .ok (.iload_n 2, 1) := by decide +kernel
theorem dX10_judgeLeft_55 : decode cX10_judgeLeft 55 = .ok (.iaload, 1) := by decide +kernel
theorem dX10_judgeLeft_56 : decode cX10_judgeLeft 56 = .ok (.bipush (-9), 2) := by decide +kernel
theorem dX10_judgeLeft_58 : decode cX10_judgeLeft 58 = .ok (.if_icmp .eq 35, 3) := by decide +kernel
theorem dX10_judgeLeft_61 : decode cX10_judgeLeft 61 = .ok (.iload_n 3, 1) := by decide +kernel
theorem dX10_judgeLeft_62 : decode cX10_judgeLeft 62 = .ok (.ifCond .lt 14, 3) := by decide +kernel
theorem dX10_judgeLeft_65 : decode cX10_judgeLeft 65 = .ok (.aload_n 0, 1) := by decide +kernel
theorem dX10_judgeLeft_66 : decode cX10_judgeLeft 66 = .ok (.getfield 130, 3) := by decide +kernel
theorem dX10_judgeLeft_69 : decode cX10_judgeLeft 69 = .ok (.iload_n 3, 1) := by decide +kernel
theorem dX10_judgeLeft_70 : decode cX10_judgeLeft 70 = .ok (.iaload, 1) := by decide +kernel
theorem dX10_judgeLeft_71 : decode cX10_judgeLeft 71 = .ok (.bipush (-9), 2) := by decide +kernel
theorem dX10_judgeLeft_73 : decode cX10_judgeLeft 73 = .ok (.if_icmp .eq 20, 3) := by decide +kernel
theorem dX10_judgeLeft_76 : decode cX10_judgeLeft 76 = .ok (.iload 4, 2) := by decide +kernel
theorem dX10_judgeLeft_78 : decode cX10_judgeLeft 78 = .ok (.ifCond .lt 16, 3) := by decide +kernel
theorem dX10_judgeLeft_81 : decode cX10_judgeLeft 81 = .ok (.aload_n 0, 1) := by decide +kernel
theorem dX10_judgeLeft_82 : decode cX10_judgeLeft 82 = .ok (.getfield 130, 3) := by decide +kernel
theorem dX10_judgeLeft_85 : decode cX10_judgeLeft 85 = .ok (.iload 4, 2) := by decide +kernel
theorem dX10_judgeLeft_87 : decode cX10_judgeLeft 87 = .ok (.iaload, 1) := by decide +kernel
theorem dX10_judgeLeft_88 : decode cX10_judgeLeft 88 = .ok (.bipush (-9), 2) := by decide +kernel
theorem dX10_judgeLeft_90 : decode cX10_judgeLeft 90 = .ok (.if_icmp .ne 4, 3) := by decide +kernel
theorem dX10_judgeLeft_93 : decode cX10_judgeLeft 93 = .ok (.return_, 1) := by decide +kernel
theorem dX10_judgeLeft_94 : decode cX10_judgeLeft 94 = .ok (.aload_n 0, 1) := by decide +kernel
theorem dX10_judgeLeft_95 : decode cX10_judgeLeft 95 = .ok (.getfield 106, 3) := by decide +kernel
theorem dX10_judgeLeft_98 : decode cX10_judgeLeft 98 = .ok (.iload_n 1, 1) := by decide +kernel
theorem dX10_judgeLeft_99 : decode cX10_judgeLeft 99 = .ok (.iaload, 1) := by decide +kernel
theorem dX10_judgeLeft_100 : decode cX10_judgeLeft 100 = .ok (.tableswitch 527 11 24 #[72, 72, 114, 114, 143, 143, 201, 201, 201, 247, 342, 342, 386, 444], 72) := by decide +kernel
theorem dX10_judgeLeft_172 : decode cX10_judgeLeft 172 = .ok (.aload_n 0, 1) := by decide +kernel
theorem dX10_judgeLeft_173 : decode cX10_judgeLeft 173 = .ok (.getfield 130, 3) := by decide +kernel
theorem dX10_judgeLeft_176 : decode cX10_judgeLeft 176 = .ok (.iload_n 2, 1) := by decide +kernel
theorem dX10_judgeLeft_177 : decode cX10_judgeLeft 177 = .ok (.iaload, 1) := by decide +kernel
theorem dX10_judgeLeft_178 : decode cX10_judgeLeft 178 = .ok (.bipush (-2), 2) := by decide +kernel
theorem dX10_judgeLeft_180 : decode cX10_judgeLeft 180 = .ok (.if_icmp .ne 26, 3) := by decide +kernel
theorem dX10_judgeLeft_183 : decode cX10_judgeLeft 183 = .ok (.aload_n 0, 1) := by decide +kernel
theorem dX10_judgeLeft_184 : decode cX10_judgeLeft 184 = .ok (.getfield 130, 3) := by decide +kernel
theorem dX10_judgeLeft_187 : decode cX10_judgeLeft 187 = .ok (.iload_n 3, 1) := by decide +kernel
theorem dX10_judgeLeft_188 : decode cX10_judgeLeft 188 = .ok (.iaload, 1) := by decide +kernel
theorem dX10_judgeLeft_189 : decode cX10_judgeLeft 189 = .ok (.bipush (-2), 2) := by decide +kernel
theorem dX10_judgeLeft_191 : decode cX10_judgeLeft 191 = .ok (.if_icmp .ne 15, 3) := by decide +kernel
theorem dX10_judgeLeft_194 : decode cX10_judgeLeft 194 = .ok (.aload_n 0, 1) := by decide +kernel
theorem dX10_judgeLeft_195 : decode cX10_judgeLeft 195 = .ok (.iload_n 1, 1) := by decide +kernel
theorem dX10_judgeLeft_196 : decode cX10_judgeLeft 196 = .ok (.bipush (-2), 2) := by decide +kernel
theorem dX10_judgeLeft_198 : decode cX10_judgeLeft 198 = .ok (.iconst 0, 1) := by decide +kernel
theorem dX10_judgeLeft_199 : decode cX10_judgeLeft 199 = .ok (.iconst 0, 1) := by decide +kernel
theorem dX10_judgeLeft_200 : decode cX10_judgeLeft 200 = .ok (.invokevirtual 482, 3) := by decide +kernel
theorem dX10_judgeLeft_203 : decode cX10_judgeLeft 203 = .ok (.goto 504, 3) := by decide +kernel
theorem dX10_judgeLeft_206 : decode cX10_judgeLeft 206 = .ok (.aload_n 0, 1) := by decide +kernel
theorem dX10_judgeLeft_207 : decode cX10_judgeLeft 207 = .ok (.iload_n 1, 1) := by decide +kernel
theorem dX10_judgeLeft_208 : decode cX10_judgeLeft 208 = .ok (.invokevirtual 486, 3) := by decide +kernel
theorem dX10_judgeLeft_211 : decode cX10_judgeLeft 211 = .ok (.goto 496, 3) := by decide +kernel
theorem dX10_judgeLeft_214 : decode cX10_judgeLeft 214 = .ok (.aload_n 0, 1) := by decide +kernel
theorem dX10_judgeLeft_215 : decode cX10_judgeLeft 215 = .ok (.iload_n 2, 1) := by decide +kernel
theorem dX10_judgeLeft_216 : decode cX10_judgeLeft 216 = .ok (.iload_n 3, 1) := by decide +kernel
theorem dX10_judgeLeft_217 : decode cX10_judgeLeft 217 = .ok (.invokevirtual 489, 3) := by decide +kernel
theorem dX10_judgeLeft_220 : decode cX10_judgeLeft 220 = .ok (.ifCond .eq 15, 3) := by decide +kernel
theorem dX10_judgeLeft_223 : decode cX10_judgeLeft 223 = .ok (.aload_n 0, 1) := by decide +kernel
theorem dX10_judgeLeft_224 : decode cX10_judgeLeft 224 = .ok (.iload_n 1, 1) := by decide +kernel
theorem dX10_judgeLeft_225 : decode cX10_judgeLeft 225 = .ok (.bipush (-2), 2) := by decide +kernel
theorem dX10_judgeLeft_227 : decode cX10_judgeLeft 227 = .ok (.iconst 0, 1) := by decide +kernel
theorem dX10_judgeLeft_228 : decode cX10_judgeLeft 228 = .ok (.iconst 0, 1) := by decide +kernel
theorem dX10_judgeLeft_229 : decode cX10_judgeLeft 229 = .ok (.invokevirtual 482, 3) := by decide +kernel
theorem dX10_judgeLeft_232 : decode cX10_judgeLeft 232 = .ok (.goto 475, 3) := by decide +kernel
theorem dX10_judgeLeft_235 : decode cX10_judgeLeft 235 = .ok (.aload_n 0, 1) := by decide +kernel
theorem dX10_judgeLeft_236 : decode cX10_judgeLeft 236 = .ok (.iload_n 1, 1) := by decide +kernel
theorem dX10_judgeLeft_237 : decode cX10_judgeLeft 237 = .ok (.invokevirtual 486, 3) := by decide +kernel
theorem dX10_judgeLeft_240 : decode cX10_judgeLeft 240 = .ok (.goto 467, 3) := by decide +kernel
theorem dX10_judgeLeft_243 : decode cX10_judgeLeft 243 = .ok (.aload_n 0, 1) := by decide +kernel
theorem dX10_judgeLeft_244 : decode cX10_judgeLeft 244 = .ok (.iload_n 2, 1) := by decide +kernel
theorem dX10_judgeLeft_245 : decode cX10_judgeLeft 245 = .ok (.iload_n 3, 1) := by decide +kernel
theorem dX10_judgeLeft_246 : decode cX10_judgeLeft 246 = .ok (.invokevirtual 489, 3) := by decide +kernel
theorem dX10_judgeLeft_249 : decode cX10_judgeLeft 249 = .ok (.ifCond .eq 44, 3) := by decide +kernel
theorem dX10_judgeLeft_252 : decode cX10_judgeLeft 252 = .ok (.aload_n 0, 1) := by decide +kernel
theorem dX10_judgeLeft_253 : decode cX10_judgeLeft 253 = .ok (.getfield 442, 3) := by decide +kernel
theorem dX10_judgeLeft_256 : decode cX10_judgeLeft 256 = .ok (.ifCond .eq 11, 3) := by decide +kernel
theorem dX10_judgeLeft_259 : decode cX10_judgeLeft 259 = .ok (.aload_n 0, 1) := by decide +kernel
theorem dX10_judgeLeft_260 : decode cX10_judgeLeft 260 = .ok (.getfield 442, 3) := by decide +kernel
theorem dX10_judgeLeft_263 : decode cX10_judgeLeft 263 = .ok (.iconst 1, 1) := by decide +kernel
theorem dX10_judgeLeft_264 : decode cX10_judgeLeft 264 = .ok (.if_icmp .ne 29, 3) := by decide +kernel
theorem dX10_judgeLeft_267 : decode cX10_judgeLeft 267 = .ok (.aload_n 0, 1) := by decide +kernel
theorem dX10_judgeLeft_268 : decode cX10_judgeLeft 268 = .ok (.getfield 450, 3) := by decide +kernel
theorem dX10_judgeLeft_271 : decode cX10_judgeLeft 271 = .ok (.ifCond .ne 22, 3) := by decide +kernel
theorem dX10_judgeLeft_274 : decode cX10_judgeLeft 274 = .ok (.aload_n 0, 1) := by decide +kernel
theorem dX10_judgeLeft_275 : decode cX10_judgeLeft 275 = .ok (.getfield 453, 3) := by decide +kernel
theorem dX10_judgeLeft_278 : decode cX10_judgeLeft 278 = .ok (.ifCond .ne 15, 3) := by decide +kernel
theorem dX10_judgeLeft_281 : decode cX10_judgeLeft 281 = .ok (.aload_n 0, 1) := by decide +kernel
theorem dX10_judgeLeft_282 : decode cX10_judgeLeft 282 = .ok (.iload_n 1, 1) := by decide +kernel
theorem dX10_judgeLeft_283 : decode cX10_judgeLeft 283 = .ok (.bipush (-2), 2) := by decide +kernel
theorem dX10_judgeLeft_285 : decode cX10_judgeLeft 285 = .ok (.iconst 0, 1) := by decide +kernel
theorem dX10_judgeLeft_286 : decode cX10_judgeLeft 286 = .ok (.iconst 0, 1) := by decide +kernel
theorem dX10_judgeLeft_287 : decode cX10_judgeLeft 287 = .ok (.invokevirtual 482, 3) := by decide +kernel
theorem dX10_judgeLeft_290 : decode cX10_judgeLeft 290 = .ok (.goto 417, 3) := by decide +kernel
theorem dX10_judgeLeft_293 : decode cX10_judgeLeft 293 = .ok (.aload_n 0, 1) := by decide +kernel
theorem dX10_judgeLeft_294 : decode cX10_judgeLeft 294 = .ok (.iload_n 1, 1) := by decide +kernel
theorem dX10_judgeLeft_295 : decode cX10_judgeLeft 295 = .ok (.invokevirtual 486, 3) := by decide +kernel
theorem dX10_judgeLeft_298 : decode cX10_judgeLeft 298 = .ok (.goto 409, 3) := by decide +kernel
theorem dX10_judgeLeft_301 : decode cX10_judgeLeft 301 = .ok (.aload_n 0, 1) := by decide +kernel
theorem dX10_judgeLeft_302 : decode cX10_judgeLeft 302 = .ok (.iload_n 2, 1) := by decide +kernel
theorem dX10_judgeLeft_303 : decode cX10_judgeLeft 303 = .ok (.iload_n 3, 1) := by decide +kernel
theorem dX10_judgeLeft_304 : decode cX10_judgeLeft 304 = .ok (.invokevirtual 489, 3) := by decide +kernel
theorem dX10_judgeLeft_307 : decode cX10_judgeLeft 307 = .ok (.ifCond .eq 32, 3) := by decide +kernel
theorem dX10_judgeLeft_310 : decode cX10_judgeLeft 310 = .ok (.aload_n 0, 1) := by decide +kernel
theorem dX10_judgeLeft_311 : decode cX10_judgeLeft 311 = .ok (.getfield 442, 3) := by decide +kernel
theorem dX10_judgeLeft_314 : decode cX10_judgeLeft 314 = .ok (.bipush (-2), 2) := by decide +kernel
theorem dX10_judgeLeft_316 : decode cX10_judgeLeft 316 = .ok (.if_icmp .eq 23, 3) := by decide +kernel
theorem dX10_judgeLeft_319 : decode cX10_judgeLeft 319 = .ok (.aload_n 0, 1) := by decide +kernel
theorem dX10_judgeLeft_320 : decode cX10_judgeLeft 320 = .ok (.iload_n 1, 1) := by decide +kernel
theorem dX10_judgeLeft_321 : decode cX10_judgeLeft 321 = .ok (.aload_n 0, 1) := by decide +kernel
theorem dX10_judgeLeft_322 : decode cX10_judgeLeft 322 = .ok (.getfield 442, 3) := by decide +kernel
theorem dX10_judgeLeft_325 : decode cX10_judgeLeft 325 = .ok (.aload_n 0, 1) := by decide +kernel
theorem dX10_judgeLeft_326 : decode cX10_judgeLeft 326 = .ok (.getfield 450, 3) := by decide +kernel
theorem dX10_judgeLeft_329 : decode cX10_judgeLeft 329 = .ok (.aload_n 0, 1) := by decide +kernel
theorem dX10_judgeLeft_330 : decode cX10_judgeLeft 330 = .ok (.getfield 453, 3) := by decide +kernel
theorem dX10_judgeLeft_333 : decode cX10_judgeLeft 333 = .ok (.invokevirtual 482, 3) := by decide +kernel
theorem dX10_judgeLeft_336 : decode cX10_judgeLeft 336 = .ok (.goto 371, 3) := by decide +kernel
theorem dX10_judgeLeft_339 : decode cX10_judgeLeft 339 = .ok (.aload_n 0, 1) := by decide +kernel
theorem dX10_judgeLeft_340 : decode cX10_judgeLeft 340 = .ok (.iload_n 1, 1) := by decide +kernel
theorem dX10_judgeLeft_341 : decode cX10_judgeLeft 341 = .ok (.invokevirtual 486, 3) := by decide +kernel
theorem dX10_judgeLeft_344 : decode cX10_judgeLeft 344 = .ok (.goto 363, 3) := by decide +kernel
theorem dX10_judgeLeft_347 : decode cX10_judgeLeft 347 = .ok (.aload_n 0, 1) := by decide +kernel
theorem dX10_judgeLeft_348 : decode cX10_judgeLeft 348 = .ok (.getfield 133, 3) := by decide +kernel
theorem dX10_judgeLeft_351 : decode cX10_judgeLeft 351 = .ok (.iload_n 3, 1) := by decide +kernel
theorem dX10_judgeLeft_352 : decode cX10_judgeLeft 352 = .ok (.iaload, 1) := by decide +kernel
theorem dX10_judgeLeft_353 : decode cX10_judgeLeft 353 = .ok (.ifCond .ne 81, 3) := by decide +kernel
theorem dX10_judgeLeft_356 : decode cX10_judgeLeft 356 = .ok (.aload_n 0, 1) := by decide +kernel
theorem dX10_judgeLeft_357 : decode cX10_judgeLeft 357 = .ok (.getfield 136, 3) := by decide +kernel
theorem dX10_judgeLeft_360 : decode cX10_judgeLeft 360 = .ok (.iload_n 3, 1) := by decide +kernel
theorem dX10_judgeLeft_361 : decode cX10_judgeLeft 361 = .ok (.iaload, 1) := by decide +kernel
theorem dX10_judgeLeft_362 : decode cX10_judgeLeft 362 = .ok (.ifCond .ne 72, 3) := by decide +kernel
theorem dX10_judgeLeft_365 : decode cX10_judgeLeft 365 = .ok (.aload_n 0, 1) := by decide +kernel
theorem dX10_judgeLeft_366 : decode cX10_judgeLeft 366 = .ok (.getfield 130, 3) := by decide +kernel
theorem dX10_judgeLeft_369 : decode cX10_judgeLeft 369 = .ok (.iload_n 3, 1) := by decide +kernel
theorem dX10_judgeLeft_370 : decode cX10_judgeLeft 370 = .ok (.iaload, 1) := by decide +kernel
theorem dX10_judgeLeft_371 : decode cX10_judgeLeft 371 = .ok (.bipush (-2), 2) := by decide +kernel
theorem dX10_judgeLeft_373 : decode cX10_judgeLeft 373 = .ok (.if_icmp .eq 61, 3) := by decide +kernel
theorem dX10_judgeLeft_376 : decode cX10_judgeLeft 376 = .ok (.aload_n 0, 1) := by decide +kernel
theorem dX10_judgeLeft_377 : decode cX10_judgeLeft 377 = .ok (.iload_n 2, 1) := by decide +kernel
theorem dX10_judgeLeft_378 : decode cX10_judgeLeft 378 = .ok (.iload_n 3, 1) := by decide +kernel
theorem dX10_judgeLeft_379 : decode cX10_judgeLeft 379 = .ok (.invokevirtual 489, 3) := by decide +kernel
theorem dX10_judgeLeft_382 : decode cX10_judgeLeft 382 = .ok (.ifCond .eq 52, 3) := by decide +kernel
theorem dX10_judgeLeft_385 : decode cX10_judgeLeft 385 = .ok (.aload_n 0, 1) := by decide +kernel
theorem dX10_judgeLeft_386 : decode cX10_judgeLeft 386 = .ok (.getfield 442, 3) := by decide +kernel
theorem dX10_judgeLeft_389 : decode cX10_judgeLeft 389 = .ok (.iconst 2, 1) := by decide +kernel
theorem dX10_judgeLeft_390 : decode cX10_judgeLeft 390 = .ok (.if_icmp .lt 13, 3) := by decide +kernel
theorem dX10_judgeLeft_393 : decode cX10_judgeLeft 393 = .ok (.aload_n 0, 1) := by decide +kernel
theorem dX10_judgeLeft_394 : decode cX10_judgeLeft 394 = .ok (.getfield 442, 3) := by decide +kernel
theorem dX10_judgeLeft_397 : decode cX10_judgeLeft 397 = .ok (.invokestatic 493, 3) := by decide +kernel
theorem dX10_judgeLeft_400 : decode cX10_judgeLeft 400 = .ok (.ifCond .eq 34, 3) := by decide +kernel
theorem dX10_judgeLeft_403 : decode cX10_judgeLeft 403 = .ok (.aload_n 0, 1) := by decide +kernel
theorem dX10_judgeLeft_404 : decode cX10_judgeLeft 404 = .ok (.iload_n 1, 1) := by decide +kernel
theorem dX10_judgeLeft_405 : decode cX10_judgeLeft 405 = .ok (.aload_n 0, 1) := by decide +kernel
theorem dX10_judgeLeft_406 : decode cX10_judgeLeft 406 = .ok (.getfield 442, 3) := by decide +kernel
theorem dX10_judgeLeft_409 : decode cX10_judgeLeft 409 = .ok (.ifCond .ne 7, 3) := by decide +kernel
theorem dX10_judgeLeft_412 : decode cX10_judgeLeft 412 = .ok (.iconst 1, 1) := by decide +kernel
theorem dX10_judgeLeft_413 : decode cX10_judgeLeft 413 = .ok (.goto 7, 3) := by decide +kernel
theorem dX10_judgeLeft_416 : decode cX10_judgeLeft 416 = .ok (.aload_n 0, 1) := by decide +kernel
theorem dX10_judgeLeft_417 : decode cX10_judgeLeft 417 = .ok (.getfield 442, 3) := by decide +kernel
theorem dX10_judgeLeft_420 : decode cX10_judgeLeft 420 = .ok (.aload_n 0, 1) := by decide +kernel
theorem dX10_judgeLeft_421 : decode cX10_judgeLeft 421 = .ok (.getfield 450, 3) := by decide +kernel
theorem dX10_judgeLeft_424 : decode cX10_judgeLeft 424 = .ok (.aload_n 0, 1) := by decide +kernel
theorem dX10_judgeLeft_425 : decode cX10_judgeLeft 425 = .ok (.getfield 453, 3) := by decide +kernel
theorem dX10_judgeLeft_428 : decode cX10_judgeLeft 428 = .ok (.invokevirtual 482, 3) := by decide +kernel
theorem dX10_judgeLeft_431 : decode cX10_judgeLeft 431 = .ok (.goto 276, 3) := by decide +kernel
theorem dX10_judgeLeft_434 : decode cX10_judgeLeft 434 = .ok (.aload_n 0, 1) := by decide +kernel
theorem dX10_judgeLeft_435 : decode cX10_judgeLeft 435 = .ok (.iload_n 1, 1) := by decide +kernel
theorem dX10_judgeLeft_436 : decode cX10_judgeLeft 436 = .ok (.invokevirtual 486, 3) := by decide +kernel
theorem dX10_judgeLeft_439 : decode cX10_judgeLeft 439 = .ok (.goto 268, 3) := by decide +kernel
theorem dX10_judgeLeft_442 : decode cX10_judgeLeft 442 = .ok (.aload_n 0, 1) := by decide +kernel
theorem dX10_judgeLeft_443 : decode cX10_judgeLeft 443 = .ok (.iload_n 2, 1) := by decide +kernel
theorem dX10_judgeLeft_444 : decode cX10_judgeLeft 444 = .ok (.iload_n 3, 1) := by decide +kernel
theorem dX10_judgeLeft_445 : decode cX10_judgeLeft 445 = .ok (.invokevirtual 489, 3) := by decide +kernel
theorem dX10_judgeLeft_448 : decode cX10_judgeLeft 448 = .ok (.ifCond .eq 30, 3) := by decide +kernel
theorem dX10_judgeLeft_451 : decode cX10_judgeLeft 451 = .ok (.aload_n 0, 1) := by decide +kernel
theorem dX10_judgeLeft_452 : decode cX10_judgeLeft 452 = .ok (.invokevirtual 496, 3) := by decide +kernel
theorem dX10_judgeLeft_455 : decode cX10_judgeLeft 455 = .ok (.ifCond .eq 23, 3) := by decide +kernel
theorem dX10_judgeLeft_458 : decode cX10_judgeLeft 458 = .ok (.aload_n 0, 1) := by decide +kernel
theorem dX10_judgeLeft_459 : decode cX10_judgeLeft 459 = .ok (.iload_n 1, 1) := by decide +kernel
theorem dX10_judgeLeft_460 : decode cX10_judgeLeft 460 = .ok (.aload_n 0, 1) := by decide +kernel
theorem dX10_judgeLeft_461 : decode cX10_judgeLeft 461 = .ok (.getfield 442, 3) := by decide +kernel
theorem dX10_judgeLeft_464 : decode cX10_judgeLeft 464 = .ok (.aload_n 0, 1) := by decide +kernel
theorem dX10_judgeLeft_465 : decode cX10_judgeLeft 465 = .ok (.getfield 450, 3) := by decide +kernel
theorem dX10_judgeLeft_468 : decode cX10_judgeLeft 468 = .ok (.aload_n 0, 1) := by decide +kernel
theorem dX10_judgeLeft_469 : decode cX10_judgeLeft 469 = .ok (.getfield 453, 3) := by decide +kernel
theorem dX10_judgeLeft_472 : decode cX10_judgeLeft 472 = .ok (.invokevirtual 482, 3) := by decide +kernel
theorem dX10_judgeLeft_475 : decode cX10_judgeLeft 475 = .ok (.goto 232, 3) := by decide +kernel
theorem dX10_judgeLeft_478 : decode cX10_judgeLeft 478 = .ok (.aload_n 0, 1) := by decide +kernel
theorem dX10_judgeLeft_479 : decode cX10_judgeLeft 479 = .ok (.iload_n 1, 1) := by decide +kernel
theorem dX10_judgeLeft_480 : decode cX10_judgeLeft 480 = .ok (.invokevirtual 486, 3) := by decide +kernel
theorem dX10_judgeLeft_483 : decode cX10_judgeLeft 483 = .ok (.goto 224, 3) := by decide +kernel
theorem dX10_judgeLeft_486 : decode cX10_judgeLeft 486 = .ok (.aload_n 0, 1) := by decide +kernel
theorem dX10_judgeLeft_487 : decode cX10_judgeLeft 487 = .ok (.getfield 130, 3) := by decide +kernel
theorem dX10_judgeLeft_490 : decode cX10_judgeLeft 490 = .ok (.iload_n 2, 1) := by decide +kernel
theorem dX10_judgeLeft_491 : decode cX10_judgeLeft 491 = .ok (.iaload, 1) := by decide +kernel
theorem dX10_judgeLeft_492 : decode cX10_judgeLeft 492 = .ok (.bipush (-2), 2) := by decide +kernel
theorem dX10_judgeLeft_494 : decode cX10_judgeLeft 494 = .ok (.if_icmp .eq 42, 3) := by decide +kernel
theorem dX10_judgeLeft_497 : decode cX10_judgeLeft 497 = .ok (.aload_n 0, 1) := by decide +kernel
theorem dX10_judgeLeft_498 : decode cX10_judgeLeft 498 = .ok (.getfield 152, 3) := by decide +kernel
theorem dX10_judgeLeft_501 : decode cX10_judgeLeft 501 = .ok (.iload_n 1, 1) := by decide +kernel
theorem dX10_judgeLeft_502 : decode cX10_judgeLeft 502 = .ok (.laload, 1) := by decide +kernel
theorem dX10_judgeLeft_503 : decode cX10_judgeLeft 503 = .ok (.ldc2_w 500, 3) := by decide +kernel
theorem dX10_judgeLeft_506 : decode cX10_judgeLeft 506 = .ok (.lcmp, 1) := by decide +kernel
theorem dX10_judgeLeft_507 : decode cX10_judgeLeft 507 = .ok (.ifCond .gt 29, 3) := by decide +kernel
theorem dX10_judgeLeft_510 : decode cX10_judgeLeft 510 = .ok (.aload_n 0, 1) := by decide +kernel
theorem dX10_judgeLeft_511 : decode cX10_judgeLeft 511 = .ok (.iload_n 1, 1) := by decide +kernel
theorem dX10_judgeLeft_512 : decode cX10_judgeLeft 512 = .ok (.aload_n 0, 1) := by decide +kernel
theorem dX10_judgeLeft_513 : decode cX10_judgeLeft 513 = .ok (.getfield 130, 3) := by decide +kernel
theorem dX10_judgeLeft_516 : decode cX10_judgeLeft 516 = .ok (.iload_n 2, 1) := by decide +kernel
theorem dX10_judgeLeft_517 : decode cX10_judgeLeft 517 = .ok (.iaload, 1) := by decide +kernel
theorem dX10_judgeLeft_518 : decode cX10_judgeLeft 518 = .ok (.aload_n 0, 1) := by decide +kernel
theorem dX10_judgeLeft_519 : decode cX10_judgeLeft 519 = .ok (.getfield 133, 3) := by decide +kernel
theorem dX10_judgeLeft_522 : decode cX10_judgeLeft 522 = .ok (.iload_n 2, 1) := by decide +kernel
theorem dX10_judgeLeft_523 : decode cX10_judgeLeft 523 = .ok (.iaload, 1) := by decide +kernel
theorem dX10_judgeLeft_524 : decode cX10_judgeLeft 524 = .ok (.aload_n 0, 1) := by decide +kernel
theorem dX10_judgeLeft_525 : decode cX10_judgeLeft 525 = .ok (.getfield 136, 3) := by decide +kernel
theorem dX10_judgeLeft_528 : decode cX10_judgeLeft 528 = .ok (.iload_n 2, 1) := by decide +kernel
theorem dX10_judgeLeft_529 : decode cX10_judgeLeft 529 = .ok (.iaload, 1) := by decide +kernel
theorem dX10_judgeLeft_530 : decode cX10_judgeLeft 530 = .ok (.invokevirtual 482, 3) := by decide +kernel
theorem dX10_judgeLeft_533 : decode cX10_judgeLeft 533 = .ok (.goto 174, 3) := by decide +kernel
theorem dX10_judgeLeft_536 : decode cX10_judgeLeft 536 = .ok (.aload_n 0, 1) := by decide +kernel
theorem dX10_judgeLeft_537 : decode cX10_judgeLeft 537 = .ok (.iload_n 1, 1) := by decide +kernel
theorem dX10_judgeLeft_538 : decode cX10_judgeLeft 538 = .ok (.invokevirtual 486, 3) := by decide +kernel
theorem dX10_judgeLeft_541 : decode cX10_judgeLeft 541 = .ok (.goto 166, 3) := by decide +kernel
theorem dX10_judgeLeft_544 : decode cX10_judgeLeft 544 = .ok (.aload_n 0, 1) := by decide +kernel
theorem dX10_judgeLeft_545 : decode cX10_judgeLeft 545 = .ok (.aload_n 0, 1) := by decide +kernel
theorem dX10_judgeLeft_546 : decode cX10_judgeLeft 546 = .ok (.getfield 130, 3) := by decide +kernel
theorem dX10_judgeLeft_549 : decode cX10_judgeLeft 549 = .ok (.iload_n 2, 1) := by decide +kernel
theorem dX10_judgeLeft_550 : decode cX10_judgeLeft 550 = .ok (.iaload, 1) := by decide +kernel
theorem dX10_judgeLeft_551 : decode cX10_judgeLeft 551 = .ok (.aload_n 0, 1) := by decide +kernel
theorem dX10_judgeLeft_552 : decode cX10_judgeLeft 552 = .ok (.getfield 133, 3) := by decide +kernel
theorem dX10_judgeLeft_555 : decode cX10_judgeLeft 555 = .ok (.iload_n 2, 1) := by decide +kernel
theorem dX10_judgeLeft_556 : decode cX10_judgeLeft 556 = .ok (.iaload, 1) := by decide +kernel
theorem dX10_judgeLeft_557 : decode cX10_judgeLeft 557 = .ok (.aload_n 0, 1) := by decide +kernel
theorem dX10_judgeLeft_558 : decode cX10_judgeLeft 558 = .ok (.getfield 136, 3) := by decide +kernel
theorem dX10_judgeLeft_561 : decode cX10_judgeLeft 561 = .ok (.iload_n 2, 1) := by decide +kernel
theorem dX10_judgeLeft_562 : decode cX10_judgeLeft 562 = .ok (.iaload, 1) := by decide +kernel
theorem dX10_judgeLeft_563 : decode cX10_judgeLeft 563 = .ok (.aload_n 0, 1) := by decide +kernel
theorem dX10_judgeLeft_564 : decode cX10_judgeLeft 564 = .ok (.getfield 130, 3) := by decide +kernel
theorem dX10_judgeLeft_567 : decode cX10_judgeLeft 567 = .ok (.iload 4, 2) := by decide +kernel
theorem dX10_judgeLeft_569 : decode cX10_judgeLeft 569 = .ok (.iaload, 1) := by decide +kernel
theorem dX10_judgeLeft_570 : decode cX10_judgeLeft 570 = .ok (.aload_n 0, 1) := by decide +kernel
theorem dX10_judgeLeft_571 : decode cX10_judgeLeft 571 = .ok (.getfield 133, 3) := by decide +kernel
theorem dX10_judgeLeft_574 : decode cX10_judgeLeft 574 = .ok (.iload 4, 2) := by decide +kernel
theorem dX10_judgeLeft_576 : decode cX10_judgeLeft 576 = .ok (.iaload, 1) := by decide +kernel
theorem dX10_judgeLeft_577 : decode cX10_judgeLeft 577 = .ok (.aload_n 0, 1) := by decide +kernel
theorem dX10_judgeLeft_578 : decode cX10_judgeLeft 578 = .ok (.getfield 136, 3) := by decide +kernel
theorem dX10_judgeLeft_581 : decode cX10_judgeLeft 581 = .ok (.iload 4, 2) := by decide +kernel
theorem dX10_judgeLeft_583 : decode cX10_judgeLeft 583 = .ok (.iaload, 1) := by decide +kernel
theorem dX10_judgeLeft_584 : decode cX10_judgeLeft 584 = .ok (.invokevirtual 502, 3) := by decide +kernel
theorem dX10_judgeLeft_587 : decode cX10_judgeLeft 587 = .ok (.ifCond .eq 32, 3) := by decide +kernel
theorem dX10_judgeLeft_590 : decode cX10_judgeLeft 590 = .ok (.aload_n 0, 1) := by decide +kernel
theorem dX10_judgeLeft_591 : decode cX10_judgeLeft 591 = .ok (.iload_n 1, 1) := by decide +kernel
theorem dX10_judgeLeft_592 : decode cX10_judgeLeft 592 = .ok (.aload_n 0, 1) := by decide +kernel
theorem dX10_judgeLeft_593 : decode cX10_judgeLeft 593 = .ok (.getfield 130, 3) := by decide +kernel
theorem dX10_judgeLeft_596 : decode cX10_judgeLeft 596 = .ok (.iload 4, 2) := by decide +kernel
theorem dX10_judgeLeft_598 : decode cX10_judgeLeft 598 = .ok (.iaload, 1) := by decide +kernel
theorem dX10_judgeLeft_599 : decode cX10_judgeLeft 599 = .ok (.aload_n 0, 1) := by decide +kernel
theorem dX10_judgeLeft_600 : decode cX10_judgeLeft 600 = .ok (.getfield 133, 3) := by decide +kernel
theorem dX10_judgeLeft_603 : decode cX10_judgeLeft 603 = .ok (.iload 4, 2) := by decide +kernel
theorem dX10_judgeLeft_605 : decode cX10_judgeLeft 605 = .ok (.iaload, 1) := by decide +kernel
theorem dX10_judgeLeft_606 : decode cX10_judgeLeft 606 = .ok (.aload_n 0, 1) := by decide +kernel
theorem dX10_judgeLeft_607 : decode cX10_judgeLeft 607 = .ok (.getfield 136, 3) := by decide +kernel
theorem dX10_judgeLeft_610 : decode cX10_judgeLeft 610 = .ok (.iload 4, 2) := by decide +kernel
theorem dX10_judgeLeft_612 : decode cX10_judgeLeft 612 = .ok (.iaload, 1) := by decide +kernel
theorem dX10_judgeLeft_613 : decode cX10_judgeLeft 613 = .ok (.invokevirtual 482, 3) := by decide +kernel
theorem dX10_judgeLeft_616 : decode cX10_judgeLeft 616 = .ok (.goto 91, 3) := by decide +kernel
theorem dX10_judgeLeft_619 : decode cX10_judgeLeft 619 = .ok (.aload_n 0, 1) := by decide +kernel
theorem dX10_judgeLeft_620 : decode cX10_judgeLeft 620 = .ok (.iload_n 1, 1) := by decide +kernel
theorem dX10_judgeLeft_621 : decode cX10_judgeLeft 621 = .ok (.invokevirtual 486, 3) := by decide +kernel
theorem dX10_judgeLeft_624 : decode cX10_judgeLeft 624 = .ok (.goto 83, 3) := by decide +kernel
theorem dX10_judgeLeft_627 : decode cX10_judgeLeft 627 = .ok (.aload_n 0, 1) := by decide +kernel
theorem dX10_judgeLeft_628 : decode cX10_judgeLeft 628 = .ok (.aload_n 0, 1) := by decide +kernel
theorem dX10_judgeLeft_629 : decode cX10_judgeLeft 629 = .ok (.getfield 130, 3) := by decide +kernel
theorem dX10_judgeLeft_632 : decode cX10_judgeLeft 632 = .ok (.iload 4, 2) := by decide +kernel
theorem dX10_judgeLeft_634 : decode cX10_judgeLeft 634 = .ok (.iaload, 1) := by decide +kernel
theorem dX10_judgeLeft_635 : decode cX10_judgeLeft 635 = .ok (.aload_n 0, 1) := by decide +kernel
theorem dX10_judgeLeft_636 : decode cX10_judgeLeft 636 = .ok (.getfield 133, 3) := by decide +kernel
theorem dX10_judgeLeft_639 : decode cX10_judgeLeft 639 = .ok (.iload 4, 2) := by decide +kernel
theorem dX10_judgeLeft_641 : decode cX10_judgeLeft 641 = .ok (.iaload, 1) := by decide +kernel
theorem dX10_judgeLeft_642 : decode cX10_judgeLeft 642 = .ok (.aload_n 0, 1) := by decide +kernel
theorem dX10_judgeLeft_643 : decode cX10_judgeLeft 643 = .ok (.getfield 136, 3) := by decide +kernel
theorem dX10_judgeLeft_646 : decode cX10_judgeLeft 646 = .ok (.iload 4, 2) := by decide +kernel
theorem dX10_judgeLeft_648 : decode cX10_judgeLeft 648 = .ok (.iaload, 1) := by decide +kernel
theorem dX10_judgeLeft_649 : decode cX10_judgeLeft 649 = .ok (.aload_n 0, 1) := by decide +kernel
theorem dX10_judgeLeft_650 : decode cX10_judgeLeft 650 = .ok (.getfield 130, 3) := by decide +kernel
theorem dX10_judgeLeft_653 : decode cX10_judgeLeft 653 = .ok (.iload_n 2, 1) := by decide +kernel
theorem dX10_judgeLeft_654 : decode cX10_judgeLeft 654 = .ok (.iaload, 1) := by decide +kernel
theorem dX10_judgeLeft_655 : decode cX10_judgeLeft 655 = .ok (.aload_n 0, 1) := by decide +kernel
theorem dX10_judgeLeft_656 : decode cX10_judgeLeft 656 = .ok (.getfield 133, 3) := by decide +kernel
theorem dX10_judgeLeft_659 : decode cX10_judgeLeft 659 = .ok (.iload_n 2, 1) := by decide +kernel
theorem dX10_judgeLeft_660 : decode cX10_judgeLeft 660 = .ok (.iaload, 1) := by decide +kernel
theorem dX10_judgeLeft_661 : decode cX10_judgeLeft 661 = .ok (.aload_n 0, 1) := by decide +kernel
theorem dX10_judgeLeft_662 : decode cX10_judgeLeft 662 = .ok (.getfield 136, 3) := by decide +kernel
theorem dX10_judgeLeft_665 : decode cX10_judgeLeft 665 = .ok (.iload_n 2, 1) := by decide +kernel
theorem dX10_judgeLeft_666 : decode cX10_judgeLeft 666 = .ok (.iaload, 1) := by decide +kernel
theorem dX10_judgeLeft_667 : decode cX10_judgeLeft 667 = .ok (.invokevirtual 502, 3) := by decide +kernel
theorem dX10_judgeLeft_670 : decode cX10_judgeLeft 670 = .ok (.ifCond .eq 32, 3) := by decide +kernel
theorem dX10_judgeLeft_673 : decode cX10_judgeLeft 673 = .ok (.aload_n 0, 1) := by decide +kernel
theorem dX10_judgeLeft_674 : decode cX10_judgeLeft 674 = .ok (.iload_n 1, 1) := by decide +kernel
theorem dX10_judgeLeft_675 : decode cX10_judgeLeft 675 = .ok (.aload_n 0, 1) := by decide +kernel
theorem dX10_judgeLeft_676 : decode cX10_judgeLeft 676 = .ok (.getfield 130, 3) := by decide +kernel
theorem dX10_judgeLeft_679 : decode cX10_judgeLeft 679 = .ok (.iload 4, 2) := by decide +kernel
theorem dX10_judgeLeft_681 : decode cX10_judgeLeft 681 = .ok (.iaload, 1) := by decide +kernel
theorem dX10_judgeLeft_682 : decode cX10_judgeLeft 682 = .ok (.aload_n 0, 1) := by decide +kernel
theorem dX10_judgeLeft_683 : decode cX10_judgeLeft 683 = .ok (.getfield 133, 3) := by decide +kernel
theorem dX10_judgeLeft_686 : decode cX10_judgeLeft 686 = .ok (.iload 4, 2) := by decide +kernel
theorem dX10_judgeLeft_688 : decode cX10_judgeLeft 688 = .ok (.iaload, 1) := by decide +kernel
theorem dX10_judgeLeft_689 : decode cX10_judgeLeft 689 = .ok (.aload_n 0, 1) := by decide +kernel
theorem dX10_judgeLeft_690 : decode cX10_judgeLeft 690 = .ok (.getfield 136, 3) := by decide +kernel
theorem dX10_judgeLeft_693 : decode cX10_judgeLeft 693 = .ok (.iload 4, 2) := by decide +kernel
theorem dX10_judgeLeft_695 : decode cX10_judgeLeft 695 = .ok (.iaload, 1) := by decide +kernel
theorem dX10_judgeLeft_696 : decode cX10_judgeLeft 696 = .ok (.invokevirtual 482, 3) := by decide +kernel
theorem dX10_judgeLeft_699 : decode cX10_judgeLeft 699 = .ok (.goto 8, 3) := by decide +kernel
theorem dX10_judgeLeft_702 : decode cX10_judgeLeft 702 = .ok (.aload_n 0, 1) := by decide +kernel
theorem dX10_judgeLeft_703 : decode cX10_judgeLeft 703 = .ok (.iload_n 1, 1) := by decide +kernel
theorem dX10_judgeLeft_704 : decode cX10_judgeLeft 704 = .ok (.invokevirtual 486, 3) := by decide +kernel
theorem dX10_judgeLeft_707 : decode cX10_judgeLeft 707 = .ok (.return_, 1) := by decide +kernel
/-! AlgebraHouseModel.judgeLeft(I)V -/
def P_X10_judgeLeft_206 (rec : Nat → List Int → MM → (Int → MM → Prop) → (MM → Prop) → Prop) (Q : Int → MM → Prop) (T : MM → Prop) (x1 : Int) (m : MM) : Prop := P_X10_wrong x1 m (fun r1 m1 => Q 0 m1)
def P_X10_judgeLeft_172 (rec : Nat → List Int → MM → (Int → MM → Prop) → (MM → Prop) → Prop) (Q : Int → MM → Prop) (T : MM → Prop) (x1 : Int) (x2 : Int) (x3 : Int) (m : MM) : Prop := (0 ≤ x2 ∧ x2 < 12000) ∧ (RI (m 598 x2)) ∧ (if (m 598 x2) = (-2) then (0 ≤ x3 ∧ x3 < 12000) ∧ (RI (m 598 x3)) ∧ (if (m 598 x3) = (-2) then P_X10_setRing x1 (-2) 0 0 m (fun r1 m1 => Q 0 m1) else P_X10_judgeLeft_206 rec Q T x1 m) else P_X10_judgeLeft_206 rec Q T x1 m)
def P_X10_judgeLeft_214 (rec : Nat → List Int → MM → (Int → MM → Prop) → (MM → Prop) → Prop) (Q : Int → MM → Prop) (T : MM → Prop) (x1 : Int) (x2 : Int) (x3 : Int) (m : MM) : Prop := P_X10_joinsParts x2 x3 m (fun r1 m1 => (RI r1) ∧ (if r1 = 0 then P_X10_wrong x1 m1 (fun r2 m2 => Q 0 m2) else P_X10_setRing x1 (-2) 0 0 m1 (fun r3 m3 => Q 0 m3)))
def P_X10_judgeLeft_293 (rec : Nat → List Int → MM → (Int → MM → Prop) → (MM → Prop) → Prop) (Q : Int → MM → Prop) (T : MM → Prop) (x1 : Int) (m : MM) : Prop := P_X10_wrong x1 m (fun r1 m1 => Q 0 m1)
def P_X10_judgeLeft_267 (rec : Nat → List Int → MM → (Int → MM → Prop) → (MM → Prop) → Prop) (Q : Int → MM → Prop) (T : MM → Prop) (x1 : Int) (m : MM) : Prop := (RI (m 582 66)) ∧ (if (m 582 66) = 0 then (RI (m 582 67)) ∧ (if (m 582 67) = 0 then P_X10_setRing x1 (-2) 0 0 m (fun r1 m1 => Q 0 m1) else P_X10_judgeLeft_293 rec Q T x1 m) else P_X10_judgeLeft_293 rec Q T x1 m)
def P_X10_judgeLeft_243 (rec : Nat → List Int → MM → (Int → MM → Prop) → (MM → Prop) → Prop) (Q : Int → MM → Prop) (T : MM → Prop) (x1 : Int) (x2 : Int) (x3 : Int) (m : MM) : Prop := P_X10_joinsParts x2 x3 m (fun r1 m1 => (RI r1) ∧ (if r1 = 0 then P_X10_judgeLeft_293 rec Q T x1 m1 else (RI (m1 582 65)) ∧ (if (m1 582 65) = 0 then P_X10_judgeLeft_267 rec Q T x1 m1 else (if (m1 582 65) = 1 then P_X10_judgeLeft_267 rec Q T x1 m1 else P_X10_judgeLeft_293 rec Q T x1 m1))))
def P_X10_judgeLeft_339 (rec : Nat → List Int → MM → (Int → MM → Prop) → (MM → Prop) → Prop) (Q : Int → MM → Prop) (T : MM → Prop) (x1 : Int) (m : MM) : Prop := P_X10_wrong x1 m (fun r1 m1 => Q 0 m1)
def P_X10_judgeLeft_301 (rec : Nat → List Int → MM → (Int → MM → Prop) → (MM → Prop) → Prop) (Q : Int → MM → Prop) (T : MM → Prop) (x1 : Int) (x2 : Int) (x3 : Int) (m : MM) : Prop := P_X10_joinsParts x2 x3 m (fun r1 m1 => (RI r1) ∧ (if r1 = 0 then P_X10_judgeLeft_339 rec Q T x1 m1 else (RI (m1 582 65)) ∧ (if (m1 582 65) = (-2) then P_X10_judgeLeft_339 rec Q T x1 m1 else P_X10_setRing x1 (m1 582 65) (m1 582 66) (m1 582 67) m1 (fun r2 m2 => Q 0 m2))))
def P_X10_judgeLeft_403 (rec : Nat → List Int → MM → (Int → MM → Prop) → (MM → Prop) → Prop) (Q : Int → MM → Prop) (T : MM → Prop) (x1 : Int) (m : MM) : Prop := ((RI (m 582 65))) ∧ P_X10_setRing x1 (if (m 582 65) = 0 then 1 else (m 582 65) : Int) (m 582 66) (m 582 67) m (fun r1 m1 => Q 0 m1)
def P_X10_judgeLeft_434 (rec : Nat → List Int → MM → (Int → MM → Prop) → (MM → Prop) → Prop) (Q : Int → MM → Prop) (T : MM → Prop) (x1 : Int) (m : MM) : Prop := P_X10_wrong x1 m (fun r1 m1 => Q 0 m1)
def P_X10_judgeLeft_478 (rec : Nat → List Int → MM → (Int → MM → Prop) → (MM → Prop) → Prop) (Q : Int → MM → Prop) (T : MM → Prop) (x1 : Int) (m : MM) : Prop := P_X10_wrong x1 m (fun r1 m1 => Q 0 m1)
def P_X10_judgeLeft_442 (rec : Nat → List Int → MM → (Int → MM → Prop) → (MM → Prop) → Prop) (Q : Int → MM → Prop) (T : MM → Prop) (x1 : Int) (x2 : Int) (x3 : Int) (m : MM) : Prop := P_X10_joinsParts x2 x3 m (fun r1 m1 => (RI r1) ∧ (if r1 = 0 then P_X10_judgeLeft_478 rec Q T x1 m1 else P_X10_isDivided m1 (fun r2 m2 => (RI r2) ∧ (if r2 = 0 then P_X10_judgeLeft_478 rec Q T x1 m2 else P_X10_setRing x1 (m2 582 65) (m2 582 66) (m2 582 67) m2 (fun r3 m3 => Q 0 m3)))))
def P_X10_judgeLeft_536 (rec : Nat → List Int → MM → (Int → MM → Prop) → (MM → Prop) → Prop) (Q : Int → MM → Prop) (T : MM → Prop) (x1 : Int) (m : MM) : Prop := P_X10_wrong x1 m (fun r1 m1 => Q 0 m1)
def P_X10_judgeLeft_94 (rec : Nat → List Int → MM → (Int → MM → Prop) → (MM → Prop) → Prop) (Q : Int → MM → Prop) (T : MM → Prop) (x1 : Int) (x2 : Int) (x3 : Int) (x4 : Int) (m : MM) : Prop := (0 ≤ x1 ∧ x1 < 12000) ∧ (RI (m 590 x1)) ∧ (if (m 590 x1) = 11 then P_X10_judgeLeft_172 rec Q T x1 x2 x3 m else (if (m 590 x1) = 12 then P_X10_judgeLeft_172 rec Q T x1 x2 x3 m else (if (m 590 x1) = 13 then P_X10_judgeLeft_214 rec Q T x1 x2 x3 m else (if (m 590 x1) = 14 then P_X10_judgeLeft_214 rec Q T x1 x2 x3 m else (if (m 590 x1) = 15 then P_X10_judgeLeft_243 rec Q T x1 x2 x3 m else (if (m 590 x1) = 16 then P_X10_judgeLeft_243 rec Q T x1 x2 x3 m else (if (m 590 x1) = 17 then P_X10_judgeLeft_301 rec Q T x1 x2 x3 m else (if (m 590 x1) = 18 then P_X10_judgeLeft_301 rec Q T x1 x2 x3 m else (if (m 590 x1) = 19 then P_X10_judgeLeft_301 rec Q T x1 x2 x3 m else (if (m 590 x1) = 20 then (0 ≤ x3 ∧ x3 < 12000) ∧ (RI (m 599 x3)) ∧ (if (m 599 x3) = 0 then (RI (m 600 x3)) ∧ (if (m 600 x3) = 0 then (RI (m 598 x3)) ∧ (if (m 598 x3) = (-2) then P_X10_judgeLeft_434 rec Q T x1 m else P_X10_joinsParts x2 x3 m (fun r1 m1 => (RI r1) ∧ (if r1 = 0 then P_X10_judgeLeft_434 rec Q T x1 m1 else (RI (m1 582 65)) ∧ (if (m1 582 65) < 2 then P_X10_judgeLeft_403 rec Q T x1 m1 else P_X10_isField (m1 582 65) m1 (fun r2 m2 => (RI r2) ∧ (if r2 = 0 then P_X10_judgeLeft_434 rec Q T x1 m2 else P_X10_judgeLeft_403 rec Q T x1 m2)))))) else P_X10_judgeLeft_434 rec Q T x1 m) else P_X10_judgeLeft_434 rec Q T x1 m) else (if (m 590 x1) = 21 then P_X10_judgeLeft_442 rec Q T x1 x2 x3 m else (if (m 590 x1) = 22 then P_X10_judgeLeft_442 rec Q T x1 x2 x3 m else (if (m 590 x1) = 23 then (0 ≤ x2 ∧ x2 < 12000) ∧ (RI (m 598 x2)) ∧ (if (m 598 x2) = (-2) then P_X10_judgeLeft_536 rec Q T x1 m else (RL (m 605 x1)) ∧ (if 12 < (m 605 x1) then P_X10_judgeLeft_536 rec Q T x1 m else P_X10_setRing x1 (m 598 x2) (m 599 x2) (m 600 x2) m (fun r3 m3 => Q 0 m3))) else (if (m 590 x1) = 24 then (0 ≤ x2 ∧ x2 < 12000) ∧ (0 ≤ x4 ∧ x4 < 12000) ∧ P_X10_goes (m 598 x2) (m 599 x2) (m 600 x2) (m 598 x4) (m 599 x4) (m 600 x4) m (fun r4 m4 => (RI r4) ∧ (if r4 = 0 then P_X10_wrong x1 m4 (fun r5 m5 => Q 0 m5) else P_X10_setRing x1 (m4 598 x4) (m4 599 x4) (m4 600 x4) m4 (fun r6 m6 => Q 0 m6))) else (0 ≤ x4 ∧ x4 < 12000) ∧ (0 ≤ x2 ∧ x2 < 12000) ∧ P_X10_goes (m 598 x4) (m 599 x4) (m 600 x4) (m 598 x2) (m 599 x2) (m 600 x2) m (fun r7 m7 => (RI r7) ∧ (if r7 = 0 then P_X10_wrong x1 m7 (fun r8 m8 => Q 0 m8) else P_X10_setRing x1 (m7 598 x4) (m7 599 x4) (m7 600 x4) m7 (fun r9 m9 => Q 0 m9)))))))))))))))))
def P_X10_judgeLeft_76 (rec : Nat → List Int → MM → (Int → MM → Prop) → (MM → Prop) → Prop) (Q : Int → MM → Prop) (T : MM → Prop) (x1 : Int) (x2 : Int) (x3 : Int) (x4 : Int) (m : MM) : Prop := (RI x4) ∧ (if x4 < 0 then P_X10_judgeLeft_94 rec Q T x1 x2 x3 x4 m else (0 ≤ x4 ∧ x4 < 12000) ∧ (RI (m 598 x4)) ∧ (if (m 598 x4) = (-9) then Q 0 m else P_X10_judgeLeft_94 rec Q T x1 x2 x3 x4 m))
def P_X10_judgeLeft_42 (rec : Nat → List Int → MM → (Int → MM → Prop) → (MM → Prop) → Prop) (Q : Int → MM → Prop) (T : MM → Prop) (x1 : Int) (x2 : Int) (x3 : Int) (x4 : Int) (m : MM) : Prop := (0 ≤ x1 ∧ x1 < 12000) ∧ ∀ m1 : MM, m1 = up m 598 x1 (-9) → (0 ≤ x2 ∧ x2 < 12000) ∧ (RI (m1 598 x2)) ∧ (if (m1 598 x2) = (-9) then Q 0 m1 else (RI x3) ∧ (if x3 < 0 then P_X10_judgeLeft_76 rec Q T x1 x2 x3 x4 m1 else (0 ≤ x3 ∧ x3 < 12000) ∧ (RI (m1 598 x3)) ∧ (if (m1 598 x3) = (-9) then Q 0 m1 else P_X10_judgeLeft_76 rec Q T x1 x2 x3 x4 m1)))
def P_X10_judgeLeft_31 (rec : Nat → List Int → MM → (Int → MM → Prop) → (MM → Prop) → Prop) (Q : Int → MM → Prop) (T : MM → Prop) (x1 : Int) (x2 : Int) (x3 : Int) (x4 : Int) (m : MM) : Prop := (RI x4) ∧ (if x4 < 0 then P_X10_judgeLeft_42 rec Q T x1 x2 x3 x4 m else R_X10_judgeRing 20 0 [x4] m (fun r1 m1 => P_X10_judgeLeft_42 rec Q T x1 x2 x3 x4 m1) T)
def W_X10_judgeLeft (rec : Nat → List Int → MM → (Int → MM → Prop) → (MM → Prop) → Prop) (x1 : Int) (m : MM) (Q : Int → MM → Prop) (T : MM → Prop) : Prop := (0 ≤ x1 ∧ x1 < 12000) ∧ (RI (m 592 x1)) ∧ (if (m 592 x1) < 0 then P_X10_judgeLeft_31 rec Q T x1 (m 591 x1) (m 592 x1) (m 593 x1) m else rec 0 [(m 592 x1)] m (fun r1 m1 => P_X10_judgeLeft_31 rec Q T x1 (m 591 x1) (m 592 x1) (m 593 x1) m1) T)
theorem dX10_judgeMatrix_0 : decode cX10_judgeMatrix 0 = .ok (.iconst 0, 1) := by decide +kernel
theorem dX10_judgeMatrix_1 : decode cX10_judgeMatrix 1 = .ok (.istore_n 2, 1) := by decide +kernel
theorem dX10_judgeMatrix_2 : decode cX10_judgeMatrix 2 = .ok (.iconst 1, 1) := by decide +kernel
theorem dX10_judgeMatrix_3 : decode cX10_judgeMatrix 3 = .ok (.istore_n 3, 1) := by decide +kernel
theorem dX10_judgeMatrix_4 : decode cX10_judgeMatrix 4 = .ok (.iconst 1, 1) := by decide +kernel
theorem dX10_judgeMatrix_5 : decode cX10_judgeMatrix 5 = .ok (.istore 4, 2) := by decide +kernel
theorem dX10_judgeMatrix_7 : decode cX10_judgeMatrix 7 = .ok (.iconst 1, 1) := by decide +kernel
theorem dX10_judgeMatrix_8 : decode cX10_judgeMatrix 8 = .ok (.istore 5, 2) := by decide +kernel
theorem dX10_judgeMatrix_10 : decode cX10_judgeMatrix 10 = .ok (.iconst (-1), 1) := by decide +kernel
theorem dX10_judgeMatrix_11 : decode cX10_judgeMatrix 11 = .ok (.istore 6, 2) := by decide +kernel
theorem dX10_judgeMatrix_13 : decode cX10_judgeMatrix 13 = .ok (.iconst 0, 1) := by decide +kernel
theorem dX10_judgeMatrix_14 : decode cX10_judgeMatrix 14 = .ok (.istore 7, 2) := by decide +kernel
theorem dX10_judgeMatrix_16 : decode cX10_judgeMatrix 16 = .ok (.iconst 0, 1) := by decide +kernel
theorem dX10_judgeMatrix_17 : decode cX10_judgeMatrix 17 = .ok (.istore 8, 2) := by decide +kernel
theorem dX10_judgeMatrix_19 : decode cX10_judgeMatrix 19 = .ok (.aload_n 0, 1) := by decide +kernel
theorem dX10_judgeMatrix_20 : decode cX10_judgeMatrix 20 = .ok (.getfield 109, 3) := by decide +kernel
theorem dX10_judgeMatrix_23 : decode cX10_judgeMatrix 23 = .ok (.iload_n 1, 1) := by decide +kernel
theorem dX10_judgeMatrix_24 : decode cX10_judgeMatrix 24 = .ok (.iaload, 1) := by decide +kernel
theorem dX10_judgeMatrix_25 : decode cX10_judgeMatrix 25 = .ok (.istore 9, 2) := by decide +kernel
theorem dX10_judgeMatrix_27 : decode cX10_judgeMatrix 27 = .ok (.iload 9, 2) := by decide +kernel
theorem dX10_judgeMatrix_29 : decode cX10_judgeMatrix 29 = .ok (.ifCond .lt 18, 3) := by decide +kernel
theorem dX10_judgeMatrix_32 : decode cX10_judgeMatrix 32 = .ok (.iinc 2 1, 3) := by decide +kernel
theorem dX10_judgeMatrix_35 : decode cX10_judgeMatrix 35 = .ok (.aload_n 0, 1) := by decide +kernel
theorem dX10_judgeMatrix_36 : decode cX10_judgeMatrix 36 = .ok (.getfield 118, 3) := by decide +kernel
theorem dX10_judgeMatrix_39 : decode cX10_judgeMatrix 39 = .ok (.iload 9, 2) := by decide +kernel
theorem dX10_judgeMatrix_41 : decode cX10_judgeMatrix 41 = .ok (.iaload, 1) := by decide +kernel
theorem dX10_judgeMatrix_42 : decode cX10_judgeMatrix 42 = .ok (.istore 9, 2) := by decide +kernel
theorem dX10_judgeMatrix_44 : decode cX10_judgeMatrix 44 = .ok (.goto (-17), 3) := by decide +kernel
theorem dX10_judgeMatrix_47 : decode cX10_judgeMatrix 47 = .ok (.aload_n 0, 1) := by decide +kernel
theorem dX10_judgeMatrix_48 : decode cX10_judgeMatrix 48 = .ok (.getfield 109, 3) := by decide +kernel
theorem dX10_judgeMatrix_51 : decode cX10_judgeMatrix 51 = .ok (.iload_n 1, 1) := by decide +kernel
theorem dX10_judgeMatrix_52 : decode cX10_judgeMatrix 52 = .ok (.iaload, 1) := by decide +kernel
theorem dX10_judgeMatrix_53 : decode cX10_judgeMatrix 53 = .ok (.istore 9, 2) := by decide +kernel
theorem dX10_judgeMatrix_55 : decode cX10_judgeMatrix 55 = .ok (.iload 9, 2) := by decide +kernel
theorem dX10_judgeMatrix_57 : decode cX10_judgeMatrix 57 = .ok (.ifCond .lt 191, 3) := by decide +kernel
theorem dX10_judgeMatrix_60 : decode cX10_judgeMatrix 60 = .ok (.iconst 0, 1) := by decide +kernel
theorem dX10_judgeMatrix_61 : decode cX10_judgeMatrix 61 = .ok (.istore 10, 2) := by decide +kernel
theorem dX10_judgeMatrix_63 : decode cX10_judgeMatrix 63 = .ok (.aload_n 0, 1) := by decide +kernel
theorem dX10_judgeMatrix_64 : decode cX10_judgeMatrix 64 = .ok (.getfield 109, 3) := by decide +kernel
theorem dX10_judgeMatrix_67 : decode cX10_judgeMatrix 67 = .ok (.iload 9, 2) := by decide +kernel
theorem dX10_judgeMatrix_69 : decode cX10_judgeMatrix 69 = .ok (.iaload, 1) := by decide +kernel
theorem dX10_judgeMatrix_70 : decode cX10_judgeMatrix 70 = .ok (.istore 11, 2) := by decide +kernel
theorem dX10_judgeMatrix_72 : decode cX10_judgeMatrix 72 = .ok (.iload 11, 2) := by decide +kernel
theorem dX10_judgeMatrix_74 : decode cX10_judgeMatrix 74 = .ok (.ifCond .lt 146, 3) := by decide +kernel
theorem dX10_judgeMatrix_77 : decode cX10_judgeMatrix 77 = .ok (.aload_n 0, 1) := by decide +kernel
theorem dX10_judgeMatrix_78 : decode cX10_judgeMatrix 78 = .ok (.getfield 109, 3) := by decide +kernel
theorem dX10_judgeMatrix_81 : decode cX10_judgeMatrix 81 = .ok (.iload 11, 2) := by decide +kernel
theorem dX10_judgeMatrix_83 : decode cX10_judgeMatrix 83 = .ok (.iaload, 1) := by decide +kernel
theorem dX10_judgeMatrix_84 : decode cX10_judgeMatrix 84 = .ok (.istore 12, 2) := by decide +kernel
theorem dX10_judgeMatrix_86 : decode cX10_judgeMatrix 86 = .ok (.aload_n 0, 1) := by decide +kernel
theorem dX10_judgeMatrix_87 : decode cX10_judgeMatrix 87 = .ok (.iload 12, 2) := by decide +kernel
theorem dX10_judgeMatrix_89 : decode cX10_judgeMatrix 89 = .ok (.invokevirtual 476, 3) := by decide +kernel
theorem dX10_judgeMatrix_92 : decode cX10_judgeMatrix 92 = .ok (.iinc 10 1, 3) := by decide +kernel
theorem dX10_judgeMatrix_95 : decode cX10_judgeMatrix 95 = .ok (.iload 4, 2) := by decide +kernel
theorem dX10_judgeMatrix_97 : decode cX10_judgeMatrix 97 = .ok (.ifCond .eq 19, 3) := by decide +kernel
theorem dX10_judgeMatrix_100 : decode cX10_judgeMatrix 100 = .ok (.aload_n 0, 1) := by decide +kernel
theorem dX10_judgeMatrix_101 : decode cX10_judgeMatrix 101 = .ok (.getfield 130, 3) := by decide +kernel
theorem dX10_judgeMatrix_104 : decode cX10_judgeMatrix 104 = .ok (.iload 12, 2) := by decide +kernel
theorem dX10_judgeMatrix_106 : decode cX10_judgeMatrix 106 = .ok (.iaload, 1) := by decide +kernel
theorem dX10_judgeMatrix_107 : decode cX10_judgeMatrix 107 = .ok (.bipush (-9), 2) := by decide +kernel
theorem dX10_judgeMatrix_109 : decode cX10_judgeMatrix 109 = .ok (.if_icmp .eq 7, 3) := by decide +kernel
theorem dX10_judgeMatrix_112 : decode cX10_judgeMatrix 112 = .ok (.iconst 1, 1) := by decide +kernel
theorem dX10_judgeMatrix_113 : decode cX10_judgeMatrix 113 = .ok (.goto 4, 3) := by decide +kernel
theorem dX10_judgeMatrix_116 : decode cX10_judgeMatrix 116 = .ok (.iconst 0, 1) := by decide +kernel
theorem dX10_judgeMatrix_117 : decode cX10_judgeMatrix 117 = .ok (.istore 4, 2) := by decide +kernel
theorem dX10_judgeMatrix_119 : decode cX10_judgeMatrix 119 = .ok (.iload 4, 2) := by decide +kernel
theorem dX10_judgeMatrix_121 : decode cX10_judgeMatrix 121 = .ok (.ifCond .ne 6, 3) := by decide +kernel
theorem dX10_judgeMatrix_124 : decode cX10_judgeMatrix 124 = .ok (.goto 84, 3) := by decide +kernel
theorem dX10_judgeMatrix_127 : decode cX10_judgeMatrix 127 = .ok (.iload 5, 2) := by decide +kernel
theorem dX10_judgeMatrix_129 : decode cX10_judgeMatrix 129 = .ok (.ifCond .eq 56, 3) := by decide +kernel
theorem dX10_judgeMatrix_132 : decode cX10_judgeMatrix 132 = .ok (.aload_n 0, 1) := by decide +kernel
theorem dX10_judgeMatrix_133 : decode cX10_judgeMatrix 133 = .ok (.getfield 130, 3) := by decide +kernel
theorem dX10_judgeMatrix_136 : decode cX10_judgeMatrix 136 = .ok (.iload 12, 2) := by decide +kernel
theorem dX10_judgeMatrix_138 : decode cX10_judgeMatrix 138 = .ok (.iaload, 1) := by decide +kernel
theorem dX10_judgeMatrix_139 : decode cX10_judgeMatrix 139 = .ok (.bipush (-2), 2) := by decide +kernel
theorem dX10_judgeMatrix_141 : decode cX10_judgeMatrix 141 = .ok (.if_icmp .eq 44, 3) := by decide +kernel
theorem dX10_judgeMatrix_144 : decode cX10_judgeMatrix 144 = .ok (.aload_n 0, 1) := by decide +kernel
theorem dX10_judgeMatrix_145 : decode cX10_judgeMatrix 145 = .ok (.getfield 136, 3) := by decide +kernel
theorem dX10_judgeMatrix_148 : decode cX10_judgeMatrix 148 = .ok (.iload 12, 2) := by decide +kernel
theorem dX10_judgeMatrix_150 : decode cX10_judgeMatrix 150 = .ok (.iaload, 1) := by decide +kernel
theorem dX10_judgeMatrix_151 : decode cX10_judgeMatrix 151 = .ok (.ifCond .ne 34, 3) := by decide +kernel
theorem dX10_judgeMatrix_154 : decode cX10_judgeMatrix 154 = .ok (.aload_n 0, 1) := by decide +kernel
theorem dX10_judgeMatrix_155 : decode cX10_judgeMatrix 155 = .ok (.iload 7, 2) := by decide +kernel
theorem dX10_judgeMatrix_157 : decode cX10_judgeMatrix 157 = .ok (.iload 8, 2) := by decide +kernel
theorem dX10_judgeMatrix_159 : decode cX10_judgeMatrix 159 = .ok (.iconst 0, 1) := by decide +kernel
theorem dX10_judgeMatrix_160 : decode cX10_judgeMatrix 160 = .ok (.aload_n 0, 1) := by decide +kernel
theorem dX10_judgeMatrix_161 : decode cX10_judgeMatrix 161 = .ok (.getfield 130, 3) := by decide +kernel
theorem dX10_judgeMatrix_164 : decode cX10_judgeMatrix 164 = .ok (.iload 12, 2) := by decide +kernel
theorem dX10_judgeMatrix_166 : decode cX10_judgeMatrix 166 = .ok (.iaload, 1) := by decide +kernel
theorem dX10_judgeMatrix_167 : decode cX10_judgeMatrix 167 = .ok (.aload_n 0, 1) := by decide +kernel
theorem dX10_judgeMatrix_168 : decode cX10_judgeMatrix 168 = .ok (.getfield 133, 3) := by decide +kernel
theorem dX10_judgeMatrix_171 : decode cX10_judgeMatrix 171 = .ok (.iload 12, 2) := by decide +kernel
theorem dX10_judgeMatrix_173 : decode cX10_judgeMatrix 173 = .ok (.iaload, 1) := by decide +kernel
theorem dX10_judgeMatrix_174 : decode cX10_judgeMatrix 174 = .ok (.iconst 0, 1) := by decide +kernel
theorem dX10_judgeMatrix_175 : decode cX10_judgeMatrix 175 = .ok (.invokevirtual 456, 3) := by decide +kernel
theorem dX10_judgeMatrix_178 : decode cX10_judgeMatrix 178 = .ok (.ifCond .eq 7, 3) := by decide +kernel
theorem dX10_judgeMatrix_181 : decode cX10_judgeMatrix 181 = .ok (.iconst 1, 1) := by decide +kernel
theorem dX10_judgeMatrix_182 : decode cX10_judgeMatrix 182 = .ok (.goto 4, 3) := by decide +kernel
theorem dX10_judgeMatrix_185 : decode cX10_judgeMatrix 185 = .ok (.iconst 0, 1) := by decide +kernel
theorem dX10_judgeMatrix_186 : decode cX10_judgeMatrix 186 = .ok (.istore 5, 2) := by decide +kernel
theorem dX10_judgeMatrix_188 : decode cX10_judgeMatrix 188 = .ok (.iload 5, 2) := by decide +kernel
theorem dX10_judgeMatrix_190 : decode cX10_judgeMatrix 190 = .ok (.ifCond .ne 6, 3) := by decide +kernel
theorem dX10_judgeMatrix_193 : decode cX10_judgeMatrix 193 = .ok (.goto 15, 3) := by decide +kernel
theorem dX10_judgeMatrix_196 : decode cX10_judgeMatrix 196 = .ok (.aload_n 0, 1) := by decide +kernel
theorem dX10_judgeMatrix_197 : decode cX10_judgeMatrix 197 = .ok (.getfield 442, 3) := by decide +kernel
theorem dX10_judgeMatrix_200 : decode cX10_judgeMatrix 200 = .ok (.istore 7, 2) := by decide +kernel
theorem dX10_judgeMatrix_202 : decode cX10_judgeMatrix 202 = .ok (.aload_n 0, 1) := by decide +kernel
theorem dX10_judgeMatrix_203 : decode cX10_judgeMatrix 203 = .ok (.getfield 450, 3) := by decide +kernel
theorem dX10_judgeMatrix_206 : decode cX10_judgeMatrix 206 = .ok (.istore 8, 2) := by decide +kernel
theorem dX10_judgeMatrix_208 : decode cX10_judgeMatrix 208 = .ok (.aload_n 0, 1) := by decide +kernel
theorem dX10_judgeMatrix_209 : decode cX10_judgeMatrix 209 = .ok (.getfield 118, 3) := by decide +kernel
theorem dX10_judgeMatrix_212 : decode cX10_judgeMatrix 212 = .ok (.iload 11, 2) := by decide +kernel
theorem dX10_judgeMatrix_214 : decode cX10_judgeMatrix 214 = .ok (.iaload, 1) := by decide +kernel
theorem dX10_judgeMatrix_215 : decode cX10_judgeMatrix 215 = .ok (.istore 11, 2) := by decide +kernel
theorem dX10_judgeMatrix_217 : decode cX10_judgeMatrix 217 = .ok (.goto (-145), 3) := by decide +kernel
theorem dX10_judgeMatrix_220 : decode cX10_judgeMatrix 220 = .ok (.iload_n 3, 1) := by decide +kernel
theorem dX10_judgeMatrix_221 : decode cX10_judgeMatrix 221 = .ok (.ifCond .eq 13, 3) := by decide +kernel
theorem dX10_judgeMatrix_224 : decode cX10_judgeMatrix 224 = .ok (.iload 10, 2) := by decide +kernel
theorem dX10_judgeMatrix_226 : decode cX10_judgeMatrix 226 = .ok (.iload_n 2, 1) := by decide +kernel
theorem dX10_judgeMatrix_227 : decode cX10_judgeMatrix 227 = .ok (.if_icmp .ne 7, 3) := by decide +kernel
theorem dX10_judgeMatrix_230 : decode cX10_judgeMatrix 230 = .ok (.iconst 1, 1) := by decide +kernel
theorem dX10_judgeMatrix_231 : decode cX10_judgeMatrix 231 = .ok (.goto 4, 3) := by decide +kernel
theorem dX10_judgeMatrix_234 : decode cX10_judgeMatrix 234 = .ok (.iconst 0, 1) := by decide +kernel
theorem dX10_judgeMatrix_235 : decode cX10_judgeMatrix 235 = .ok (.istore_n 3, 1) := by decide +kernel
theorem dX10_judgeMatrix_236 : decode cX10_judgeMatrix 236 = .ok (.aload_n 0, 1) := by decide +kernel
theorem dX10_judgeMatrix_237 : decode cX10_judgeMatrix 237 = .ok (.getfield 118, 3) := by decide +kernel
theorem dX10_judgeMatrix_240 : decode cX10_judgeMatrix 240 = .ok (.iload 9, 2) := by decide +kernel
theorem dX10_judgeMatrix_242 : decode cX10_judgeMatrix 242 = .ok (.iaload, 1) := by decide +kernel
theorem dX10_judgeMatrix_243 : decode cX10_judgeMatrix 243 = .ok (.istore 9, 2) := by decide +kernel
theorem dX10_judgeMatrix_245 : decode cX10_judgeMatrix 245 = .ok (.goto (-190), 3) := by decide +kernel
theorem dX10_judgeMatrix_248 : decode cX10_judgeMatrix 248 = .ok (.iload 4, 2) := by decide +kernel
theorem dX10_judgeMatrix_250 : decode cX10_judgeMatrix 250 = .ok (.ifCond .ne 4, 3) := by decide +kernel
theorem dX10_judgeMatrix_253 : decode cX10_judgeMatrix 253 = .ok (.return_, 1) := by decide +kernel
theorem dX10_judgeMatrix_254 : decode cX10_judgeMatrix 254 = .ok (.iload_n 3, 1) := by decide +kernel
theorem dX10_judgeMatrix_255 : decode cX10_judgeMatrix 255 = .ok (.ifCond .eq 26, 3) := by decide +kernel
theorem dX10_judgeMatrix_258 : decode cX10_judgeMatrix 258 = .ok (.iload_n 2, 1) := by decide +kernel
theorem dX10_judgeMatrix_259 : decode cX10_judgeMatrix 259 = .ok (.iconst 3, 1) := by decide +kernel
theorem dX10_judgeMatrix_260 : decode cX10_judgeMatrix 260 = .ok (.if_icmp .gt 21, 3) := by decide +kernel
theorem dX10_judgeMatrix_263 : decode cX10_judgeMatrix 263 = .ok (.iload 5, 2) := by decide +kernel
theorem dX10_judgeMatrix_265 : decode cX10_judgeMatrix 265 = .ok (.ifCond .eq 16, 3) := by decide +kernel
theorem dX10_judgeMatrix_268 : decode cX10_judgeMatrix 268 = .ok (.aload_n 0, 1) := by decide +kernel
theorem dX10_judgeMatrix_269 : decode cX10_judgeMatrix 269 = .ok (.iload_n 1, 1) := by decide +kernel
theorem dX10_judgeMatrix_270 : decode cX10_judgeMatrix 270 = .ok (.iload 7, 2) := by decide +kernel
theorem dX10_judgeMatrix_272 : decode cX10_judgeMatrix 272 = .ok (.iload 8, 2) := by decide +kernel
theorem dX10_judgeMatrix_274 : decode cX10_judgeMatrix 274 = .ok (.iload_n 2, 1) := by decide +kernel
theorem dX10_judgeMatrix_275 : decode cX10_judgeMatrix 275 = .ok (.invokevirtual 482, 3) := by decide +kernel
theorem dX10_judgeMatrix_278 : decode cX10_judgeMatrix 278 = .ok (.goto 8, 3) := by decide +kernel
theorem dX10_judgeMatrix_281 : decode cX10_judgeMatrix 281 = .ok (.aload_n 0, 1) := by decide +kernel
theorem dX10_judgeMatrix_282 : decode cX10_judgeMatrix 282 = .ok (.iload_n 1, 1) := by decide +kernel
theorem dX10_judgeMatrix_283 : decode cX10_judgeMatrix 283 = .ok (.invokevirtual 486, 3) := by decide +kernel
theorem dX10_judgeMatrix_286 : decode cX10_judgeMatrix 286 = .ok (.return_, 1) := by decide +kernel
/-! AlgebraHouseModel.judgeMatrix(I)V -/
def P_X10_judgeMatrix_208 (rec : Nat → List Int → MM → (Int → MM → Prop) → (MM → Prop) → Prop) (Q : Int → MM → Prop) (T : MM → Prop) (K55 : Int → Int → Int → Int → Int → Int → Int → Int → MM → Prop) (K72 : Int → Int → Int → Int → Int → Int → Int → Int → Int → Int → MM → Prop) (x1 : Int) (x2 : Int) (x3 : Int) (x4 : Int) (x5 : Int) (x7 : Int) (x8 : Int) (x9 : Int) (x10 : Int) (x11 : Int) (m : MM) : Prop := (0 ≤ x11 ∧ x11 < 12000) ∧ K72 x1 x2 x3 x4 x5 x7 x8 x9 x10 (m 594 x11) m
def P_X10_judgeMatrix_185 (rec : Nat → List Int → MM → (Int → MM → Prop) → (MM → Prop) → Prop) (Q : Int → MM → Prop) (T : MM → Prop) (K55 : Int → Int → Int → Int → Int → Int → Int → Int → MM → Prop) (K72 : Int → Int → Int → Int → Int → Int → Int → Int → Int → Int → MM → Prop) (x1 : Int) (x2 : Int) (x3 : Int) (x4 : Int) (x7 : Int) (x8 : Int) (x9 : Int) (x10 : Int) (x11 : Int) (m : MM) : Prop := (if (0 : Int) = 0 then P_X10_judgeMatrix_208 rec Q T K55 K72 x1 x2 x3 x4 0 x7 x8 x9 x10 x11 m else P_X10_judgeMatrix_208 rec Q T K55 K72 x1 x2 x3 x4 0 (m 582 65) (m 582 66) x9 x10 x11 m)
def P_X10_judgeMatrix_220 (rec : Nat → List Int → MM → (Int → MM → Prop) → (MM → Prop) → Prop) (Q : Int → MM → Prop) (T : MM → Prop) (K55 : Int → Int → Int → Int → Int → Int → Int → Int → MM → Prop) (x1 : Int) (x2 : Int) (x3 : Int) (x4 : Int) (x5 : Int) (x7 : Int) (x8 : Int) (x9 : Int) (x10 : Int) (m : MM) : Prop := ((RI x3) ∧ (if x3 = 0 then True else ((RI x10) ∧ (RI x2)))) ∧ (0 ≤ x9 ∧ x9 < 12000) ∧ K55 x1 x2 (if x3 = 0 then 0 else (if x10 = x2 then 1 else 0 : Int) : Int) x4 x5 x7 x8 (m 594 x9) m
def P_X10_judgeMatrix_72 (rec : Nat → List Int → MM → (Int → MM → Prop) → (MM → Prop) → Prop) (Q : Int → MM → Prop) (T : MM → Prop) (K55 : Int → Int → Int → Int → Int → Int → Int → Int → MM → Prop) : Nat → Int → Int → Int → Int → Int → Int → Int → Int → Int → Int → MM → Prop
  | 0, _, _, _, _, _, _, _, _, _, _, _ => False
  | n + 1, x1, x2, x3, x4, x5, x7, x8, x9, x10, x11, m => (RI x11) ∧ (if x11 < 0 then P_X10_judgeMatrix_220 rec Q T K55 x1 x2 x3 x4 x5 x7 x8 x9 x10 m else (0 ≤ x11 ∧ x11 < 12000) ∧ rec 0 [(m 591 x11)] m (fun r1 m1 => ((RI x4) ∧ (if x4 = 0 then True else ((0 ≤ (m 591 x11) ∧ (m 591 x11) < 12000) ∧ (RI (m1 598 (m 591 x11)))))) ∧ (RI (if x4 = 0 then 0 else (if (m1 598 (m 591 x11)) = (-9) then 0 else 1 : Int) : Int)) ∧ (if (if x4 = 0 then 0 else (if (m1 598 (m 591 x11)) = (-9) then 0 else 1 : Int) : Int) = 0 then P_X10_judgeMatrix_208 rec Q T K55 (fun z0 z1 z2 z3 z4 z5 z6 z7 z8 z9 z10 => P_X10_judgeMatrix_72 rec Q T K55 n z0 z1 z2 z3 z4 z5 z6 z7 z8 z9 z10) x1 x2 x3 (if x4 = 0 then 0 else (if (m1 598 (m 591 x11)) = (-9) then 0 else 1 : Int) : Int) x5 x7 x8 x9 (x10 + 1) x11 m1 else (RI x5) ∧ (if x5 = 0 then P_X10_judgeMatrix_185 rec Q T K55 (fun z0 z1 z2 z3 z4 z5 z6 z7 z8 z9 z10 => P_X10_judgeMatrix_72 rec Q T K55 n z0 z1 z2 z3 z4 z5 z6 z7 z8 z9 z10) x1 x2 x3 (if x4 = 0 then 0 else (if (m1 598 (m 591 x11)) = (-9) then 0 else 1 : Int) : Int) x7 x8 x9 (x10 + 1) x11 m1 else (0 ≤ (m 591 x11) ∧ (m 591 x11) < 12000) ∧ (RI (m1 598 (m 591 x11))) ∧ (if (m1 598 (m 591 x11)) = (-2) then P_X10_judgeMatrix_185 rec Q T K55 (fun z0 z1 z2 z3 z4 z5 z6 z7 z8 z9 z10 => P_X10_judgeMatrix_72 rec Q T K55 n z0 z1 z2 z3 z4 z5 z6 z7 z8 z9 z10) x1 x2 x3 (if x4 = 0 then 0 else (if (m1 598 (m 591 x11)) = (-9) then 0 else 1 : Int) : Int) x7 x8 x9 (x10 + 1) x11 m1 else (RI (m1 600 (m 591 x11))) ∧ (if (m1 600 (m 591 x11)) = 0 then P_X10_joins x7 x8 0 (m1 598 (m 591 x11)) (m1 599 (m 591 x11)) 0 m1 (fun r2 m2 => ((RI r2)) ∧ (RI (if r2 = 0 then 0 else 1 : Int)) ∧ (if (if r2 = 0 then 0 else 1 : Int) = 0 then P_X10_judgeMatrix_208 rec Q T K55 (fun z0 z1 z2 z3 z4 z5 z6 z7 z8 z9 z10 => P_X10_judgeMatrix_72 rec Q T K55 n z0 z1 z2 z3 z4 z5 z6 z7 z8 z9 z10) x1 x2 x3 (if x4 = 0 then 0 else (if (m1 598 (m 591 x11)) = (-9) then 0 else 1 : Int) : Int) (if r2 = 0 then 0 else 1 : Int) x7 x8 x9 (x10 + 1) x11 m2 else P_X10_judgeMatrix_208 rec Q T K55 (fun z0 z1 z2 z3 z4 z5 z6 z7 z8 z9 z10 => P_X10_judgeMatrix_72 rec Q T K55 n z0 z1 z2 z3 z4 z5 z6 z7 z8 z9 z10) x1 x2 x3 (if x4 = 0 then 0 else (if (m1 598 (m 591 x11)) = (-9) then 0 else 1 : Int) : Int) (if r2 = 0 then 0 else 1 : Int) (m2 582 65) (m2 582 66) x9 (x10 + 1) x11 m2)) else P_X10_judgeMatrix_185 rec Q T K55 (fun z0 z1 z2 z3 z4 z5 z6 z7 z8 z9 z10 => P_X10_judgeMatrix_72 rec Q T K55 n z0 z1 z2 z3 z4 z5 z6 z7 z8 z9 z10) x1 x2 x3 (if x4 = 0 then 0 else (if (m1 598 (m 591 x11)) = (-9) then 0 else 1 : Int) : Int) x7 x8 x9 (x10 + 1) x11 m1))))) T)
def P_X10_judgeMatrix_281 (rec : Nat → List Int → MM → (Int → MM → Prop) → (MM → Prop) → Prop) (Q : Int → MM → Prop) (T : MM → Prop) (x1 : Int) (m : MM) : Prop := P_X10_wrong x1 m (fun r1 m1 => Q 0 m1)
def P_X10_judgeMatrix_248 (rec : Nat → List Int → MM → (Int → MM → Prop) → (MM → Prop) → Prop) (Q : Int → MM → Prop) (T : MM → Prop) (x1 : Int) (x2 : Int) (x3 : Int) (x4 : Int) (x5 : Int) (x7 : Int) (x8 : Int) (m : MM) : Prop := (RI x4) ∧ (if x4 = 0 then Q 0 m else (RI x3) ∧ (if x3 = 0 then P_X10_judgeMatrix_281 rec Q T x1 m else (RI x2) ∧ (if 3 < x2 then P_X10_judgeMatrix_281 rec Q T x1 m else (RI x5) ∧ (if x5 = 0 then P_X10_judgeMatrix_281 rec Q T x1 m else P_X10_setRing x1 x7 x8 x2 m (fun r1 m1 => Q 0 m1)))))
def P_X10_judgeMatrix_55 (rec : Nat → List Int → MM → (Int → MM → Prop) → (MM → Prop) → Prop) (Q : Int → MM → Prop) (T : MM → Prop) : Nat → Int → Int → Int → Int → Int → Int → Int → Int → MM → Prop
  | 0, _, _, _, _, _, _, _, _, _ => False
  | n + 1, x1, x2, x3, x4, x5, x7, x8, x9, m => (RI x9) ∧ (if x9 < 0 then P_X10_judgeMatrix_248 rec Q T x1 x2 x3 x4 x5 x7 x8 m else (0 ≤ x9 ∧ x9 < 12000) ∧ ∃ nn, P_X10_judgeMatrix_72 rec Q T (fun z0 z1 z2 z3 z4 z5 z6 z7 z8 => P_X10_judgeMatrix_55 rec Q T n z0 z1 z2 z3 z4 z5 z6 z7 z8) nn x1 x2 x3 x4 x5 x7 x8 x9 0 (m 591 x9) m)
def P_X10_judgeMatrix_47 (rec : Nat → List Int → MM → (Int → MM → Prop) → (MM → Prop) → Prop) (Q : Int → MM → Prop) (T : MM → Prop) (x1 : Int) (x2 : Int) (x3 : Int) (x4 : Int) (x5 : Int) (x7 : Int) (x8 : Int) (m : MM) : Prop := (0 ≤ x1 ∧ x1 < 12000) ∧ ∃ nn, P_X10_judgeMatrix_55 rec Q T nn x1 x2 x3 x4 x5 x7 x8 (m 591 x1) m
def P_X10_judgeMatrix_27 (rec : Nat → List Int → MM → (Int → MM → Prop) → (MM → Prop) → Prop) (Q : Int → MM → Prop) (T : MM → Prop) : Nat → Int → Int → Int → Int → Int → Int → Int → Int → MM → Prop
  | 0, _, _, _, _, _, _, _, _, _ => False
  | n + 1, x1, x2, x3, x4, x5, x7, x8, x9, m => (RI x9) ∧ (if x9 < 0 then P_X10_judgeMatrix_47 rec Q T x1 x2 x3 x4 x5 x7 x8 m else (0 ≤ x9 ∧ x9 < 12000) ∧ P_X10_judgeMatrix_27 rec Q T n x1 (x2 + 1) x3 x4 x5 x7 x8 (m 594 x9) m)
def W_X10_judgeMatrix (rec : Nat → List Int → MM → (Int → MM → Prop) → (MM → Prop) → Prop) (x1 : Int) (m : MM) (Q : Int → MM → Prop) (T : MM → Prop) : Prop := (0 ≤ x1 ∧ x1 < 12000) ∧ ∃ nn, P_X10_judgeMatrix_27 rec Q T nn x1 0 1 1 1 0 0 (m 591 x1) m
theorem dX10_judgePart_0 : decode cX10_judgePart 0 = .ok (.aload_n 0, 1) := by decide +kernel
theorem dX10_judgePart_1 : decode cX10_judgePart 1 = .ok (.getfield 130, 3) := by decide +kernel
theorem dX10_judgePart_4 : decode cX10_judgePart 4 = .ok (.iload_n 1, 1) := by decide +kernel
theorem dX10_judgePart_5 : decode cX10_judgePart 5 = .ok (.bipush (-9), 2) := by decide +kernel
theorem dX10_judgePart_7 : decode cX10_judgePart 7 = .ok (.iastore, 1) := by decide +kernel
theorem dX10_judgePart_8 : decode cX10_judgePart 8 = .ok (.aload_n 0, 1) := by decide +kernel
theorem dX10_judgePart_9 : decode cX10_judgePart 9 = .ok (.getfield 127, 3) := by decide +kernel
theorem dX10_judgePart_12 : decode cX10_judgePart 12 = .ok (.iload_n 1, 1) := by decide +kernel
theorem dX10_judgePart_13 : decode cX10_judgePart 13 = .ok (.aload_n 0, 1) := by decide +kernel
theorem dX10_judgePart_14 : decode cX10_judgePart 14 = .ok (.getfield 106, 3) := by decide +kernel
theorem dX10_judgePart_17 : decode cX10_judgePart 17 = .ok (.iload_n 1, 1) := by decide +kernel
theorem dX10_judgePart_18 : decode cX10_judgePart 18 = .ok (.iaload, 1) := by decide +kernel
theorem dX10_judgePart_19 : decode cX10_judgePart 19 = .ok (.iconst 4, 1) := by decide +kernel
theorem dX10_judgePart_20 : decode cX10_judgePart 20 = .ok (.if_icmp .ne 7, 3) := by decide +kernel
theorem dX10_judgePart_23 : decode cX10_judgePart 23 = .ok (.iconst (-1), 1) := by decide +kernel
theorem dX10_judgePart_24 : decode cX10_judgePart 24 = .ok (.goto 9, 3) := by decide +kernel
theorem dX10_judgePart_27 : decode cX10_judgePart 27 = .ok (.aload_n 0, 1) := by decide +kernel
theorem dX10_judgePart_28 : decode cX10_judgePart 28 = .ok (.getfield 127, 3) := by decide +kernel
theorem dX10_judgePart_31 : decode cX10_judgePart 31 = .ok (.iload_n 1, 1) := by decide +kernel
theorem dX10_judgePart_32 : decode cX10_judgePart 32 = .ok (.iaload, 1) := by decide +kernel
theorem dX10_judgePart_33 : decode cX10_judgePart 33 = .ok (.iastore, 1) := by decide +kernel
theorem dX10_judgePart_34 : decode cX10_judgePart 34 = .ok (.aload_n 0, 1) := by decide +kernel
theorem dX10_judgePart_35 : decode cX10_judgePart 35 = .ok (.getfield 106, 3) := by decide +kernel
theorem dX10_judgePart_38 : decode cX10_judgePart 38 = .ok (.iload_n 1, 1) := by decide +kernel
theorem dX10_judgePart_39 : decode cX10_judgePart 39 = .ok (.iaload, 1) := by decide +kernel
theorem dX10_judgePart_40 : decode cX10_judgePart 40 = .ok (.tableswitch 425 0 9 #[56, 67, 78, 89, 187, 195, 203, 211, 219, 363], 56) := by decide +kernel
theorem dX10_judgePart_96 : decode cX10_judgePart 96 = .ok (.aload_n 0, 1) := by decide +kernel
theorem dX10_judgePart_97 : decode cX10_judgePart 97 = .ok (.iload_n 1, 1) := by decide +kernel
theorem dX10_judgePart_98 : decode cX10_judgePart 98 = .ok (.iconst 0, 1) := by decide +kernel
theorem dX10_judgePart_99 : decode cX10_judgePart 99 = .ok (.iconst 0, 1) := by decide +kernel
theorem dX10_judgePart_100 : decode cX10_judgePart 100 = .ok (.iconst 0, 1) := by decide +kernel
theorem dX10_judgePart_101 : decode cX10_judgePart 101 = .ok (.invokevirtual 482, 3) := by decide +kernel
theorem dX10_judgePart_104 : decode cX10_judgePart 104 = .ok (.goto 433, 3) := by decide +kernel
theorem dX10_judgePart_107 : decode cX10_judgePart 107 = .ok (.aload_n 0, 1) := by decide +kernel
theorem dX10_judgePart_108 : decode cX10_judgePart 108 = .ok (.iload_n 1, 1) := by decide +kernel
theorem dX10_judgePart_109 : decode cX10_judgePart 109 = .ok (.iconst 0, 1) := by decide +kernel
theorem dX10_judgePart_110 : decode cX10_judgePart 110 = .ok (.iconst 1, 1) := by decide +kernel
theorem dX10_judgePart_111 : decode cX10_judgePart 111 = .ok (.iconst 0, 1) := by decide +kernel
theorem dX10_judgePart_112 : decode cX10_judgePart 112 = .ok (.invokevirtual 482, 3) := by decide +kernel
theorem dX10_judgePart_115 : decode cX10_judgePart 115 = .ok (.goto 422, 3) := by decide +kernel
theorem dX10_judgePart_118 : decode cX10_judgePart 118 = .ok (.aload_n 0, 1) := by decide +kernel
theorem dX10_judgePart_119 : decode cX10_judgePart 119 = .ok (.iload_n 1, 1) := by decide +kernel
theorem dX10_judgePart_120 : decode cX10_judgePart 120 = .ok (.iconst 0, 1) := by decide +kernel
theorem dX10_judgePart_121 : decode cX10_judgePart 121 = .ok (.iconst 2, 1) := by decide +kernel
theorem dX10_judgePart_122 : decode cX10_judgePart 122 = .ok (.iconst 0, 1) := by decide +kernel
theorem dX10_judgePart_123 : decode cX10_judgePart 123 = .ok (.invokevirtual 482, 3) := by decide +kernel
theorem dX10_judgePart_126 : decode cX10_judgePart 126 = .ok (.goto 411, 3) := by decide +kernel
theorem dX10_judgePart_129 : decode cX10_judgePart 129 = .ok (.aload_n 0, 1) := by decide +kernel
theorem dX10_judgePart_130 : decode cX10_judgePart 130 = .ok (.getfield 130, 3) := by decide +kernel
theorem dX10_judgePart_133 : decode cX10_judgePart 133 = .ok (.iload_n 1, 1) := by decide +kernel
theorem dX10_judgePart_134 : decode cX10_judgePart 134 = .ok (.bipush (-9), 2) := by decide +kernel
theorem dX10_judgePart_136 : decode cX10_judgePart 136 = .ok (.iastore, 1) := by decide +kernel
theorem dX10_judgePart_137 : decode cX10_judgePart 137 = .ok (.aload_n 0, 1) := by decide +kernel
theorem dX10_judgePart_138 : decode cX10_judgePart 138 = .ok (.getfield 231, 3) := by decide +kernel
theorem dX10_judgePart_141 : decode cX10_judgePart 141 = .ok (.ifCond .ge 18, 3) := by decide +kernel
theorem dX10_judgePart_144 : decode cX10_judgePart 144 = .ok (.aload_n 0, 1) := by decide +kernel
theorem dX10_judgePart_145 : decode cX10_judgePart 145 = .ok (.getfield 152, 3) := by decide +kernel
theorem dX10_judgePart_148 : decode cX10_judgePart 148 = .ok (.iload_n 1, 1) := by decide +kernel
theorem dX10_judgePart_149 : decode cX10_judgePart 149 = .ok (.laload, 1) := by decide +kernel
theorem dX10_judgePart_150 : decode cX10_judgePart 150 = .ok (.aload_n 0, 1) := by decide +kernel
theorem dX10_judgePart_151 : decode cX10_judgePart 151 = .ok (.getfield 523, 3) := by decide +kernel
theorem dX10_judgePart_154 : decode cX10_judgePart 154 = .ok (.i2l, 1) := by decide +kernel
theorem dX10_judgePart_155 : decode cX10_judgePart 155 = .ok (.lcmp, 1) := by decide +kernel
theorem dX10_judgePart_156 : decode cX10_judgePart 156 = .ok (.ifCond .lt 17, 3) := by decide +kernel
theorem dX10_judgePart_159 : decode cX10_judgePart 159 = .ok (.aload_n 0, 1) := by decide +kernel
theorem dX10_judgePart_160 : decode cX10_judgePart 160 = .ok (.iconst 3, 1) := by decide +kernel
theorem dX10_judgePart_161 : decode cX10_judgePart 161 = .ok (.aload_n 0, 1) := by decide +kernel
theorem dX10_judgePart_162 : decode cX10_judgePart 162 = .ok (.getfield 121, 3) := by decide +kernel
theorem dX10_judgePart_165 : decode cX10_judgePart 165 = .ok (.iload_n 1, 1) := by decide +kernel
theorem dX10_judgePart_166 : decode cX10_judgePart 166 = .ok (.iaload, 1) := by decide +kernel
theorem dX10_judgePart_167 : decode cX10_judgePart 167 = .ok (.invokevirtual 472, 3) := by decide +kernel
theorem dX10_judgePart_170 : decode cX10_judgePart 170 = .ok (.goto 367, 3) := by decide +kernel
theorem dX10_judgePart_173 : decode cX10_judgePart 173 = .ok (.aload_n 0, 1) := by decide +kernel
theorem dX10_judgePart_174 : decode cX10_judgePart 174 = .ok (.getfield 127, 3) := by decide +kernel
theorem dX10_judgePart_177 : decode cX10_judgePart 177 = .ok (.iload_n 1, 1) := by decide +kernel
theorem dX10_judgePart_178 : decode cX10_judgePart 178 = .ok (.aload_n 0, 1) := by decide +kernel
theorem dX10_judgePart_179 : decode cX10_judgePart 179 = .ok (.getfield 152, 3) := by decide +kernel
theorem dX10_judgePart_182 : decode cX10_judgePart 182 = .ok (.iload_n 1, 1) := by decide +kernel
theorem dX10_judgePart_183 : decode cX10_judgePart 183 = .ok (.laload, 1) := by decide +kernel
theorem dX10_judgePart_184 : decode cX10_judgePart 184 = .ok (.l2i, 1) := by decide +kernel
theorem dX10_judgePart_185 : decode cX10_judgePart 185 = .ok (.iastore, 1) := by decide +kernel
theorem dX10_judgePart_186 : decode cX10_judgePart 186 = .ok (.aload_n 0, 1) := by decide +kernel
theorem dX10_judgePart_187 : decode cX10_judgePart 187 = .ok (.iload_n 1, 1) := by decide +kernel
theorem dX10_judgePart_188 : decode cX10_judgePart 188 = .ok (.aload_n 0, 1) := by decide +kernel
theorem dX10_judgePart_189 : decode cX10_judgePart 189 = .ok (.getfield 215, 3) := by decide +kernel
theorem dX10_judgePart_192 : decode cX10_judgePart 192 = .ok (.aload_n 0, 1) := by decide +kernel
theorem dX10_judgePart_193 : decode cX10_judgePart 193 = .ok (.getfield 127, 3) := by decide +kernel
theorem dX10_judgePart_196 : decode cX10_judgePart 196 = .ok (.iload_n 1, 1) := by decide +kernel
theorem dX10_judgePart_197 : decode cX10_judgePart 197 = .ok (.iaload, 1) := by decide +kernel
theorem dX10_judgePart_198 : decode cX10_judgePart 198 = .ok (.iaload, 1) := by decide +kernel
theorem dX10_judgePart_199 : decode cX10_judgePart 199 = .ok (.aload_n 0, 1) := by decide +kernel
theorem dX10_judgePart_200 : decode cX10_judgePart 200 = .ok (.getfield 218, 3) := by decide +kernel
theorem dX10_judgePart_203 : decode cX10_judgePart 203 = .ok (.aload_n 0, 1) := by decide +kernel
theorem dX10_judgePart_204 : decode cX10_judgePart 204 = .ok (.getfield 127, 3) := by decide +kernel
theorem dX10_judgePart_207 : decode cX10_judgePart 207 = .ok (.iload_n 1, 1) := by decide +kernel
theorem dX10_judgePart_208 : decode cX10_judgePart 208 = .ok (.iaload, 1) := by decide +kernel
theorem dX10_judgePart_209 : decode cX10_judgePart 209 = .ok (.iaload, 1) := by decide +kernel
theorem dX10_judgePart_210 : decode cX10_judgePart 210 = .ok (.aload_n 0, 1) := by decide +kernel
theorem dX10_judgePart_211 : decode cX10_judgePart 211 = .ok (.getfield 221, 3) := by decide +kernel
theorem dX10_judgePart_214 : decode cX10_judgePart 214 = .ok (.aload_n 0, 1) := by decide +kernel
theorem dX10_judgePart_215 : decode cX10_judgePart 215 = .ok (.getfield 127, 3) := by decide +kernel
theorem dX10_judgePart_218 : decode cX10_judgePart 218 = .ok (.iload_n 1, 1) := by decide +kernel
theorem dX10_judgePart_219 : decode cX10_judgePart 219 = .ok (.iaload, 1) := by decide +kernel
theorem dX10_judgePart_220 : decode cX10_judgePart 220 = .ok (.iaload, 1) := by decide +kernel
theorem dX10_judgePart_221 : decode cX10_judgePart 221 = .ok (.invokevirtual 482, 3) := by decide +kernel
theorem dX10_judgePart_224 : decode cX10_judgePart 224 = .ok (.goto 313, 3) := by decide +kernel
theorem dX10_judgePart_227 : decode cX10_judgePart 227 = .ok (.aload_n 0, 1) := by decide +kernel
theorem dX10_judgePart_228 : decode cX10_judgePart 228 = .ok (.iload_n 1, 1) := by decide +kernel
theorem dX10_judgePart_229 : decode cX10_judgePart 229 = .ok (.invokevirtual 526, 3) := by decide +kernel
theorem dX10_judgePart_232 : decode cX10_judgePart 232 = .ok (.goto 305, 3) := by decide +kernel
theorem dX10_judgePart_235 : decode cX10_judgePart 235 = .ok (.aload_n 0, 1) := by decide +kernel
theorem dX10_judgePart_236 : decode cX10_judgePart 236 = .ok (.iload_n 1, 1) := by decide +kernel
theorem dX10_judgePart_237 : decode cX10_judgePart 237 = .ok (.invokevirtual 529, 3) := by decide +kernel
theorem dX10_judgePart_240 : decode cX10_judgePart 240 = .ok (.goto 297, 3) := by decide +kernel
theorem dX10_judgePart_243 : decode cX10_judgePart 243 = .ok (.aload_n 0, 1) := by decide +kernel
theorem dX10_judgePart_244 : decode cX10_judgePart 244 = .ok (.iload_n 1, 1) := by decide +kernel
theorem dX10_judgePart_245 : decode cX10_judgePart 245 = .ok (.invokevirtual 532, 3) := by decide +kernel
theorem dX10_judgePart_248 : decode cX10_judgePart 248 = .ok (.goto 289, 3) := by decide +kernel
theorem dX10_judgePart_251 : decode cX10_judgePart 251 = .ok (.aload_n 0, 1) := by decide +kernel
theorem dX10_judgePart_252 : decode cX10_judgePart 252 = .ok (.iload_n 1, 1) := by decide +kernel
theorem dX10_judgePart_253 : decode cX10_judgePart 253 = .ok (.invokevirtual 535, 3) := by decide +kernel
theorem dX10_judgePart_256 : decode cX10_judgePart 256 = .ok (.goto 281, 3) := by decide +kernel
theorem dX10_judgePart_259 : decode cX10_judgePart 259 = .ok (.aload_n 0, 1) := by decide +kernel
theorem dX10_judgePart_260 : decode cX10_judgePart 260 = .ok (.aload_n 0, 1) := by decide +kernel
theorem dX10_judgePart_261 : decode cX10_judgePart 261 = .ok (.getfield 109, 3) := by decide +kernel
theorem dX10_judgePart_264 : decode cX10_judgePart 264 = .ok (.iload_n 1, 1) := by decide +kernel
theorem dX10_judgePart_265 : decode cX10_judgePart 265 = .ok (.iaload, 1) := by decide +kernel
theorem dX10_judgePart_266 : decode cX10_judgePart 266 = .ok (.invokevirtual 476, 3) := by decide +kernel
theorem dX10_judgePart_269 : decode cX10_judgePart 269 = .ok (.aload_n 0, 1) := by decide +kernel
theorem dX10_judgePart_270 : decode cX10_judgePart 270 = .ok (.aload_n 0, 1) := by decide +kernel
theorem dX10_judgePart_271 : decode cX10_judgePart 271 = .ok (.getfield 112, 3) := by decide +kernel
theorem dX10_judgePart_274 : decode cX10_judgePart 274 = .ok (.iload_n 1, 1) := by decide +kernel
theorem dX10_judgePart_275 : decode cX10_judgePart 275 = .ok (.iaload, 1) := by decide +kernel
theorem dX10_judgePart_276 : decode cX10_judgePart 276 = .ok (.invokevirtual 476, 3) := by decide +kernel
theorem dX10_judgePart_279 : decode cX10_judgePart 279 = .ok (.aload_n 0, 1) := by decide +kernel
theorem dX10_judgePart_280 : decode cX10_judgePart 280 = .ok (.aload_n 0, 1) := by decide +kernel
theorem dX10_judgePart_281 : decode cX10_judgePart 281 = .ok (.getfield 115, 3) := by decide +kernel
theorem dX10_judgePart_284 : decode cX10_judgePart 284 = .ok (.iload_n 1, 1) := by decide +kernel
theorem dX10_judgePart_285 : decode cX10_judgePart 285 = .ok (.iaload, 1) := by decide +kernel
theorem dX10_judgePart_286 : decode cX10_judgePart 286 = .ok (.invokevirtual 476, 3) := by decide +kernel
theorem dX10_judgePart_289 : decode cX10_judgePart 289 = .ok (.aload_n 0, 1) := by decide +kernel
theorem dX10_judgePart_290 : decode cX10_judgePart 290 = .ok (.getfield 130, 3) := by decide +kernel
theorem dX10_judgePart_293 : decode cX10_judgePart 293 = .ok (.aload_n 0, 1) := by decide +kernel
theorem dX10_judgePart_294 : decode cX10_judgePart 294 = .ok (.getfield 109, 3) := by decide +kernel
theorem dX10_judgePart_297 : decode cX10_judgePart 297 = .ok (.iload_n 1, 1) := by decide +kernel
theorem dX10_judgePart_298 : decode cX10_judgePart 298 = .ok (.iaload, 1) := by decide +kernel
theorem dX10_judgePart_299 : decode cX10_judgePart 299 = .ok (.iaload, 1) := by decide +kernel
theorem dX10_judgePart_300 : decode cX10_judgePart 300 = .ok (.bipush (-9), 2) := by decide +kernel
theorem dX10_judgePart_302 : decode cX10_judgePart 302 = .ok (.if_icmp .eq 235, 3) := by decide +kernel
theorem dX10_judgePart_305 : decode cX10_judgePart 305 = .ok (.aload_n 0, 1) := by decide +kernel
theorem dX10_judgePart_306 : decode cX10_judgePart 306 = .ok (.getfield 130, 3) := by decide +kernel
theorem dX10_judgePart_309 : decode cX10_judgePart 309 = .ok (.aload_n 0, 1) := by decide +kernel
theorem dX10_judgePart_310 : decode cX10_judgePart 310 = .ok (.getfield 112, 3) := by decide +kernel
theorem dX10_judgePart_313 : decode cX10_judgePart 313 = .ok (.iload_n 1, 1) := by decide +kernel
theorem dX10_judgePart_314 : decode cX10_judgePart 314 = .ok (.iaload, 1) := by decide +kernel
theorem dX10_judgePart_315 : decode cX10_judgePart 315 = .ok (.iaload, 1) := by decide +kernel
theorem dX10_judgePart_316 : decode cX10_judgePart 316 = .ok (.bipush (-9), 2) := by decide +kernel
theorem dX10_judgePart_318 : decode cX10_judgePart 318 = .ok (.if_icmp .eq 219, 3) := by decide +kernel
theorem dX10_judgePart_321 : decode cX10_judgePart 321 = .ok (.aload_n 0, 1) := by decide +kernel
theorem dX10_judgePart_322 : decode cX10_judgePart 322 = .ok (.getfield 130, 3) := by decide +kernel
theorem dX10_judgePart_325 : decode cX10_judgePart 325 = .ok (.aload_n 0, 1) := by decide +kernel
theorem dX10_judgePart_326 : decode cX10_judgePart 326 = .ok (.getfield 115, 3) := by decide +kernel
theorem dX10_judgePart_329 : decode cX10_judgePart 329 = .ok (.iload_n 1, 1) := by decide +kernel
theorem dX10_judgePart_330 : decode cX10_judgePart 330 = .ok (.iaload, 1) := by decide +kernel
theorem dX10_judgePart_331 : decode cX10_judgePart 331 = .ok (.iaload, 1) := by decide +kernel
theorem dX10_judgePart_332 : decode cX10_judgePart 332 = .ok (.bipush (-9), 2) := by decide +kernel
theorem dX10_judgePart_334 : decode cX10_judgePart 334 = .ok (.if_icmp .ne 6, 3) := by decide +kernel
theorem dX10_judgePart_337 : decode cX10_judgePart 337 = .ok (.goto 200, 3) := by decide +kernel
theorem dX10_judgePart_340 : decode cX10_judgePart 340 = .ok (.aload_n 0, 1) := by decide +kernel
theorem dX10_judgePart_341 : decode cX10_judgePart 341 = .ok (.getfield 130, 3) := by decide +kernel
theorem dX10_judgePart_344 : decode cX10_judgePart 344 = .ok (.aload_n 0, 1) := by decide +kernel
theorem dX10_judgePart_345 : decode cX10_judgePart 345 = .ok (.getfield 109, 3) := by decide +kernel
theorem dX10_judgePart_348 : decode cX10_judgePart 348 = .ok (.iload_n 1, 1) := by decide +kernel
theorem dX10_judgePart_349 : decode cX10_judgePart 349 = .ok (.iaload, 1) := by decide +kernel
theorem dX10_judgePart_350 : decode cX10_judgePart 350 = .ok (.iaload, 1) := by decide +kernel
theorem dX10_judgePart_351 : decode cX10_judgePart 351 = .ok (.bipush (-2), 2) := by decide +kernel
theorem dX10_judgePart_353 : decode cX10_judgePart 353 = .ok (.if_icmp .ne 42, 3) := by decide +kernel
theorem dX10_judgePart_356 : decode cX10_judgePart 356 = .ok (.aload_n 0, 1) := by decide +kernel
theorem dX10_judgePart_357 : decode cX10_judgePart 357 = .ok (.aload_n 0, 1) := by decide +kernel
theorem dX10_judgePart_358 : decode cX10_judgePart 358 = .ok (.getfield 112, 3) := by decide +kernel
theorem dX10_judgePart_361 : decode cX10_judgePart 361 = .ok (.iload_n 1, 1) := by decide +kernel
theorem dX10_judgePart_362 : decode cX10_judgePart 362 = .ok (.iaload, 1) := by decide +kernel
theorem dX10_judgePart_363 : decode cX10_judgePart 363 = .ok (.aload_n 0, 1) := by decide +kernel
theorem dX10_judgePart_364 : decode cX10_judgePart 364 = .ok (.getfield 115, 3) := by decide +kernel
theorem dX10_judgePart_367 : decode cX10_judgePart 367 = .ok (.iload_n 1, 1) := by decide +kernel
theorem dX10_judgePart_368 : decode cX10_judgePart 368 = .ok (.iaload, 1) := by decide +kernel
theorem dX10_judgePart_369 : decode cX10_judgePart 369 = .ok (.invokevirtual 489, 3) := by decide +kernel
theorem dX10_judgePart_372 : decode cX10_judgePart 372 = .ok (.ifCond .eq 23, 3) := by decide +kernel
theorem dX10_judgePart_375 : decode cX10_judgePart 375 = .ok (.aload_n 0, 1) := by decide +kernel
theorem dX10_judgePart_376 : decode cX10_judgePart 376 = .ok (.iload_n 1, 1) := by decide +kernel
theorem dX10_judgePart_377 : decode cX10_judgePart 377 = .ok (.aload_n 0, 1) := by decide +kernel
theorem dX10_judgePart_378 : decode cX10_judgePart 378 = .ok (.getfield 442, 3) := by decide +kernel
theorem dX10_judgePart_381 : decode cX10_judgePart 381 = .ok (.aload_n 0, 1) := by decide +kernel
theorem dX10_judgePart_382 : decode cX10_judgePart 382 = .ok (.getfield 450, 3) := by decide +kernel
theorem dX10_judgePart_385 : decode cX10_judgePart 385 = .ok (.aload_n 0, 1) := by decide +kernel
theorem dX10_judgePart_386 : decode cX10_judgePart 386 = .ok (.getfield 453, 3) := by decide +kernel
theorem dX10_judgePart_389 : decode cX10_judgePart 389 = .ok (.invokevirtual 482, 3) := by decide +kernel
theorem dX10_judgePart_392 : decode cX10_judgePart 392 = .ok (.goto 145, 3) := by decide +kernel
theorem dX10_judgePart_395 : decode cX10_judgePart 395 = .ok (.aload_n 0, 1) := by decide +kernel
theorem dX10_judgePart_396 : decode cX10_judgePart 396 = .ok (.iload_n 1, 1) := by decide +kernel
theorem dX10_judgePart_397 : decode cX10_judgePart 397 = .ok (.invokevirtual 486, 3) := by decide +kernel
theorem dX10_judgePart_400 : decode cX10_judgePart 400 = .ok (.goto 137, 3) := by decide +kernel
theorem dX10_judgePart_403 : decode cX10_judgePart 403 = .ok (.aload_n 0, 1) := by decide +kernel
theorem dX10_judgePart_404 : decode cX10_judgePart 404 = .ok (.aload_n 0, 1) := by decide +kernel
theorem dX10_judgePart_405 : decode cX10_judgePart 405 = .ok (.getfield 109, 3) := by decide +kernel
theorem dX10_judgePart_408 : decode cX10_judgePart 408 = .ok (.iload_n 1, 1) := by decide +kernel
theorem dX10_judgePart_409 : decode cX10_judgePart 409 = .ok (.iaload, 1) := by decide +kernel
theorem dX10_judgePart_410 : decode cX10_judgePart 410 = .ok (.invokevirtual 476, 3) := by decide +kernel
theorem dX10_judgePart_413 : decode cX10_judgePart 413 = .ok (.aload_n 0, 1) := by decide +kernel
theorem dX10_judgePart_414 : decode cX10_judgePart 414 = .ok (.getfield 130, 3) := by decide +kernel
theorem dX10_judgePart_417 : decode cX10_judgePart 417 = .ok (.aload_n 0, 1) := by decide +kernel
theorem dX10_judgePart_418 : decode cX10_judgePart 418 = .ok (.getfield 109, 3) := by decide +kernel
theorem dX10_judgePart_421 : decode cX10_judgePart 421 = .ok (.iload_n 1, 1) := by decide +kernel
theorem dX10_judgePart_422 : decode cX10_judgePart 422 = .ok (.iaload, 1) := by decide +kernel
theorem dX10_judgePart_423 : decode cX10_judgePart 423 = .ok (.iaload, 1) := by decide +kernel
theorem dX10_judgePart_424 : decode cX10_judgePart 424 = .ok (.bipush (-2), 2) := by decide +kernel
theorem dX10_judgePart_426 : decode cX10_judgePart 426 = .ok (.if_icmp .ne 15, 3) := by decide +kernel
theorem dX10_judgePart_429 : decode cX10_judgePart 429 = .ok (.aload_n 0, 1) := by decide +kernel
theorem dX10_judgePart_430 : decode cX10_judgePart 430 = .ok (.iload_n 1, 1) := by decide +kernel
theorem dX10_judgePart_431 : decode cX10_judgePart 431 = .ok (.bipush (-2), 2) := by decide +kernel
theorem dX10_judgePart_433 : decode cX10_judgePart 433 = .ok (.iconst 0, 1) := by decide +kernel
theorem dX10_judgePart_434 : decode cX10_judgePart 434 = .ok (.iconst 0, 1) := by decide +kernel
theorem dX10_judgePart_435 : decode cX10_judgePart 435 = .ok (.invokevirtual 482, 3) := by decide +kernel
theorem dX10_judgePart_438 : decode cX10_judgePart 438 = .ok (.goto 99, 3) := by decide +kernel
theorem dX10_judgePart_441 : decode cX10_judgePart 441 = .ok (.aload_n 0, 1) := by decide +kernel
theorem dX10_judgePart_442 : decode cX10_judgePart 442 = .ok (.getfield 130, 3) := by decide +kernel
theorem dX10_judgePart_445 : decode cX10_judgePart 445 = .ok (.aload_n 0, 1) := by decide +kernel
theorem dX10_judgePart_446 : decode cX10_judgePart 446 = .ok (.getfield 109, 3) := by decide +kernel
theorem dX10_judgePart_449 : decode cX10_judgePart 449 = .ok (.iload_n 1, 1) := by decide +kernel
theorem dX10_judgePart_450 : decode cX10_judgePart 450 = .ok (.iaload, 1) := by decide +kernel
theorem dX10_judgePart_451 : decode cX10_judgePart 451 = .ok (.iaload, 1) := by decide +kernel
theorem dX10_judgePart_452 : decode cX10_judgePart 452 = .ok (.bipush (-9), 2) := by decide +kernel
theorem dX10_judgePart_454 : decode cX10_judgePart 454 = .ok (.if_icmp .eq 83, 3) := by decide +kernel
theorem dX10_judgePart_457 : decode cX10_judgePart 457 = .ok (.aload_n 0, 1) := by decide +kernel
theorem dX10_judgePart_458 : decode cX10_judgePart 458 = .ok (.iload_n 1, 1) := by decide +kernel
theorem dX10_judgePart_459 : decode cX10_judgePart 459 = .ok (.invokevirtual 486, 3) := by decide +kernel
theorem dX10_judgePart_462 : decode cX10_judgePart 462 = .ok (.goto 75, 3) := by decide +kernel
theorem dX10_judgePart_465 : decode cX10_judgePart 465 = .ok (.aload_n 0, 1) := by decide +kernel
theorem dX10_judgePart_466 : decode cX10_judgePart 466 = .ok (.aload_n 0, 1) := by decide +kernel
theorem dX10_judgePart_467 : decode cX10_judgePart 467 = .ok (.getfield 109, 3) := by decide +kernel
theorem dX10_judgePart_470 : decode cX10_judgePart 470 = .ok (.iload_n 1, 1) := by decide +kernel
theorem dX10_judgePart_471 : decode cX10_judgePart 471 = .ok (.iaload, 1) := by decide +kernel
theorem dX10_judgePart_472 : decode cX10_judgePart 472 = .ok (.invokevirtual 476, 3) := by decide +kernel
theorem dX10_judgePart_475 : decode cX10_judgePart 475 = .ok (.aload_n 0, 1) := by decide +kernel
theorem dX10_judgePart_476 : decode cX10_judgePart 476 = .ok (.getfield 130, 3) := by decide +kernel
theorem dX10_judgePart_479 : decode cX10_judgePart 479 = .ok (.aload_n 0, 1) := by decide +kernel
theorem dX10_judgePart_480 : decode cX10_judgePart 480 = .ok (.getfield 109, 3) := by decide +kernel
theorem dX10_judgePart_483 : decode cX10_judgePart 483 = .ok (.iload_n 1, 1) := by decide +kernel
theorem dX10_judgePart_484 : decode cX10_judgePart 484 = .ok (.iaload, 1) := by decide +kernel
theorem dX10_judgePart_485 : decode cX10_judgePart 485 = .ok (.iaload, 1) := by decide +kernel
theorem dX10_judgePart_486 : decode cX10_judgePart 486 = .ok (.bipush (-2), 2) := by decide +kernel
theorem dX10_judgePart_488 : decode cX10_judgePart 488 = .ok (.if_icmp .ne 11, 3) := by decide +kernel
theorem dX10_judgePart_491 : decode cX10_judgePart 491 = .ok (.aload_n 0, 1) := by decide +kernel
theorem dX10_judgePart_492 : decode cX10_judgePart 492 = .ok (.iload_n 1, 1) := by decide +kernel
theorem dX10_judgePart_493 : decode cX10_judgePart 493 = .ok (.invokevirtual 486, 3) := by decide +kernel
theorem dX10_judgePart_496 : decode cX10_judgePart 496 = .ok (.goto 41, 3) := by decide +kernel
theorem dX10_judgePart_499 : decode cX10_judgePart 499 = .ok (.aload_n 0, 1) := by decide +kernel
theorem dX10_judgePart_500 : decode cX10_judgePart 500 = .ok (.iload_n 1, 1) := by decide +kernel
theorem dX10_judgePart_501 : decode cX10_judgePart 501 = .ok (.aload_n 0, 1) := by decide +kernel
theorem dX10_judgePart_502 : decode cX10_judgePart 502 = .ok (.getfield 130, 3) := by decide +kernel
theorem dX10_judgePart_505 : decode cX10_judgePart 505 = .ok (.aload_n 0, 1) := by decide +kernel
theorem dX10_judgePart_506 : decode cX10_judgePart 506 = .ok (.getfield 109, 3) := by decide +kernel
theorem dX10_judgePart_509 : decode cX10_judgePart 509 = .ok (.iload_n 1, 1) := by decide +kernel
theorem dX10_judgePart_510 : decode cX10_judgePart 510 = .ok (.iaload, 1) := by decide +kernel
theorem dX10_judgePart_511 : decode cX10_judgePart 511 = .ok (.iaload, 1) := by decide +kernel
theorem dX10_judgePart_512 : decode cX10_judgePart 512 = .ok (.aload_n 0, 1) := by decide +kernel
theorem dX10_judgePart_513 : decode cX10_judgePart 513 = .ok (.getfield 133, 3) := by decide +kernel
theorem dX10_judgePart_516 : decode cX10_judgePart 516 = .ok (.aload_n 0, 1) := by decide +kernel
theorem dX10_judgePart_517 : decode cX10_judgePart 517 = .ok (.getfield 109, 3) := by decide +kernel
theorem dX10_judgePart_520 : decode cX10_judgePart 520 = .ok (.iload_n 1, 1) := by decide +kernel
theorem dX10_judgePart_521 : decode cX10_judgePart 521 = .ok (.iaload, 1) := by decide +kernel
theorem dX10_judgePart_522 : decode cX10_judgePart 522 = .ok (.iaload, 1) := by decide +kernel
theorem dX10_judgePart_523 : decode cX10_judgePart 523 = .ok (.aload_n 0, 1) := by decide +kernel
theorem dX10_judgePart_524 : decode cX10_judgePart 524 = .ok (.getfield 136, 3) := by decide +kernel
theorem dX10_judgePart_527 : decode cX10_judgePart 527 = .ok (.aload_n 0, 1) := by decide +kernel
theorem dX10_judgePart_528 : decode cX10_judgePart 528 = .ok (.getfield 109, 3) := by decide +kernel
theorem dX10_judgePart_531 : decode cX10_judgePart 531 = .ok (.iload_n 1, 1) := by decide +kernel
theorem dX10_judgePart_532 : decode cX10_judgePart 532 = .ok (.iaload, 1) := by decide +kernel
theorem dX10_judgePart_533 : decode cX10_judgePart 533 = .ok (.iaload, 1) := by decide +kernel
theorem dX10_judgePart_534 : decode cX10_judgePart 534 = .ok (.invokevirtual 482, 3) := by decide +kernel
theorem dX10_judgePart_537 : decode cX10_judgePart 537 = .ok (.return_, 1) := by decide +kernel
/-! AlgebraHouseModel.judgePart(I)V -/
def P_X10_judgePart_159 (rec : Nat → List Int → MM → (Int → MM → Prop) → (MM → Prop) → Prop) (Q : Int → MM → Prop) (T : MM → Prop) (x1 : Int) (m : MM) : Prop := (0 ≤ x1 ∧ x1 < 12000) ∧ P_X10_note 3 (m 595 x1) m (fun r1 m1 => Q 0 m1)
def P_X10_judgePart_395 (rec : Nat → List Int → MM → (Int → MM → Prop) → (MM → Prop) → Prop) (Q : Int → MM → Prop) (T : MM → Prop) (x1 : Int) (m : MM) : Prop := P_X10_wrong x1 m (fun r1 m1 => Q 0 m1)
def W_X10_judgePart (rec : Nat → List Int → MM → (Int → MM → Prop) → (MM → Prop) → Prop) (x1 : Int) (m : MM) (Q : Int → MM → Prop) (T : MM → Prop) : Prop := (0 ≤ x1 ∧ x1 < 12000) ∧ ∀ m1 : MM, m1 = up m 598 x1 (-9) → ((RI (m1 590 x1))) ∧ ∀ m2 : MM, m2 = up m1 597 x1 (if (m1 590 x1) = 4 then (-1) else (m1 597 x1) : Int) → (RI (m2 590 x1)) ∧ (if (m2 590 x1) = 0 then P_X10_setRing x1 0 0 0 m2 (fun r1 m3 => Q 0 m3) else (if (m2 590 x1) = 1 then P_X10_setRing x1 0 1 0 m2 (fun r2 m4 => Q 0 m4) else (if (m2 590 x1) = 2 then P_X10_setRing x1 0 2 0 m2 (fun r3 m5 => Q 0 m5) else (if (m2 590 x1) = 3 then ∀ m6 : MM, m6 = up m2 598 x1 (-9) → (RI (m6 582 61)) ∧ (if 0 ≤ (m6 582 61) then P_X10_judgePart_159 rec Q T x1 m6 else (RI (m6 582 34)) ∧ (RL (m6 605 x1)) ∧ (RL (m6 582 34)) ∧ (if (m6 605 x1) < (m6 582 34) then ∀ m7 : MM, m7 = up m6 597 x1 (m6 605 x1) → (0 ≤ (m7 597 x1) ∧ (m7 597 x1) < 200) ∧ P_X10_setRing x1 (m7 626 (m7 597 x1)) (m7 627 (m7 597 x1)) (m7 628 (m7 597 x1)) m7 (fun r4 m8 => Q 0 m8) else P_X10_judgePart_159 rec Q T x1 m6)) else (if (m2 590 x1) = 4 then P_X10_judgeName x1 m2 (fun r5 m9 => Q 0 m9) else (if (m2 590 x1) = 5 then rec 2 [x1] m2 (fun r6 m10 => Q 0 m10) T else (if (m2 590 x1) = 6 then rec 1 [x1] m2 (fun r7 m11 => Q 0 m11) T else (if (m2 590 x1) = 7 then rec 4 [x1] m2 (fun r8 m12 => Q 0 m12) T else (if (m2 590 x1) = 8 then rec 0 [(m2 591 x1)] m2 (fun r9 m13 => rec 0 [(m13 592 x1)] m13 (fun r10 m14 => rec 0 [(m14 593 x1)] m14 (fun r11 m15 => (0 ≤ (m15 591 x1) ∧ (m15 591 x1) < 12000) ∧ (RI (m15 598 (m15 591 x1))) ∧ (if (m15 598 (m15 591 x1)) = (-9) then Q 0 m15 else (0 ≤ (m15 592 x1) ∧ (m15 592 x1) < 12000) ∧ (RI (m15 598 (m15 592 x1))) ∧ (if (m15 598 (m15 592 x1)) = (-9) then Q 0 m15 else (0 ≤ (m15 593 x1) ∧ (m15 593 x1) < 12000) ∧ (RI (m15 598 (m15 593 x1))) ∧ (if (m15 598 (m15 593 x1)) = (-9) then Q 0 m15 else (if (m15 598 (m15 591 x1)) = (-2) then P_X10_joinsParts (m15 592 x1) (m15 593 x1) m15 (fun r12 m16 => (RI r12) ∧ (if r12 = 0 then P_X10_judgePart_395 rec Q T x1 m16 else P_X10_setRing x1 (m16 582 65) (m16 582 66) (m16 582 67) m16 (fun r13 m17 => Q 0 m17))) else P_X10_judgePart_395 rec Q T x1 m15))))) T) T) T else (if (m2 590 x1) = 9 then rec 0 [(m2 591 x1)] m2 (fun r14 m18 => (0 ≤ (m18 591 x1) ∧ (m18 591 x1) < 12000) ∧ (RI (m18 598 (m18 591 x1))) ∧ (if (m18 598 (m18 591 x1)) = (-2) then P_X10_setRing x1 (-2) 0 0 m18 (fun r16 m20 => Q 0 m20) else (if (m18 598 (m18 591 x1)) = (-9) then Q 0 m18 else P_X10_wrong x1 m18 (fun r15 m19 => Q 0 m19)))) T else rec 0 [(m2 591 x1)] m2 (fun r17 m21 => (0 ≤ (m21 591 x1) ∧ (m21 591 x1) < 12000) ∧ (RI (m21 598 (m21 591 x1))) ∧ (if (m21 598 (m21 591 x1)) = (-2) then P_X10_wrong x1 m21 (fun r19 m23 => Q 0 m23) else P_X10_setRing x1 (m21 598 (m21 591 x1)) (m21 599 (m21 591 x1)) (m21 600 (m21 591 x1)) m21 (fun r18 m22 => Q 0 m22))) T))))))))))
def HR_X10_judge (rec : Nat → List Int → MM → (Int → MM → Prop) → (MM → Prop) → Prop) (fr : Nat) : Prop := (∀ (x1 : Int) (m : MM) (Q : Int → MM → Prop) (T : MM → Prop), rec 0 [x1] m Q T → CC fr M_X10_judge [vR 582, vI x1] m Q T) ∧ (∀ (x1 : Int) (m : MM) (Q : Int → MM → Prop) (T : MM → Prop), rec 1 [x1] m Q T → CC fr M_X10_judgeBuilt [vR 582, vI x1] m Q T) ∧ (∀ (x1 : Int) (m : MM) (Q : Int → MM → Prop) (T : MM → Prop), rec 2 [x1] m Q T → CC fr M_X10_judgeCall [vR 582, vI x1] m Q T) ∧ (∀ (x1 : Int) (m : MM) (Q : Int → MM → Prop) (T : MM → Prop), rec 3 [x1] m Q T → CC fr M_X10_judgeLeft [vR 582, vI x1] m Q T) ∧ (∀ (x1 : Int) (m : MM) (Q : Int → MM → Prop) (T : MM → Prop), rec 4 [x1] m Q T → CC fr M_X10_judgeMatrix [vR 582, vI x1] m Q T) ∧ (∀ (x1 : Int) (m : MM) (Q : Int → MM → Prop) (T : MM → Prop), rec 5 [x1] m Q T → CC fr M_X10_judgePart [vR 582, vI x1] m Q T) ∧ True
theorem pl_X10_judge_54 {f : Nat} {Q : Int → MM → Prop} {T : MM → Prop} {rec : Nat → List Int → MM → (Int → MM → Prop) → (MM → Prop) → Prop} {fr : Nat} (hrec : HR_X10_judge rec fr) (hf : 24 ≤ f ∧ fr + 1 ≤ f) : ∀ (n : Nat) (x2 : Int) (m : MM), P_X10_judge_54 rec Q T n x2 m → B f M_X10_judge 54 [vR 582, vU, vI x2, vU] [] m Q T := by
  intro n
  induction n with
  | zero => intro x2 m h; exact h.elim
  | succ n ih =>
    intro x2 m h
    have h : (RI (m 582 68)) ∧ (RI x2) ∧ (if (m 582 68) ≤ x2 then Q 0 m else ∀ m1 : MM, m1 = up m 582 68 ((m 582 68) - 1) → (0 ≤ (m1 582 68) ∧ (m1 582 68) < 5000) ∧ rec 3 [(m1 631 (m1 582 68))] m1 (fun r1 m2 => P_X10_judge_54 rec Q T n x2 m2) T) := h
    refine b_aload_n dX10_judge_54 rfl ?_
    refine b_getI dX10_judge_55 fk_X10_460 ly_582 ?_
    refine b_iload_n dX10_judge_58 rfl ?_
    obtain ⟨g1, h⟩ := h
    obtain ⟨g2, h⟩ := h
    refine b_icmp_le 88 dX10_judge_59 g1 g2 (by decide) (fun c1 => ?_) (fun c1 => ?_)
    · have h := ifT c1 h
      exact b_vret dX10_judge_88 rfl h
    · have h := ifF c1 h
      refine b_aload_n dX10_judge_62 rfl ?_
      refine b_dup dX10_judge_63 rfl ?_
      refine b_getI dX10_judge_64 fk_X10_460 ly_582 ?_
      refine b_iconst dX10_judge_67 ?_
      refine b_isub dX10_judge_68 ?_
      refine b_putI dX10_judge_69 fk_X10_460 ly_582 (fun m1 em1 => ?_)
      have h := h m1 em1
      refine b_aload_n dX10_judge_72 rfl ?_
      refine b_aload_n dX10_judge_73 rfl ?_
      refine b_getR dX10_judge_74 fk_X10_237 ly_582 gg_582_69 ?_
      refine b_aload_n dX10_judge_77 rfl ?_
      refine b_getI dX10_judge_78 fk_X10_460 ly_582 ?_
      obtain ⟨g3, h⟩ := h
      refine b_iald dX10_judge_81 ly_631 g3 ?_
      refine b_cVv (as := [vI (m1 631 (m1 582 68))]) (st := []) dX10_judge_82 mf_X10_judgeLeft qs152 lk_X10_469 ly_582 rfl (hrec.2.2.2.1 _ _ _ _ h) (by omega) rfl rfl (Nat.le_of_ble_eq_true rfl) (by decide) rfl (fun _ => rfl) (fun r1 m2 h => ?_) (fun _ h => h)
      refine b_goto 54 dX10_judge_85 (by decide) ?_
      exact ih _ _ h
theorem pl_X10_judge_49 {f : Nat} {Q : Int → MM → Prop} {T : MM → Prop} {rec : Nat → List Int → MM → (Int → MM → Prop) → (MM → Prop) → Prop} {fr : Nat} (hrec : HR_X10_judge rec fr) (hf : 24 ≤ f ∧ fr + 1 ≤ f) : ∀ (x2 : Int) (x3 : Int) (m : MM), P_X10_judge_49 rec Q T x2 x3 m → B f M_X10_judge 49 [vR 582, vU, vI x2, vI x3] [] m Q T := by
  intro x2 x3 m h
  have h : rec 5 [x3] m (fun r1 m1 => ∃ nn, P_X10_judge_54 rec Q T nn x2 m1) T := h
  refine b_aload_n dX10_judge_49 rfl ?_
  refine b_iload_n dX10_judge_50 rfl ?_
  refine b_cVv (as := [vI x3]) (st := []) dX10_judge_51 mf_X10_judgePart qs135 lk_X10_466 ly_582 rfl (hrec.2.2.2.2.2.1 _ _ _ _ h) (by omega) rfl rfl (Nat.le_of_ble_eq_true rfl) (by decide) rfl (fun _ => rfl) (fun r1 m1 h => ?_) (fun _ h => h)
  refine b_fgt [true, false, true, false] (ls' := [vR 582, vU, vI x2, vU]) rfl rfl ?_
  obtain ⟨nn, h⟩ := h
  exact pl_X10_judge_54 hrec hf nn _ _ h
theorem pl_X10_judge_7 {f : Nat} {Q : Int → MM → Prop} {T : MM → Prop} {rec : Nat → List Int → MM → (Int → MM → Prop) → (MM → Prop) → Prop} {fr : Nat} (hrec : HR_X10_judge rec fr) (hf : 24 ≤ f ∧ fr + 1 ≤ f) : ∀ (n : Nat) (x2 : Int) (x3 : Int) (m : MM), P_X10_judge_7 rec Q T n x2 x3 m → B f M_X10_judge 7 [vR 582, vU, vI x2, vI x3] [] m Q T := by
  intro n
  induction n with
  | zero => intro x2 x3 m h; exact h.elim
  | succ n ih =>
    intro x2 x3 m h
    have h : (0 ≤ x3 ∧ x3 < 12000) ∧ P_X10_isLeft (m 590 x3) m (fun r1 m1 => (RI r1) ∧ (if r1 = 0 then P_X10_judge_49 rec Q T x2 x3 m1 else (0 ≤ (m1 582 68) ∧ (m1 582 68) < 5000) ∧ ∀ m2 : MM, m2 = up m1 631 (m1 582 68) x3 → ∀ m3 : MM, m3 = up m2 582 68 ((m2 582 68) + 1) → P_X10_judge_7 rec Q T n x2 (m3 591 x3) m3)) := h
    refine b_aload_n dX10_judge_7 rfl ?_
    refine b_getR dX10_judge_8 fk_X10_106 ly_582 gg_582_16 ?_
    refine b_iload_n dX10_judge_11 rfl ?_
    obtain ⟨g1, h⟩ := h
    refine b_iald dX10_judge_12 ly_590 g1 ?_
    refine b_cSi (as := [vI (m 590 x3)]) (st := []) dX10_judge_13 mf_X10_isLeft lk_X10_463 (p_X10_isLeft (f := 1) (Nat.le_refl _) _ _ h) (by omega) rfl rfl (Nat.le_of_ble_eq_true rfl) (by decide) rfl (fun _ => rfl) (fun r1 m1 h => ?_) (fun _ h => h)
    obtain ⟨g2, h⟩ := h
    refine b_if_eq 49 dX10_judge_16 g2 (by decide) (fun c1 => ?_) (fun c1 => ?_)
    · have h := ifT c1 h
      exact pl_X10_judge_49 hrec hf _ _ _ h
    · have h := ifF c1 h
      refine b_aload_n dX10_judge_19 rfl ?_
      refine b_getR dX10_judge_20 fk_X10_237 ly_582 gg_582_69 ?_
      refine b_aload_n dX10_judge_23 rfl ?_
      refine b_getI dX10_judge_24 fk_X10_460 ly_582 ?_
      refine b_iload_n dX10_judge_27 rfl ?_
      obtain ⟨g3, h⟩ := h
      refine b_iast dX10_judge_28 ly_631 g3 (fun m2 em2 => ?_)
      have h := h m2 em2
      refine b_aload_n dX10_judge_29 rfl ?_
      refine b_dup dX10_judge_30 rfl ?_
      refine b_getI dX10_judge_31 fk_X10_460 ly_582 ?_
      refine b_iconst dX10_judge_34 ?_
      refine b_iadd dX10_judge_35 ?_
      refine b_putI dX10_judge_36 fk_X10_460 ly_582 (fun m3 em3 => ?_)
      have h := h m3 em3
      refine b_aload_n dX10_judge_39 rfl ?_
      refine b_getR dX10_judge_40 fk_X10_109 ly_582 gg_582_17 ?_
      refine b_iload_n dX10_judge_43 rfl ?_
      refine b_iald dX10_judge_44 ly_591 g1 ?_
      refine b_istore_n (ls' := [vR 582, vU, vI x2, vI (m3 591 x3)]) dX10_judge_45 (Nat.le_of_ble_eq_true rfl) rfl ?_
      refine b_goto 7 dX10_judge_46 (by decide) ?_
      exact ih _ _ _ h
theorem w_X10_judge {f : Nat} {Q : Int → MM → Prop} {T : MM → Prop} {rec : Nat → List Int → MM → (Int → MM → Prop) → (MM → Prop) → Prop} {fr : Nat} (hrec : HR_X10_judge rec fr) (hf : 24 ≤ f ∧ fr + 1 ≤ f) (x1 : Int) (m : MM) (h : W_X10_judge rec x1 m Q T) : CC f M_X10_judge [vR 582, vI x1] m Q T := by
  refine CC.of (plainFor_of_name (by decide)) (Nat.le_of_ble_eq_true rfl) (ls := [vR 582, vI x1, vU, vU]) rfl ?_
  have h : ∃ nn, P_X10_judge_7 rec Q T nn (m 582 68) x1 m := h
  refine b_aload_n dX10_judge_0 rfl ?_
  refine b_getI dX10_judge_1 fk_X10_460 ly_582 ?_
  refine b_istore_n (ls' := [vR 582, vI x1, vI (m 582 68), vU]) dX10_judge_4 (Nat.le_of_ble_eq_true rfl) rfl ?_
  refine b_iload_n dX10_judge_5 rfl ?_
  refine b_istore_n (ls' := [vR 582, vI x1, vI (m 582 68), vI x1]) dX10_judge_6 (Nat.le_of_ble_eq_true rfl) rfl ?_
  refine b_fgt [true, false, true, true] (ls' := [vR 582, vU, vI (m 582 68), vI x1]) rfl rfl ?_
  obtain ⟨nn, h⟩ := h
  exact pl_X10_judge_7 hrec hf nn _ _ _ h
theorem pl_X10_judgeBuilt_698 {f : Nat} {Q : Int → MM → Prop} {T : MM → Prop} {rec : Nat → List Int → MM → (Int → MM → Prop) → (MM → Prop) → Prop} {fr : Nat} (hrec : HR_X10_judge rec fr) (hf : 24 ≤ f ∧ fr + 1 ≤ f) : ∀ (x1 : Int) (x12 : Int) (m : MM), P_X10_judgeBuilt_698 rec Q T x1 x12 m → B f M_X10_judgeBuilt 698 [vR 582, vI x1, vU, vU, vU, vU, vU, vU, vU, vU, vU, vU, vI x12] [] m Q T := by
  intro x1 x12 m h
  have h : (RI x12) ∧ (if x12 = 0 then P_X10_wrong x1 m (fun r1 m1 => Q 0 m1) else Q 0 m) := h
  refine b_iload dX10_judgeBuilt_698 rfl ?_
  obtain ⟨g1, h⟩ := h
  refine b_if_ne 708 dX10_judgeBuilt_700 g1 (by decide) (fun c1 => ?_) (fun c1 => ?_)
  · have h := ifF c1 h
    exact b_vret dX10_judgeBuilt_708 rfl h
  · have h := ifT (Decidable.of_not_not c1) h
    refine b_aload_n dX10_judgeBuilt_703 rfl ?_
    refine b_iload_n dX10_judgeBuilt_704 rfl ?_
    refine b_cVv (as := [vI x1]) (st := []) dX10_judgeBuilt_705 mf_X10_wrong qs146 lk_X10_486 ly_582 rfl (p_X10_wrong (f := 2) (Nat.le_refl _) _ _ h) (by omega) rfl rfl (Nat.le_of_ble_eq_true rfl) (by decide) rfl (fun _ => rfl) (fun r1 m1 h => ?_) (fun _ h => h)
    exact b_vret dX10_judgeBuilt_708 rfl h
theorem pl_X10_judgeBuilt_322 {f : Nat} {Q : Int → MM → Prop} {T : MM → Prop} {rec : Nat → List Int → MM → (Int → MM → Prop) → (MM → Prop) → Prop} {fr : Nat} (hrec : HR_X10_judge rec fr) (hf : 24 ≤ f ∧ fr + 1 ≤ f) : ∀ (x1 : Int) (m : MM), P_X10_judgeBuilt_322 rec Q T x1 m → B f M_X10_judgeBuilt 322 [vR 582, vI x1, vU, vU, vU, vU, vU, vU, vU, vU, vU, vU, vU] [] m Q T := by
  intro x1 m h
  have h : P_X10_setRing x1 (m 582 65) (m 582 66) (m 582 67) m (fun r1 m1 => P_X10_judgeBuilt_698 rec Q T x1 0 m1) := h
  refine b_iconst dX10_judgeBuilt_322 ?_
  refine b_istore (ls' := [vR 582, vI x1, vU, vU, vU, vU, vU, vU, vU, vU, vU, vU, vI 0]) dX10_judgeBuilt_323 (Nat.le_of_ble_eq_true rfl) rfl ?_
  refine b_aload_n dX10_judgeBuilt_325 rfl ?_
  refine b_iload_n dX10_judgeBuilt_326 rfl ?_
  refine b_aload_n dX10_judgeBuilt_327 rfl ?_
  refine b_getI dX10_judgeBuilt_328 fk_X10_442 ly_582 ?_
  refine b_aload_n dX10_judgeBuilt_331 rfl ?_
  refine b_getI dX10_judgeBuilt_332 fk_X10_450 ly_582 ?_
  refine b_aload_n dX10_judgeBuilt_335 rfl ?_
  refine b_getI dX10_judgeBuilt_336 fk_X10_453 ly_582 ?_
  refine b_cVv (as := [vI x1, vI (m 582 65), vI (m 582 66), vI (m 582 67)]) (st := []) dX10_judgeBuilt_339 mf_X10_setRing qs128 lk_X10_482 ly_582 rfl (p_X10_setRing (f := 1) (Nat.le_refl _) _ _ _ _ _ h) (by omega) rfl rfl (Nat.le_of_ble_eq_true rfl) (by decide) rfl (fun _ => rfl) (fun r1 m1 h => ?_) (fun _ h => h)
  refine b_goto 698 dX10_judgeBuilt_342 (by decide) ?_
  exact pl_X10_judgeBuilt_698 hrec hf _ _ _ h
theorem pl_X10_judgeBuilt_379 {f : Nat} {Q : Int → MM → Prop} {T : MM → Prop} {rec : Nat → List Int → MM → (Int → MM → Prop) → (MM → Prop) → Prop} {fr : Nat} (hrec : HR_X10_judge rec fr) (hf : 24 ≤ f ∧ fr + 1 ≤ f) : ∀ (x1 : Int) (x8 : Int) (x9 : Int) (m : MM), P_X10_judgeBuilt_379 rec Q T x1 x8 x9 m → B f M_X10_judgeBuilt 379 [vR 582, vI x1, vU, vU, vU, vU, vU, vU, vI x8, vI x9, vU, vU, vU] [] m Q T := by
  intro x1 x8 x9 m h
  have h : P_X10_setRing x1 x8 (x9 - 1) 0 m (fun r1 m1 => P_X10_judgeBuilt_698 rec Q T x1 0 m1) := h
  refine b_iconst dX10_judgeBuilt_379 ?_
  refine b_istore (ls' := [vR 582, vI x1, vU, vU, vU, vU, vU, vU, vI x8, vI x9, vU, vU, vI 0]) dX10_judgeBuilt_380 (Nat.le_of_ble_eq_true rfl) rfl ?_
  refine b_aload_n dX10_judgeBuilt_382 rfl ?_
  refine b_iload_n dX10_judgeBuilt_383 rfl ?_
  refine b_iload dX10_judgeBuilt_384 rfl ?_
  refine b_iload dX10_judgeBuilt_386 rfl ?_
  refine b_iconst dX10_judgeBuilt_388 ?_
  refine b_isub dX10_judgeBuilt_389 ?_
  refine b_iconst dX10_judgeBuilt_390 ?_
  refine b_cVv (as := [vI x1, vI x8, vI (x9 - 1), vI 0]) (st := []) dX10_judgeBuilt_391 mf_X10_setRing qs128 lk_X10_482 ly_582 rfl (p_X10_setRing (f := 1) (Nat.le_refl _) _ _ _ _ _ h) (by omega) rfl rfl (Nat.le_of_ble_eq_true rfl) (by decide) rfl (fun _ => rfl) (fun r1 m1 h => ?_) (fun _ h => h)
  refine b_goto 698 dX10_judgeBuilt_394 (by decide) ?_
  refine b_fgt [true, true, false, false, false, false, false, false, false, false, false, false, true] (ls' := [vR 582, vI x1, vU, vU, vU, vU, vU, vU, vU, vU, vU, vU, vI 0]) rfl rfl ?_
  exact pl_X10_judgeBuilt_698 hrec hf _ _ _ h
theorem pl_X10_judgeBuilt_453 {f : Nat} {Q : Int → MM → Prop} {T : MM → Prop} {rec : Nat → List Int → MM → (Int → MM → Prop) → (MM → Prop) → Prop} {fr : Nat} (hrec : HR_X10_judge rec fr) (hf : 24 ≤ f ∧ fr + 1 ≤ f) : ∀ (x1 : Int) (m : MM), P_X10_judgeBuilt_453 rec Q T x1 m → B f M_X10_judgeBuilt 453 [vR 582, vI x1, vU, vU, vU, vU, vU, vU, vU, vU, vU, vU, vU] [] m Q T := by
  intro x1 m h
  have h : P_X10_setRing x1 (m 582 65) (m 582 66) (m 582 67) m (fun r1 m1 => P_X10_judgeBuilt_698 rec Q T x1 0 m1) := h
  refine b_iconst dX10_judgeBuilt_453 ?_
  refine b_istore (ls' := [vR 582, vI x1, vU, vU, vU, vU, vU, vU, vU, vU, vU, vU, vI 0]) dX10_judgeBuilt_454 (Nat.le_of_ble_eq_true rfl) rfl ?_
  refine b_aload_n dX10_judgeBuilt_456 rfl ?_
  refine b_iload_n dX10_judgeBuilt_457 rfl ?_
  refine b_aload_n dX10_judgeBuilt_458 rfl ?_
  refine b_getI dX10_judgeBuilt_459 fk_X10_442 ly_582 ?_
  refine b_aload_n dX10_judgeBuilt_462 rfl ?_
  refine b_getI dX10_judgeBuilt_463 fk_X10_450 ly_582 ?_
  refine b_aload_n dX10_judgeBuilt_466 rfl ?_
  refine b_getI dX10_judgeBuilt_467 fk_X10_453 ly_582 ?_
  refine b_cVv (as := [vI x1, vI (m 582 65), vI (m 582 66), vI (m 582 67)]) (st := []) dX10_judgeBuilt_470 mf_X10_setRing qs128 lk_X10_482 ly_582 rfl (p_X10_setRing (f := 1) (Nat.le_refl _) _ _ _ _ _ h) (by omega) rfl rfl (Nat.le_of_ble_eq_true rfl) (by decide) rfl (fun _ => rfl) (fun r1 m1 h => ?_) (fun _ h => h)
  refine b_goto 698 dX10_judgeBuilt_473 (by decide) ?_
  exact pl_X10_judgeBuilt_698 hrec hf _ _ _ h
theorem pl_X10_judgeBuilt_493 {f : Nat} {Q : Int → MM → Prop} {T : MM → Prop} {rec : Nat → List Int → MM → (Int → MM → Prop) → (MM → Prop) → Prop} {fr : Nat} (hrec : HR_X10_judge rec fr) (hf : 24 ≤ f ∧ fr + 1 ≤ f) : ∀ (x1 : Int) (x8 : Int) (x9 : Int) (x10 : Int) (m : MM), P_X10_judgeBuilt_493 rec Q T x1 x8 x9 x10 m → B f M_X10_judgeBuilt 493 [vR 582, vI x1, vU, vU, vU, vU, vU, vU, vI x8, vI x9, vI x10, vU, vU] [] m Q T := by
  intro x1 x8 x9 x10 m h
  have h : ((RI x10)) ∧ P_X10_setRing x1 x8 x9 0 m (fun r1 m1 => P_X10_judgeBuilt_698 rec Q T x1 (if x10 ≤ 0 then 0 else 1 : Int) m1) := h
  refine b_iload dX10_judgeBuilt_493 rfl ?_
  obtain ⟨hs, h⟩ := h
  have K : B f M_X10_judgeBuilt 503 [vR 582, vI x1, vU, vU, vU, vU, vU, vU, vI x8, vI x9, vI x10, vU, vU] [vI (if x10 ≤ 0 then 0 else 1 : Int)] m Q T := by
    clear hs
    refine b_istore (ls' := [vR 582, vI x1, vU, vU, vU, vU, vU, vU, vI x8, vI x9, vI x10, vU, vI (if x10 ≤ 0 then 0 else 1 : Int)]) dX10_judgeBuilt_503 (Nat.le_of_ble_eq_true rfl) rfl ?_
    refine b_aload_n dX10_judgeBuilt_505 rfl ?_
    refine b_iload_n dX10_judgeBuilt_506 rfl ?_
    refine b_iload dX10_judgeBuilt_507 rfl ?_
    refine b_iload dX10_judgeBuilt_509 rfl ?_
    refine b_iconst dX10_judgeBuilt_511 ?_
    refine b_cVv (as := [vI x1, vI x8, vI x9, vI 0]) (st := []) dX10_judgeBuilt_512 mf_X10_setRing qs128 lk_X10_482 ly_582 rfl (p_X10_setRing (f := 1) (Nat.le_refl _) _ _ _ _ _ h) (by omega) rfl rfl (Nat.le_of_ble_eq_true rfl) (by decide) rfl (fun _ => rfl) (fun r1 m1 h => ?_) (fun _ h => h)
    refine b_goto 698 dX10_judgeBuilt_515 (by decide) ?_
    refine b_fgt [true, true, false, false, false, false, false, false, false, false, false, false, true] (ls' := [vR 582, vI x1, vU, vU, vU, vU, vU, vU, vU, vU, vU, vU, vI (if x10 ≤ 0 then 0 else 1 : Int)]) rfl rfl ?_
    exact pl_X10_judgeBuilt_698 hrec hf _ _ _ h
  have g1 := hs
  refine b_if_le 502 dX10_judgeBuilt_495 g1 (by decide) (fun c1 => ?_) (fun c1 => ?_)
  ·
    refine b_iconst dX10_judgeBuilt_502 ?_
    exact Eq.mp (congrArg (fun z => B f M_X10_judgeBuilt 503 [vR 582, vI x1, vU, vU, vU, vU, vU, vU, vI x8, vI x9, vI x10, vU, vU] (vI z :: []) m Q T) (show (if x10 ≤ 0 then 0 else 1 : Int) = 0 by rw [if_pos c1])) K
  ·
    refine b_iconst dX10_judgeBuilt_498 ?_
    refine b_goto 503 dX10_judgeBuilt_499 (by decide) ?_
    exact Eq.mp (congrArg (fun z => B f M_X10_judgeBuilt 503 [vR 582, vI x1, vU, vU, vU, vU, vU, vU, vI x8, vI x9, vI x10, vU, vU] (vI z :: []) m Q T) (show (if x10 ≤ 0 then 0 else 1 : Int) = 1 by rw [if_neg c1])) K
theorem pl_X10_judgeBuilt_518 {f : Nat} {Q : Int → MM → Prop} {T : MM → Prop} {rec : Nat → List Int → MM → (Int → MM → Prop) → (MM → Prop) → Prop} {fr : Nat} (hrec : HR_X10_judge rec fr) (hf : 24 ≤ f ∧ fr + 1 ≤ f) : ∀ (x1 : Int) (x8 : Int) (x9 : Int) (x10 : Int) (m : MM), P_X10_judgeBuilt_518 rec Q T x1 x8 x9 x10 m → B f M_X10_judgeBuilt 518 [vR 582, vI x1, vU, vU, vU, vU, vU, vU, vI x8, vI x9, vI x10, vU, vU] [] m Q T := by
  intro x1 x8 x9 x10 m h
  have h : ((RI x10)) ∧ P_X10_setRing x1 x8 x9 x10 m (fun r1 m1 => P_X10_judgeBuilt_698 rec Q T x1 (if x10 ≤ 0 then 0 else 1 : Int) m1) := h
  refine b_iload dX10_judgeBuilt_518 rfl ?_
  obtain ⟨hs, h⟩ := h
  have K : B f M_X10_judgeBuilt 528 [vR 582, vI x1, vU, vU, vU, vU, vU, vU, vI x8, vI x9, vI x10, vU, vU] [vI (if x10 ≤ 0 then 0 else 1 : Int)] m Q T := by
    clear hs
    refine b_istore (ls' := [vR 582, vI x1, vU, vU, vU, vU, vU, vU, vI x8, vI x9, vI x10, vU, vI (if x10 ≤ 0 then 0 else 1 : Int)]) dX10_judgeBuilt_528 (Nat.le_of_ble_eq_true rfl) rfl ?_
    refine b_aload_n dX10_judgeBuilt_530 rfl ?_
    refine b_iload_n dX10_judgeBuilt_531 rfl ?_
    refine b_iload dX10_judgeBuilt_532 rfl ?_
    refine b_iload dX10_judgeBuilt_534 rfl ?_
    refine b_iload dX10_judgeBuilt_536 rfl ?_
    refine b_cVv (as := [vI x1, vI x8, vI x9, vI x10]) (st := []) dX10_judgeBuilt_538 mf_X10_setRing qs128 lk_X10_482 ly_582 rfl (p_X10_setRing (f := 1) (Nat.le_refl _) _ _ _ _ _ h) (by omega) rfl rfl (Nat.le_of_ble_eq_true rfl) (by decide) rfl (fun _ => rfl) (fun r1 m1 h => ?_) (fun _ h => h)
    refine b_goto 698 dX10_judgeBuilt_541 (by decide) ?_
    refine b_fgt [true, true, false, false, false, false, false, false, false, false, false, false, true] (ls' := [vR 582, vI x1, vU, vU, vU, vU, vU, vU, vU, vU, vU, vU, vI (if x10 ≤ 0 then 0 else 1 : Int)]) rfl rfl ?_
    exact pl_X10_judgeBuilt_698 hrec hf _ _ _ h
  have g1 := hs
  refine b_if_le 527 dX10_judgeBuilt_520 g1 (by decide) (fun c1 => ?_) (fun c1 => ?_)
  ·
    refine b_iconst dX10_judgeBuilt_527 ?_
    exact Eq.mp (congrArg (fun z => B f M_X10_judgeBuilt 528 [vR 582, vI x1, vU, vU, vU, vU, vU, vU, vI x8, vI x9, vI x10, vU, vU] (vI z :: []) m Q T) (show (if x10 ≤ 0 then 0 else 1 : Int) = 0 by rw [if_pos c1])) K
  ·
    refine b_iconst dX10_judgeBuilt_523 ?_
    refine b_goto 528 dX10_judgeBuilt_524 (by decide) ?_
    exact Eq.mp (congrArg (fun z => B f M_X10_judgeBuilt 528 [vR 582, vI x1, vU, vU, vU, vU, vU, vU, vI x8, vI x9, vI x10, vU, vU] (vI z :: []) m Q T) (show (if x10 ≤ 0 then 0 else 1 : Int) = 1 by rw [if_neg c1])) K
theorem pl_X10_judgeBuilt_562 {f : Nat} {Q : Int → MM → Prop} {T : MM → Prop} {rec : Nat → List Int → MM → (Int → MM → Prop) → (MM → Prop) → Prop} {fr : Nat} (hrec : HR_X10_judge rec fr) (hf : 24 ≤ f ∧ fr + 1 ≤ f) : ∀ (x1 : Int) (x8 : Int) (x10 : Int) (m : MM), P_X10_judgeBuilt_562 rec Q T x1 x8 x10 m → B f M_X10_judgeBuilt 562 [vR 582, vI x1, vU, vU, vU, vU, vU, vU, vI x8, vU, vI x10, vU, vU] [] m Q T := by
  intro x1 x8 x10 m h
  have h : ((RI x8)) ∧ P_X10_setRing x1 (if x8 = 0 then 1 else x8 : Int) 0 x10 m (fun r1 m1 => P_X10_judgeBuilt_698 rec Q T x1 1 m1) := h
  refine b_iconst dX10_judgeBuilt_562 ?_
  refine b_goto 567 dX10_judgeBuilt_563 (by decide) ?_
  refine b_istore (ls' := [vR 582, vI x1, vU, vU, vU, vU, vU, vU, vI x8, vU, vI x10, vU, vI 1]) dX10_judgeBuilt_567 (Nat.le_of_ble_eq_true rfl) rfl ?_
  refine b_aload_n dX10_judgeBuilt_569 rfl ?_
  refine b_iload_n dX10_judgeBuilt_570 rfl ?_
  refine b_iload dX10_judgeBuilt_571 rfl ?_
  obtain ⟨hs, h⟩ := h
  have K : B f M_X10_judgeBuilt 582 [vR 582, vI x1, vU, vU, vU, vU, vU, vU, vI x8, vU, vI x10, vU, vI 1] [vI (if x8 = 0 then 1 else x8 : Int), vI x1, vR 582] m Q T := by
    clear hs
    refine b_iconst dX10_judgeBuilt_582 ?_
    refine b_iload dX10_judgeBuilt_583 rfl ?_
    refine b_cVv (as := [vI x1, vI (if x8 = 0 then 1 else x8 : Int), vI 0, vI x10]) (st := []) dX10_judgeBuilt_585 mf_X10_setRing qs128 lk_X10_482 ly_582 rfl (p_X10_setRing (f := 1) (Nat.le_refl _) _ _ _ _ _ h) (by omega) rfl rfl (Nat.le_of_ble_eq_true rfl) (by decide) rfl (fun _ => rfl) (fun r1 m1 h => ?_) (fun _ h => h)
    refine b_goto 698 dX10_judgeBuilt_588 (by decide) ?_
    refine b_fgt [true, true, false, false, false, false, false, false, false, false, false, false, true] (ls' := [vR 582, vI x1, vU, vU, vU, vU, vU, vU, vU, vU, vU, vU, vI 1]) rfl rfl ?_
    exact pl_X10_judgeBuilt_698 hrec hf _ _ _ h
  have g1 := hs
  refine b_if_ne 580 dX10_judgeBuilt_573 g1 (by decide) (fun c1 => ?_) (fun c1 => ?_)
  ·
    refine b_iload dX10_judgeBuilt_580 rfl ?_
    exact Eq.mp (congrArg (fun z => B f M_X10_judgeBuilt 582 [vR 582, vI x1, vU, vU, vU, vU, vU, vU, vI x8, vU, vI x10, vU, vI 1] (vI z :: [vI x1, vR 582]) m Q T) (show (if x8 = 0 then 1 else x8 : Int) = x8 by rw [if_neg c1])) K
  ·
    have c1 := Decidable.of_not_not c1
    refine b_iconst dX10_judgeBuilt_576 ?_
    refine b_goto 582 dX10_judgeBuilt_577 (by decide) ?_
    exact Eq.mp (congrArg (fun z => B f M_X10_judgeBuilt 582 [vR 582, vI x1, vU, vU, vU, vU, vU, vU, vI x8, vU, vI x10, vU, vI 1] (vI z :: [vI x1, vR 582]) m Q T) (show (if x8 = 0 then 1 else x8 : Int) = 1 by rw [if_pos c1])) K
theorem pl_X10_judgeBuilt_566 {f : Nat} {Q : Int → MM → Prop} {T : MM → Prop} {rec : Nat → List Int → MM → (Int → MM → Prop) → (MM → Prop) → Prop} {fr : Nat} (hrec : HR_X10_judge rec fr) (hf : 24 ≤ f ∧ fr + 1 ≤ f) : ∀ (x1 : Int) (x8 : Int) (x10 : Int) (m : MM), P_X10_judgeBuilt_566 rec Q T x1 x8 x10 m → B f M_X10_judgeBuilt 566 [vR 582, vI x1, vU, vU, vU, vU, vU, vU, vI x8, vU, vI x10, vU, vU] [] m Q T := by
  intro x1 x8 x10 m h
  have h : ((RI x8)) ∧ P_X10_setRing x1 (if x8 = 0 then 1 else x8 : Int) 0 x10 m (fun r1 m1 => P_X10_judgeBuilt_698 rec Q T x1 0 m1) := h
  refine b_iconst dX10_judgeBuilt_566 ?_
  refine b_istore (ls' := [vR 582, vI x1, vU, vU, vU, vU, vU, vU, vI x8, vU, vI x10, vU, vI 0]) dX10_judgeBuilt_567 (Nat.le_of_ble_eq_true rfl) rfl ?_
  refine b_aload_n dX10_judgeBuilt_569 rfl ?_
  refine b_iload_n dX10_judgeBuilt_570 rfl ?_
  refine b_iload dX10_judgeBuilt_571 rfl ?_
  obtain ⟨hs, h⟩ := h
  have K : B f M_X10_judgeBuilt 582 [vR 582, vI x1, vU, vU, vU, vU, vU, vU, vI x8, vU, vI x10, vU, vI 0] [vI (if x8 = 0 then 1 else x8 : Int), vI x1, vR 582] m Q T := by
    clear hs
    refine b_iconst dX10_judgeBuilt_582 ?_
    refine b_iload dX10_judgeBuilt_583 rfl ?_
    refine b_cVv (as := [vI x1, vI (if x8 = 0 then 1 else x8 : Int), vI 0, vI x10]) (st := []) dX10_judgeBuilt_585 mf_X10_setRing qs128 lk_X10_482 ly_582 rfl (p_X10_setRing (f := 1) (Nat.le_refl _) _ _ _ _ _ h) (by omega) rfl rfl (Nat.le_of_ble_eq_true rfl) (by decide) rfl (fun _ => rfl) (fun r1 m1 h => ?_) (fun _ h => h)
    refine b_goto 698 dX10_judgeBuilt_588 (by decide) ?_
    refine b_fgt [true, true, false, false, false, false, false, false, false, false, false, false, true] (ls' := [vR 582, vI x1, vU, vU, vU, vU, vU, vU, vU, vU, vU, vU, vI 0]) rfl rfl ?_
    exact pl_X10_judgeBuilt_698 hrec hf _ _ _ h
  have g1 := hs
  refine b_if_ne 580 dX10_judgeBuilt_573 g1 (by decide) (fun c1 => ?_) (fun c1 => ?_)
  ·
    refine b_iload dX10_judgeBuilt_580 rfl ?_
    exact Eq.mp (congrArg (fun z => B f M_X10_judgeBuilt 582 [vR 582, vI x1, vU, vU, vU, vU, vU, vU, vI x8, vU, vI x10, vU, vI 0] (vI z :: [vI x1, vR 582]) m Q T) (show (if x8 = 0 then 1 else x8 : Int) = x8 by rw [if_neg c1])) K
  ·
    have c1 := Decidable.of_not_not c1
    refine b_iconst dX10_judgeBuilt_576 ?_
    refine b_goto 582 dX10_judgeBuilt_577 (by decide) ?_
    exact Eq.mp (congrArg (fun z => B f M_X10_judgeBuilt 582 [vR 582, vI x1, vU, vU, vU, vU, vU, vU, vI x8, vU, vI x10, vU, vI 0] (vI z :: [vI x1, vR 582]) m Q T) (show (if x8 = 0 then 1 else x8 : Int) = 1 by rw [if_pos c1])) K
theorem pl_X10_judgeBuilt_649 {f : Nat} {Q : Int → MM → Prop} {T : MM → Prop} {rec : Nat → List Int → MM → (Int → MM → Prop) → (MM → Prop) → Prop} {fr : Nat} (hrec : HR_X10_judge rec fr) (hf : 24 ≤ f ∧ fr + 1 ≤ f) : ∀ (x1 : Int) (m : MM), P_X10_judgeBuilt_649 rec Q T x1 m → B f M_X10_judgeBuilt 649 [vR 582, vI x1, vU, vU, vU, vU, vU, vU, vU, vU, vU, vU, vU] [] m Q T := by
  intro x1 m h
  have h : P_X10_setRing x1 0 0 0 m (fun r1 m1 => P_X10_judgeBuilt_698 rec Q T x1 0 m1) := h
  refine b_iconst dX10_judgeBuilt_649 ?_
  refine b_istore (ls' := [vR 582, vI x1, vU, vU, vU, vU, vU, vU, vU, vU, vU, vU, vI 0]) dX10_judgeBuilt_650 (Nat.le_of_ble_eq_true rfl) rfl ?_
  refine b_aload_n dX10_judgeBuilt_652 rfl ?_
  refine b_iload_n dX10_judgeBuilt_653 rfl ?_
  refine b_iconst dX10_judgeBuilt_654 ?_
  refine b_iconst dX10_judgeBuilt_655 ?_
  refine b_iconst dX10_judgeBuilt_656 ?_
  refine b_cVv (as := [vI x1, vI 0, vI 0, vI 0]) (st := []) dX10_judgeBuilt_657 mf_X10_setRing qs128 lk_X10_482 ly_582 rfl (p_X10_setRing (f := 1) (Nat.le_refl _) _ _ _ _ _ h) (by omega) rfl rfl (Nat.le_of_ble_eq_true rfl) (by decide) rfl (fun _ => rfl) (fun r1 m1 h => ?_) (fun _ h => h)
  refine b_goto 698 dX10_judgeBuilt_660 (by decide) ?_
  exact pl_X10_judgeBuilt_698 hrec hf _ _ _ h
theorem pl_X10_judgeBuilt_683 {f : Nat} {Q : Int → MM → Prop} {T : MM → Prop} {rec : Nat → List Int → MM → (Int → MM → Prop) → (MM → Prop) → Prop} {fr : Nat} (hrec : HR_X10_judge rec fr) (hf : 24 ≤ f ∧ fr + 1 ≤ f) : ∀ (x1 : Int) (m : MM), P_X10_judgeBuilt_683 rec Q T x1 m → B f M_X10_judgeBuilt 683 [vR 582, vI x1, vU, vU, vU, vU, vU, vU, vU, vU, vU, vU, vU] [] m Q T := by
  intro x1 m h
  have h : P_X10_setRing x1 0 0 0 m (fun r1 m1 => P_X10_judgeBuilt_698 rec Q T x1 1 m1) := h
  refine b_iconst dX10_judgeBuilt_683 ?_
  refine b_goto 688 dX10_judgeBuilt_684 (by decide) ?_
  refine b_istore (ls' := [vR 582, vI x1, vU, vU, vU, vU, vU, vU, vU, vU, vU, vU, vI 1]) dX10_judgeBuilt_688 (Nat.le_of_ble_eq_true rfl) rfl ?_
  refine b_aload_n dX10_judgeBuilt_690 rfl ?_
  refine b_iload_n dX10_judgeBuilt_691 rfl ?_
  refine b_iconst dX10_judgeBuilt_692 ?_
  refine b_iconst dX10_judgeBuilt_693 ?_
  refine b_iconst dX10_judgeBuilt_694 ?_
  refine b_cVv (as := [vI x1, vI 0, vI 0, vI 0]) (st := []) dX10_judgeBuilt_695 mf_X10_setRing qs128 lk_X10_482 ly_582 rfl (p_X10_setRing (f := 1) (Nat.le_refl _) _ _ _ _ _ h) (by omega) rfl rfl (Nat.le_of_ble_eq_true rfl) (by decide) rfl (fun _ => rfl) (fun r1 m1 h => ?_) (fun _ h => h)
  exact pl_X10_judgeBuilt_698 hrec hf _ _ _ h
theorem pl_X10_judgeBuilt_70 {f : Nat} {Q : Int → MM → Prop} {T : MM → Prop} {rec : Nat → List Int → MM → (Int → MM → Prop) → (MM → Prop) → Prop} {fr : Nat} (hrec : HR_X10_judge rec fr) (hf : 24 ≤ f ∧ fr + 1 ≤ f) : ∀ (x1 : Int) (x2 : Int) (x3 : Int) (m : MM), P_X10_judgeBuilt_70 rec Q T x1 x2 x3 m → B f M_X10_judgeBuilt 70 [vR 582, vI x1, vI x2, vI x3, vU, vU, vU, vU, vU, vU, vU, vU, vU] [] m Q T := by
  intro x1 x2 x3 m h
  have h : (RI x2) ∧ (if x2 = 0 then Q 0 m else (0 ≤ x1 ∧ x1 < 12000) ∧ P_X10_builtInOf (m 605 x1) m (fun r1 m1 => ∀ m2 : MM, m2 = up m1 597 x1 r1 → (0 ≤ (m2 591 x1) ∧ (m2 591 x1) < 12000) ∧ ((RI (m2 594 (m2 591 x1))) ∧ (if 0 ≤ (m2 594 (m2 591 x1)) then ((0 ≤ (m2 594 (m2 591 x1)) ∧ (m2 594 (m2 591 x1)) < 12000)) else True)) ∧ ((RI r1)) ∧ ((RI (if r1 = 0 then 1 else (if r1 = 2 then 1 else (if r1 = 3 then 1 else 0 : Int) : Int) : Int))) ∧ (RI x3) ∧ (RI (if (if r1 = 0 then 1 else (if r1 = 2 then 1 else (if r1 = 3 then 1 else 0 : Int) : Int) : Int) = 0 then 1 else 2 : Int)) ∧ (if x3 = (if (if r1 = 0 then 1 else (if r1 = 2 then 1 else (if r1 = 3 then 1 else 0 : Int) : Int) : Int) = 0 then 1 else 2 : Int) then (0 ≤ (m2 591 (m2 591 x1)) ∧ (m2 591 (m2 591 x1)) < 12000) ∧ ((RI (m2 599 (m2 591 (m2 591 x1)))) ∧ (if (m2 599 (m2 591 (m2 591 x1))) ≤ 0 then True else ((RI (m2 600 (m2 591 (m2 591 x1))))))) ∧ (RI r1) ∧ (if r1 = 0 then P_X10_joinsParts (m2 591 (m2 591 x1)) (if 0 ≤ (m2 594 (m2 591 x1)) then (m2 591 (m2 594 (m2 591 x1))) else (-1) : Int) m2 (fun r2 m3 => (RI r2) ∧ (if r2 = 0 then P_X10_judgeBuilt_322 rec Q T x1 m3 else P_X10_isDivided m3 (fun r3 m4 => ((RI r3)) ∧ P_X10_setRing x1 (m4 582 65) (m4 582 66) (m4 582 67) m4 (fun r4 m5 => P_X10_judgeBuilt_698 rec Q T x1 (if r3 = 0 then 0 else 1 : Int) m5)))) else (if r1 = 1 then P_X10_setRing x1 0 0 0 m2 (fun r5 m6 => P_X10_judgeBuilt_698 rec Q T x1 (if (m2 599 (m2 591 (m2 591 x1))) ≤ 0 then 0 else (if (m2 600 (m2 591 (m2 591 x1))) = 0 then 1 else 0 : Int) : Int) m6) else (if r1 = 2 then (RI (if (m2 599 (m2 591 (m2 591 x1))) ≤ 0 then 0 else (if (m2 600 (m2 591 (m2 591 x1))) = 0 then 1 else 0 : Int) : Int)) ∧ (if (if (m2 599 (m2 591 (m2 591 x1))) ≤ 0 then 0 else (if (m2 600 (m2 591 (m2 591 x1))) = 0 then 1 else 0 : Int) : Int) = 0 then P_X10_judgeBuilt_379 rec Q T x1 (m2 598 (m2 591 (m2 591 x1))) (m2 599 (m2 591 (m2 591 x1))) m2 else P_X10_isNumber (if 0 ≤ (m2 594 (m2 591 x1)) then (m2 591 (m2 594 (m2 591 x1))) else (-1) : Int) 0 m2 (fun r6 m7 => ((RI r6)) ∧ P_X10_setRing x1 (m2 598 (m2 591 (m2 591 x1))) ((m2 599 (m2 591 (m2 591 x1))) - 1) 0 m7 (fun r7 m8 => P_X10_judgeBuilt_698 rec Q T x1 (if r6 = 0 then 0 else 1 : Int) m8))) else (if r1 = 3 then (RI (if (m2 599 (m2 591 (m2 591 x1))) ≤ 0 then 0 else (if (m2 600 (m2 591 (m2 591 x1))) = 0 then 1 else 0 : Int) : Int)) ∧ (if (if (m2 599 (m2 591 (m2 591 x1))) ≤ 0 then 0 else (if (m2 600 (m2 591 (m2 591 x1))) = 0 then 1 else 0 : Int) : Int) = 0 then P_X10_judgeBuilt_453 rec Q T x1 m2 else (0 ≤ (if 0 ≤ (m2 594 (m2 591 x1)) then (m2 591 (m2 594 (m2 591 x1))) else (-1) : Int) ∧ (if 0 ≤ (m2 594 (m2 591 x1)) then (m2 591 (m2 594 (m2 591 x1))) else (-1) : Int) < 12000) ∧ (RI (m2 598 (if 0 ≤ (m2 594 (m2 591 x1)) then (m2 591 (m2 594 (m2 591 x1))) else (-1) : Int))) ∧ (if (m2 598 (if 0 ≤ (m2 594 (m2 591 x1)) then (m2 591 (m2 594 (m2 591 x1))) else (-1) : Int)) = (-2) then P_X10_judgeBuilt_453 rec Q T x1 m2 else P_X10_joins (m2 598 (m2 591 (m2 591 x1))) ((m2 599 (m2 591 (m2 591 x1))) - 1) 0 (m2 598 (if 0 ≤ (m2 594 (m2 591 x1)) then (m2 591 (m2 594 (m2 591 x1))) else (-1) : Int)) (m2 599 (if 0 ≤ (m2 594 (m2 591 x1)) then (m2 591 (m2 594 (m2 591 x1))) else (-1) : Int)) (m2 600 (if 0 ≤ (m2 594 (m2 591 x1)) then (m2 591 (m2 594 (m2 591 x1))) else (-1) : Int)) m2 (fun r8 m9 => ((RI r8)) ∧ P_X10_setRing x1 (m9 582 65) (m9 582 66) (m9 582 67) m9 (fun r9 m10 => P_X10_judgeBuilt_698 rec Q T x1 (if r8 = 0 then 0 else 1 : Int) m10)))) else (if r1 = 4 then P_X10_setRing x1 (m2 598 (m2 591 (m2 591 x1))) (m2 599 (m2 591 (m2 591 x1))) 0 m2 (fun r10 m11 => P_X10_judgeBuilt_698 rec Q T x1 (if (m2 599 (m2 591 (m2 591 x1))) ≤ 0 then 0 else (if (m2 600 (m2 591 (m2 591 x1))) = 0 then 1 else 0 : Int) : Int) m11) else (if r1 = 5 then P_X10_judgeBuilt_493 rec Q T x1 (m2 598 (m2 591 (m2 591 x1))) (m2 599 (m2 591 (m2 591 x1))) (m2 600 (m2 591 (m2 591 x1))) m2 else (if r1 = 6 then P_X10_judgeBuilt_493 rec Q T x1 (m2 598 (m2 591 (m2 591 x1))) (m2 599 (m2 591 (m2 591 x1))) (m2 600 (m2 591 (m2 591 x1))) m2 else (if r1 = 7 then P_X10_judgeBuilt_518 rec Q T x1 (m2 598 (m2 591 (m2 591 x1))) (m2 599 (m2 591 (m2 591 x1))) (m2 600 (m2 591 (m2 591 x1))) m2 else (if r1 = 8 then P_X10_judgeBuilt_518 rec Q T x1 (m2 598 (m2 591 (m2 591 x1))) (m2 599 (m2 591 (m2 591 x1))) (m2 600 (m2 591 (m2 591 x1))) m2 else (if r1 = 9 then (RI (m2 599 (m2 591 (m2 591 x1)))) ∧ (if (m2 599 (m2 591 (m2 591 x1))) = 0 then (RI (m2 598 (m2 591 (m2 591 x1)))) ∧ (if (m2 598 (m2 591 (m2 591 x1))) = 0 then P_X10_judgeBuilt_562 rec Q T x1 (m2 598 (m2 591 (m2 591 x1))) (m2 600 (m2 591 (m2 591 x1))) m2 else P_X10_isField (m2 598 (m2 591 (m2 591 x1))) m2 (fun r11 m12 => ((RI r11)) ∧ P_X10_setRing x1 (if (m2 598 (m2 591 (m2 591 x1))) = 0 then 1 else (m2 598 (m2 591 (m2 591 x1))) : Int) 0 (m2 600 (m2 591 (m2 591 x1))) m12 (fun r12 m13 => P_X10_judgeBuilt_698 rec Q T x1 (if r11 = 0 then 0 else 1 : Int) m13))) else P_X10_judgeBuilt_566 rec Q T x1 (m2 598 (m2 591 (m2 591 x1))) (m2 600 (m2 591 (m2 591 x1))) m2) else (if r1 = 10 then ((RI (m2 600 (m2 591 (m2 591 x1)))) ∧ (if (m2 600 (m2 591 (m2 591 x1))) ≤ 0 then True else ((RI (m2 599 (m2 591 (m2 591 x1))))))) ∧ P_X10_setRing x1 (m2 598 (m2 591 (m2 591 x1))) 1 0 m2 (fun r13 m14 => P_X10_judgeBuilt_698 rec Q T x1 (if (m2 600 (m2 591 (m2 591 x1))) ≤ 0 then 0 else (if (m2 599 (m2 591 (m2 591 x1))) = 0 then 1 else 0 : Int) : Int) m14) else (if r1 = 11 then (RI (m2 598 (m2 591 (m2 591 x1)))) ∧ (if (m2 598 (m2 591 (m2 591 x1))) ≤ 1 then P_X10_judgeBuilt_649 rec Q T x1 m2 else P_X10_isField (m2 598 (m2 591 (m2 591 x1))) m2 (fun r14 m15 => ((RI r14) ∧ (if r14 = 0 then True else ((RI (m2 599 (m2 591 (m2 591 x1)))) ∧ (if (m2 599 (m2 591 (m2 591 x1))) = 1 then ((RI (m2 600 (m2 591 (m2 591 x1))))) else True)))) ∧ P_X10_setRing x1 0 0 0 m15 (fun r15 m16 => P_X10_judgeBuilt_698 rec Q T x1 (if r14 = 0 then 0 else (if (m2 599 (m2 591 (m2 591 x1))) = 1 then (if (m2 600 (m2 591 (m2 591 x1))) = 0 then 1 else 0 : Int) else 0 : Int) : Int) m16))) else P_X10_isNumber (m2 591 (m2 591 x1)) 0 m2 (fun r16 m17 => (RI r16) ∧ (if r16 = 0 then P_X10_isNumber (m2 591 (m2 591 x1)) 1 m17 (fun r17 m18 => ((RI r17)) ∧ P_X10_setRing x1 0 0 0 m18 (fun r18 m19 => P_X10_judgeBuilt_698 rec Q T x1 (if r17 = 0 then 0 else 1 : Int) m19)) else P_X10_judgeBuilt_683 rec Q T x1 m17)))))))))))))) else P_X10_wrong x1 m2 (fun r19 m20 => Q 0 m20)))) := h
  refine b_iload_n dX10_judgeBuilt_70 rfl ?_
  obtain ⟨g1, h⟩ := h
  refine b_if_ne 75 dX10_judgeBuilt_71 g1 (by decide) (fun c1 => ?_) (fun c1 => ?_)
  · have h := ifF c1 h
    refine b_aload_n dX10_judgeBuilt_75 rfl ?_
    refine b_aload_n dX10_judgeBuilt_76 rfl ?_
    refine b_getR dX10_judgeBuilt_77 fk_X10_152 ly_582 gg_582_31 ?_
    refine b_iload_n dX10_judgeBuilt_80 rfl ?_
    obtain ⟨g2, h⟩ := h
    refine b_lald dX10_judgeBuilt_81 ly_605 g2 ?_
    refine b_cVi (as := [vL (m 605 x1)]) (st := []) dX10_judgeBuilt_82 mf_X10_builtInOf qs97 lk_X10_344 ly_582 rfl (p_X10_builtInOf (f := 1) (Nat.le_refl _) _ _ h) (by omega) rfl rfl (Nat.le_of_ble_eq_true rfl) (by decide) rfl (fun _ => rfl) (fun r1 m1 h => ?_) (fun _ h => h)
    refine b_istore (ls' := [vR 582, vI x1, vI x2, vI x3, vI r1, vU, vU, vU, vU, vU, vU, vU, vU]) dX10_judgeBuilt_85 (Nat.le_of_ble_eq_true rfl) rfl ?_
    refine b_aload_n dX10_judgeBuilt_87 rfl ?_
    refine b_getR dX10_judgeBuilt_88 fk_X10_127 ly_582 gg_582_23 ?_
    refine b_iload_n dX10_judgeBuilt_91 rfl ?_
    refine b_iload dX10_judgeBuilt_92 rfl ?_
    refine b_iast dX10_judgeBuilt_94 ly_597 g2 (fun m2 em2 => ?_)
    have h := h m2 em2
    refine b_aload_n dX10_judgeBuilt_95 rfl ?_
    refine b_getR dX10_judgeBuilt_96 fk_X10_109 ly_582 gg_582_17 ?_
    refine b_aload_n dX10_judgeBuilt_99 rfl ?_
    refine b_getR dX10_judgeBuilt_100 fk_X10_109 ly_582 gg_582_17 ?_
    refine b_iload_n dX10_judgeBuilt_103 rfl ?_
    refine b_iald dX10_judgeBuilt_104 ly_591 g2 ?_
    obtain ⟨g3, h⟩ := h
    refine b_iald dX10_judgeBuilt_105 ly_591 g3 ?_
    refine b_istore (ls' := [vR 582, vI x1, vI x2, vI x3, vI r1, vI (m2 591 (m2 591 x1)), vU, vU, vU, vU, vU, vU, vU]) dX10_judgeBuilt_106 (Nat.le_of_ble_eq_true rfl) rfl ?_
    refine b_aload_n dX10_judgeBuilt_108 rfl ?_
    refine b_getR dX10_judgeBuilt_109 fk_X10_118 ly_582 gg_582_20 ?_
    refine b_aload_n dX10_judgeBuilt_112 rfl ?_
    refine b_getR dX10_judgeBuilt_113 fk_X10_109 ly_582 gg_582_17 ?_
    refine b_iload_n dX10_judgeBuilt_116 rfl ?_
    refine b_iald dX10_judgeBuilt_117 ly_591 g2 ?_
    refine b_iald dX10_judgeBuilt_118 ly_594 g3 ?_
    obtain ⟨hs, h⟩ := h
    have K : B f M_X10_judgeBuilt 142 [vR 582, vI x1, vI x2, vI x3, vI r1, vI (m2 591 (m2 591 x1)), vU, vU, vU, vU, vU, vU, vU] [vI (if 0 ≤ (m2 594 (m2 591 x1)) then (m2 591 (m2 594 (m2 591 x1))) else (-1) : Int)] m2 Q T := by
      clear hs
      refine b_istore (ls' := [vR 582, vI x1, vI x2, vI x3, vI r1, vI (m2 591 (m2 591 x1)), vI (if 0 ≤ (m2 594 (m2 591 x1)) then (m2 591 (m2 594 (m2 591 x1))) else (-1) : Int), vU, vU, vU, vU, vU, vU]) dX10_judgeBuilt_142 (Nat.le_of_ble_eq_true rfl) rfl ?_
      refine b_iload dX10_judgeBuilt_144 rfl ?_
      obtain ⟨hs, h⟩ := h
      have K : B f M_X10_judgeBuilt 166 [vR 582, vI x1, vI x2, vI x3, vI r1, vI (m2 591 (m2 591 x1)), vI (if 0 ≤ (m2 594 (m2 591 x1)) then (m2 591 (m2 594 (m2 591 x1))) else (-1) : Int), vU, vU, vU, vU, vU, vU] [vI (if r1 = 0 then 1 else (if r1 = 2 then 1 else (if r1 = 3 then 1 else 0 : Int) : Int) : Int)] m2 Q T := by
        clear hs
        refine b_istore (ls' := [vR 582, vI x1, vI x2, vI x3, vI r1, vI (m2 591 (m2 591 x1)), vI (if 0 ≤ (m2 594 (m2 591 x1)) then (m2 591 (m2 594 (m2 591 x1))) else (-1) : Int), vI (if r1 = 0 then 1 else (if r1 = 2 then 1 else (if r1 = 3 then 1 else 0 : Int) : Int) : Int), vU, vU, vU, vU, vU]) dX10_judgeBuilt_166 (Nat.le_of_ble_eq_true rfl) rfl ?_
        refine b_iload_n dX10_judgeBuilt_168 rfl ?_
        refine b_iload dX10_judgeBuilt_169 rfl ?_
        obtain ⟨hs, h⟩ := h
        have K : B f M_X10_judgeBuilt 179 [vR 582, vI x1, vI x2, vI x3, vI r1, vI (m2 591 (m2 591 x1)), vI (if 0 ≤ (m2 594 (m2 591 x1)) then (m2 591 (m2 594 (m2 591 x1))) else (-1) : Int), vI (if r1 = 0 then 1 else (if r1 = 2 then 1 else (if r1 = 3 then 1 else 0 : Int) : Int) : Int), vU, vU, vU, vU, vU] [vI (if (if r1 = 0 then 1 else (if r1 = 2 then 1 else (if r1 = 3 then 1 else 0 : Int) : Int) : Int) = 0 then 1 else 2 : Int), vI x3] m2 Q T := by
          clear hs
          obtain ⟨g8, h⟩ := h
          obtain ⟨g9, h⟩ := h
          refine b_icmp_eq 188 dX10_judgeBuilt_179 g8 g9 (by decide) (fun c2 => ?_) (fun c2 => ?_)
          · have h := ifT c2 h
            refine b_aload_n dX10_judgeBuilt_188 rfl ?_
            refine b_getR dX10_judgeBuilt_189 fk_X10_130 ly_582 gg_582_24 ?_
            refine b_iload dX10_judgeBuilt_192 rfl ?_
            obtain ⟨g10, h⟩ := h
            refine b_iald dX10_judgeBuilt_194 ly_598 g10 ?_
            refine b_istore (ls' := [vR 582, vI x1, vI x2, vI x3, vI r1, vI (m2 591 (m2 591 x1)), vI (if 0 ≤ (m2 594 (m2 591 x1)) then (m2 591 (m2 594 (m2 591 x1))) else (-1) : Int), vI (if r1 = 0 then 1 else (if r1 = 2 then 1 else (if r1 = 3 then 1 else 0 : Int) : Int) : Int), vI (m2 598 (m2 591 (m2 591 x1))), vU, vU, vU, vU]) dX10_judgeBuilt_195 (Nat.le_of_ble_eq_true rfl) rfl ?_
            refine b_aload_n dX10_judgeBuilt_197 rfl ?_
            refine b_getR dX10_judgeBuilt_198 fk_X10_133 ly_582 gg_582_25 ?_
            refine b_iload dX10_judgeBuilt_201 rfl ?_
            refine b_iald dX10_judgeBuilt_203 ly_599 g10 ?_
            refine b_istore (ls' := [vR 582, vI x1, vI x2, vI x3, vI r1, vI (m2 591 (m2 591 x1)), vI (if 0 ≤ (m2 594 (m2 591 x1)) then (m2 591 (m2 594 (m2 591 x1))) else (-1) : Int), vI (if r1 = 0 then 1 else (if r1 = 2 then 1 else (if r1 = 3 then 1 else 0 : Int) : Int) : Int), vI (m2 598 (m2 591 (m2 591 x1))), vI (m2 599 (m2 591 (m2 591 x1))), vU, vU, vU]) dX10_judgeBuilt_204 (Nat.le_of_ble_eq_true rfl) rfl ?_
            refine b_aload_n dX10_judgeBuilt_206 rfl ?_
            refine b_getR dX10_judgeBuilt_207 fk_X10_136 ly_582 gg_582_26 ?_
            refine b_iload dX10_judgeBuilt_210 rfl ?_
            refine b_iald dX10_judgeBuilt_212 ly_600 g10 ?_
            refine b_istore (ls' := [vR 582, vI x1, vI x2, vI x3, vI r1, vI (m2 591 (m2 591 x1)), vI (if 0 ≤ (m2 594 (m2 591 x1)) then (m2 591 (m2 594 (m2 591 x1))) else (-1) : Int), vI (if r1 = 0 then 1 else (if r1 = 2 then 1 else (if r1 = 3 then 1 else 0 : Int) : Int) : Int), vI (m2 598 (m2 591 (m2 591 x1))), vI (m2 599 (m2 591 (m2 591 x1))), vI (m2 600 (m2 591 (m2 591 x1))), vU, vU]) dX10_judgeBuilt_213 (Nat.le_of_ble_eq_true rfl) rfl ?_
            refine b_iload dX10_judgeBuilt_215 rfl ?_
            obtain ⟨hs, h⟩ := h
            have K : B f M_X10_judgeBuilt 230 [vR 582, vI x1, vI x2, vI x3, vI r1, vI (m2 591 (m2 591 x1)), vI (if 0 ≤ (m2 594 (m2 591 x1)) then (m2 591 (m2 594 (m2 591 x1))) else (-1) : Int), vI (if r1 = 0 then 1 else (if r1 = 2 then 1 else (if r1 = 3 then 1 else 0 : Int) : Int) : Int), vI (m2 598 (m2 591 (m2 591 x1))), vI (m2 599 (m2 591 (m2 591 x1))), vI (m2 600 (m2 591 (m2 591 x1))), vU, vU] [vI (if (m2 599 (m2 591 (m2 591 x1))) ≤ 0 then 0 else (if (m2 600 (m2 591 (m2 591 x1))) = 0 then 1 else 0 : Int) : Int)] m2 Q T := by
              clear hs
              refine b_istore (ls' := [vR 582, vI x1, vI x2, vI x3, vI r1, vI (m2 591 (m2 591 x1)), vI (if 0 ≤ (m2 594 (m2 591 x1)) then (m2 591 (m2 594 (m2 591 x1))) else (-1) : Int), vI (if r1 = 0 then 1 else (if r1 = 2 then 1 else (if r1 = 3 then 1 else 0 : Int) : Int) : Int), vI (m2 598 (m2 591 (m2 591 x1))), vI (m2 599 (m2 591 (m2 591 x1))), vI (m2 600 (m2 591 (m2 591 x1))), vI (if (m2 599 (m2 591 (m2 591 x1))) ≤ 0 then 0 else (if (m2 600 (m2 591 (m2 591 x1))) = 0 then 1 else 0 : Int) : Int), vU]) dX10_judgeBuilt_230 (Nat.le_of_ble_eq_true rfl) rfl ?_
              refine b_iconst dX10_judgeBuilt_232 ?_
              refine b_istore (ls' := [vR 582, vI x1, vI x2, vI x3, vI r1, vI (m2 591 (m2 591 x1)), vI (if 0 ≤ (m2 594 (m2 591 x1)) then (m2 591 (m2 594 (m2 591 x1))) else (-1) : Int), vI (if r1 = 0 then 1 else (if r1 = 2 then 1 else (if r1 = 3 then 1 else 0 : Int) : Int) : Int), vI (m2 598 (m2 591 (m2 591 x1))), vI (m2 599 (m2 591 (m2 591 x1))), vI (m2 600 (m2 591 (m2 591 x1))), vI (if (m2 599 (m2 591 (m2 591 x1))) ≤ 0 then 0 else (if (m2 600 (m2 591 (m2 591 x1))) = 0 then 1 else 0 : Int) : Int), vI 0]) dX10_judgeBuilt_233 (Nat.le_of_ble_eq_true rfl) rfl ?_
              refine b_iload dX10_judgeBuilt_235 rfl ?_
              obtain ⟨g13, h⟩ := h
              by_cases c3 : r1 = 0
              · have h := ifT c3 h
                refine b_tswIn 300 dX10_judgeBuilt_237 g13 (by omega) (by omega) (by rw [c3]; rfl) (by decide) ?_
                refine b_aload_n dX10_judgeBuilt_300 rfl ?_
                refine b_iload dX10_judgeBuilt_301 rfl ?_
                refine b_iload dX10_judgeBuilt_303 rfl ?_
                refine b_cVi (as := [vI (m2 591 (m2 591 x1)), vI (if 0 ≤ (m2 594 (m2 591 x1)) then (m2 591 (m2 594 (m2 591 x1))) else (-1) : Int)]) (st := []) dX10_judgeBuilt_305 mf_X10_joinsParts qs148 lk_X10_489 ly_582 rfl (p_X10_joinsParts (f := 3) (Nat.le_refl _) _ _ _ h) (by omega) rfl rfl (Nat.le_of_ble_eq_true rfl) (by decide) rfl (fun _ => rfl) (fun r2 m3 h => ?_) (fun _ h => h)
                obtain ⟨g14, h⟩ := h
                refine b_if_eq 322 dX10_judgeBuilt_308 g14 (by decide) (fun c4 => ?_) (fun c4 => ?_)
                · have h := ifT c4 h
                  refine b_fgt [true, true, false, false, false, false, false, false, false, false, false, false, false] (ls' := [vR 582, vI x1, vU, vU, vU, vU, vU, vU, vU, vU, vU, vU, vU]) rfl rfl ?_
                  exact pl_X10_judgeBuilt_322 hrec hf _ _ h
                · have h := ifF c4 h
                  refine b_aload_n dX10_judgeBuilt_311 rfl ?_
                  refine b_cVi (as := []) (st := []) dX10_judgeBuilt_312 mf_X10_isDivided qs149 lk_X10_496 ly_582 rfl (p_X10_isDivided (f := 2) (Nat.le_refl _) _ h) (by omega) rfl rfl (Nat.le_of_ble_eq_true rfl) (by decide) rfl (fun _ => rfl) (fun r3 m4 h => ?_) (fun _ h => h)
                  obtain ⟨hs, h⟩ := h
                  have K : B f M_X10_judgeBuilt 323 [vR 582, vI x1, vI x2, vI x3, vI r1, vI (m2 591 (m2 591 x1)), vI (if 0 ≤ (m2 594 (m2 591 x1)) then (m2 591 (m2 594 (m2 591 x1))) else (-1) : Int), vI (if r1 = 0 then 1 else (if r1 = 2 then 1 else (if r1 = 3 then 1 else 0 : Int) : Int) : Int), vI (m2 598 (m2 591 (m2 591 x1))), vI (m2 599 (m2 591 (m2 591 x1))), vI (m2 600 (m2 591 (m2 591 x1))), vI (if (m2 599 (m2 591 (m2 591 x1))) ≤ 0 then 0 else (if (m2 600 (m2 591 (m2 591 x1))) = 0 then 1 else 0 : Int) : Int), vI 0] [vI (if r3 = 0 then 0 else 1 : Int)] m4 Q T := by
                    clear hs
                    refine b_istore (ls' := [vR 582, vI x1, vI x2, vI x3, vI r1, vI (m2 591 (m2 591 x1)), vI (if 0 ≤ (m2 594 (m2 591 x1)) then (m2 591 (m2 594 (m2 591 x1))) else (-1) : Int), vI (if r1 = 0 then 1 else (if r1 = 2 then 1 else (if r1 = 3 then 1 else 0 : Int) : Int) : Int), vI (m2 598 (m2 591 (m2 591 x1))), vI (m2 599 (m2 591 (m2 591 x1))), vI (m2 600 (m2 591 (m2 591 x1))), vI (if (m2 599 (m2 591 (m2 591 x1))) ≤ 0 then 0 else (if (m2 600 (m2 591 (m2 591 x1))) = 0 then 1 else 0 : Int) : Int), vI (if r3 = 0 then 0 else 1 : Int)]) dX10_judgeBuilt_323 (Nat.le_of_ble_eq_true rfl) rfl ?_
                    refine b_aload_n dX10_judgeBuilt_325 rfl ?_
                    refine b_iload_n dX10_judgeBuilt_326 rfl ?_
                    refine b_aload_n dX10_judgeBuilt_327 rfl ?_
                    refine b_getI dX10_judgeBuilt_328 fk_X10_442 ly_582 ?_
                    refine b_aload_n dX10_judgeBuilt_331 rfl ?_
                    refine b_getI dX10_judgeBuilt_332 fk_X10_450 ly_582 ?_
                    refine b_aload_n dX10_judgeBuilt_335 rfl ?_
                    refine b_getI dX10_judgeBuilt_336 fk_X10_453 ly_582 ?_
                    refine b_cVv (as := [vI x1, vI (m4 582 65), vI (m4 582 66), vI (m4 582 67)]) (st := []) dX10_judgeBuilt_339 mf_X10_setRing qs128 lk_X10_482 ly_582 rfl (p_X10_setRing (f := 1) (Nat.le_refl _) _ _ _ _ _ h) (by omega) rfl rfl (Nat.le_of_ble_eq_true rfl) (by decide) rfl (fun _ => rfl) (fun r4 m5 h => ?_) (fun _ h => h)
                    refine b_goto 698 dX10_judgeBuilt_342 (by decide) ?_
                    refine b_fgt [true, true, false, false, false, false, false, false, false, false, false, false, true] (ls' := [vR 582, vI x1, vU, vU, vU, vU, vU, vU, vU, vU, vU, vU, vI (if r3 = 0 then 0 else 1 : Int)]) rfl rfl ?_
                    exact pl_X10_judgeBuilt_698 hrec hf _ _ _ h
                  have g15 := hs
                  refine b_if_eq 322 dX10_judgeBuilt_315 g15 (by decide) (fun c5 => ?_) (fun c5 => ?_)
                  ·
                    refine b_iconst dX10_judgeBuilt_322 ?_
                    exact Eq.mp (congrArg (fun z => B f M_X10_judgeBuilt 323 [vR 582, vI x1, vI x2, vI x3, vI r1, vI (m2 591 (m2 591 x1)), vI (if 0 ≤ (m2 594 (m2 591 x1)) then (m2 591 (m2 594 (m2 591 x1))) else (-1) : Int), vI (if r1 = 0 then 1 else (if r1 = 2 then 1 else (if r1 = 3 then 1 else 0 : Int) : Int) : Int), vI (m2 598 (m2 591 (m2 591 x1))), vI (m2 599 (m2 591 (m2 591 x1))), vI (m2 600 (m2 591 (m2 591 x1))), vI (if (m2 599 (m2 591 (m2 591 x1))) ≤ 0 then 0 else (if (m2 600 (m2 591 (m2 591 x1))) = 0 then 1 else 0 : Int) : Int), vI 0] (vI z :: []) m4 Q T) (show (if r3 = 0 then 0 else 1 : Int) = 0 by rw [if_pos c5])) K
                  ·
                    refine b_iconst dX10_judgeBuilt_318 ?_
                    refine b_goto 323 dX10_judgeBuilt_319 (by decide) ?_
                    exact Eq.mp (congrArg (fun z => B f M_X10_judgeBuilt 323 [vR 582, vI x1, vI x2, vI x3, vI r1, vI (m2 591 (m2 591 x1)), vI (if 0 ≤ (m2 594 (m2 591 x1)) then (m2 591 (m2 594 (m2 591 x1))) else (-1) : Int), vI (if r1 = 0 then 1 else (if r1 = 2 then 1 else (if r1 = 3 then 1 else 0 : Int) : Int) : Int), vI (m2 598 (m2 591 (m2 591 x1))), vI (m2 599 (m2 591 (m2 591 x1))), vI (m2 600 (m2 591 (m2 591 x1))), vI (if (m2 599 (m2 591 (m2 591 x1))) ≤ 0 then 0 else (if (m2 600 (m2 591 (m2 591 x1))) = 0 then 1 else 0 : Int) : Int), vI 0] (vI z :: []) m4 Q T) (show (if r3 = 0 then 0 else 1 : Int) = 1 by rw [if_neg c5])) K
              have h := ifF c3 h
              by_cases c6 : r1 = 1
              · have h := ifT c6 h
                refine b_tswIn 345 dX10_judgeBuilt_237 g13 (by omega) (by omega) (by rw [c6]; rfl) (by decide) ?_
                refine b_iload dX10_judgeBuilt_345 rfl ?_
                refine b_istore (ls' := [vR 582, vI x1, vI x2, vI x3, vI r1, vI (m2 591 (m2 591 x1)), vI (if 0 ≤ (m2 594 (m2 591 x1)) then (m2 591 (m2 594 (m2 591 x1))) else (-1) : Int), vI (if r1 = 0 then 1 else (if r1 = 2 then 1 else (if r1 = 3 then 1 else 0 : Int) : Int) : Int), vI (m2 598 (m2 591 (m2 591 x1))), vI (m2 599 (m2 591 (m2 591 x1))), vI (m2 600 (m2 591 (m2 591 x1))), vI (if (m2 599 (m2 591 (m2 591 x1))) ≤ 0 then 0 else (if (m2 600 (m2 591 (m2 591 x1))) = 0 then 1 else 0 : Int) : Int), vI (if (m2 599 (m2 591 (m2 591 x1))) ≤ 0 then 0 else (if (m2 600 (m2 591 (m2 591 x1))) = 0 then 1 else 0 : Int) : Int)]) dX10_judgeBuilt_347 (Nat.le_of_ble_eq_true rfl) rfl ?_
                refine b_aload_n dX10_judgeBuilt_349 rfl ?_
                refine b_iload_n dX10_judgeBuilt_350 rfl ?_
                refine b_iconst dX10_judgeBuilt_351 ?_
                refine b_iconst dX10_judgeBuilt_352 ?_
                refine b_iconst dX10_judgeBuilt_353 ?_
                refine b_cVv (as := [vI x1, vI 0, vI 0, vI 0]) (st := []) dX10_judgeBuilt_354 mf_X10_setRing qs128 lk_X10_482 ly_582 rfl (p_X10_setRing (f := 1) (Nat.le_refl _) _ _ _ _ _ h) (by omega) rfl rfl (Nat.le_of_ble_eq_true rfl) (by decide) rfl (fun _ => rfl) (fun r5 m6 h => ?_) (fun _ h => h)
                refine b_goto 698 dX10_judgeBuilt_357 (by decide) ?_
                refine b_fgt [true, true, false, false, false, false, false, false, false, false, false, false, true] (ls' := [vR 582, vI x1, vU, vU, vU, vU, vU, vU, vU, vU, vU, vU, vI (if (m2 599 (m2 591 (m2 591 x1))) ≤ 0 then 0 else (if (m2 600 (m2 591 (m2 591 x1))) = 0 then 1 else 0 : Int) : Int)]) rfl rfl ?_
                exact pl_X10_judgeBuilt_698 hrec hf _ _ _ h
              have h := ifF c6 h
              by_cases c7 : r1 = 2
              · have h := ifT c7 h
                refine b_tswIn 360 dX10_judgeBuilt_237 g13 (by omega) (by omega) (by rw [c7]; rfl) (by decide) ?_
                refine b_iload dX10_judgeBuilt_360 rfl ?_
                obtain ⟨g16, h⟩ := h
                refine b_if_eq 379 dX10_judgeBuilt_362 g16 (by decide) (fun c8 => ?_) (fun c8 => ?_)
                · have h := ifT c8 h
                  refine b_fgt [true, true, false, false, false, false, false, false, true, true, false, false, false] (ls' := [vR 582, vI x1, vU, vU, vU, vU, vU, vU, vI (m2 598 (m2 591 (m2 591 x1))), vI (m2 599 (m2 591 (m2 591 x1))), vU, vU, vU]) rfl rfl ?_
                  exact pl_X10_judgeBuilt_379 hrec hf _ _ _ _ h
                · have h := ifF c8 h
                  refine b_aload_n dX10_judgeBuilt_365 rfl ?_
                  refine b_iload dX10_judgeBuilt_366 rfl ?_
                  refine b_iconst dX10_judgeBuilt_368 ?_
                  refine b_cVi (as := [vI (if 0 ≤ (m2 594 (m2 591 x1)) then (m2 591 (m2 594 (m2 591 x1))) else (-1) : Int), vI 0]) (st := []) dX10_judgeBuilt_369 mf_X10_isNumber qs150 lk_X10_598 ly_582 rfl (p_X10_isNumber (f := 1) (Nat.le_refl _) _ _ _ h) (by omega) rfl rfl (Nat.le_of_ble_eq_true rfl) (by decide) rfl (fun _ => rfl) (fun r6 m7 h => ?_) (fun _ h => h)
                  obtain ⟨hs, h⟩ := h
                  have K : B f M_X10_judgeBuilt 380 [vR 582, vI x1, vI x2, vI x3, vI r1, vI (m2 591 (m2 591 x1)), vI (if 0 ≤ (m2 594 (m2 591 x1)) then (m2 591 (m2 594 (m2 591 x1))) else (-1) : Int), vI (if r1 = 0 then 1 else (if r1 = 2 then 1 else (if r1 = 3 then 1 else 0 : Int) : Int) : Int), vI (m2 598 (m2 591 (m2 591 x1))), vI (m2 599 (m2 591 (m2 591 x1))), vI (m2 600 (m2 591 (m2 591 x1))), vI (if (m2 599 (m2 591 (m2 591 x1))) ≤ 0 then 0 else (if (m2 600 (m2 591 (m2 591 x1))) = 0 then 1 else 0 : Int) : Int), vI 0] [vI (if r6 = 0 then 0 else 1 : Int)] m7 Q T := by
                    clear hs
                    refine b_istore (ls' := [vR 582, vI x1, vI x2, vI x3, vI r1, vI (m2 591 (m2 591 x1)), vI (if 0 ≤ (m2 594 (m2 591 x1)) then (m2 591 (m2 594 (m2 591 x1))) else (-1) : Int), vI (if r1 = 0 then 1 else (if r1 = 2 then 1 else (if r1 = 3 then 1 else 0 : Int) : Int) : Int), vI (m2 598 (m2 591 (m2 591 x1))), vI (m2 599 (m2 591 (m2 591 x1))), vI (m2 600 (m2 591 (m2 591 x1))), vI (if (m2 599 (m2 591 (m2 591 x1))) ≤ 0 then 0 else (if (m2 600 (m2 591 (m2 591 x1))) = 0 then 1 else 0 : Int) : Int), vI (if r6 = 0 then 0 else 1 : Int)]) dX10_judgeBuilt_380 (Nat.le_of_ble_eq_true rfl) rfl ?_
                    refine b_aload_n dX10_judgeBuilt_382 rfl ?_
                    refine b_iload_n dX10_judgeBuilt_383 rfl ?_
                    refine b_iload dX10_judgeBuilt_384 rfl ?_
                    refine b_iload dX10_judgeBuilt_386 rfl ?_
                    refine b_iconst dX10_judgeBuilt_388 ?_
                    refine b_isub dX10_judgeBuilt_389 ?_
                    refine b_iconst dX10_judgeBuilt_390 ?_
                    refine b_cVv (as := [vI x1, vI (m2 598 (m2 591 (m2 591 x1))), vI ((m2 599 (m2 591 (m2 591 x1))) - 1), vI 0]) (st := []) dX10_judgeBuilt_391 mf_X10_setRing qs128 lk_X10_482 ly_582 rfl (p_X10_setRing (f := 1) (Nat.le_refl _) _ _ _ _ _ h) (by omega) rfl rfl (Nat.le_of_ble_eq_true rfl) (by decide) rfl (fun _ => rfl) (fun r7 m8 h => ?_) (fun _ h => h)
                    refine b_goto 698 dX10_judgeBuilt_394 (by decide) ?_
                    refine b_fgt [true, true, false, false, false, false, false, false, false, false, false, false, true] (ls' := [vR 582, vI x1, vU, vU, vU, vU, vU, vU, vU, vU, vU, vU, vI (if r6 = 0 then 0 else 1 : Int)]) rfl rfl ?_
                    exact pl_X10_judgeBuilt_698 hrec hf _ _ _ h
                  have g17 := hs
                  refine b_if_eq 379 dX10_judgeBuilt_372 g17 (by decide) (fun c9 => ?_) (fun c9 => ?_)
                  ·
                    refine b_iconst dX10_judgeBuilt_379 ?_
                    exact Eq.mp (congrArg (fun z => B f M_X10_judgeBuilt 380 [vR 582, vI x1, vI x2, vI x3, vI r1, vI (m2 591 (m2 591 x1)), vI (if 0 ≤ (m2 594 (m2 591 x1)) then (m2 591 (m2 594 (m2 591 x1))) else (-1) : Int), vI (if r1 = 0 then 1 else (if r1 = 2 then 1 else (if r1 = 3 then 1 else 0 : Int) : Int) : Int), vI (m2 598 (m2 591 (m2 591 x1))), vI (m2 599 (m2 591 (m2 591 x1))), vI (m2 600 (m2 591 (m2 591 x1))), vI (if (m2 599 (m2 591 (m2 591 x1))) ≤ 0 then 0 else (if (m2 600 (m2 591 (m2 591 x1))) = 0 then 1 else 0 : Int) : Int), vI 0] (vI z :: []) m7 Q T) (show (if r6 = 0 then 0 else 1 : Int) = 0 by rw [if_pos c9])) K
                  ·
                    refine b_iconst dX10_judgeBuilt_375 ?_
                    refine b_goto 380 dX10_judgeBuilt_376 (by decide) ?_
                    exact Eq.mp (congrArg (fun z => B f M_X10_judgeBuilt 380 [vR 582, vI x1, vI x2, vI x3, vI r1, vI (m2 591 (m2 591 x1)), vI (if 0 ≤ (m2 594 (m2 591 x1)) then (m2 591 (m2 594 (m2 591 x1))) else (-1) : Int), vI (if r1 = 0 then 1 else (if r1 = 2 then 1 else (if r1 = 3 then 1 else 0 : Int) : Int) : Int), vI (m2 598 (m2 591 (m2 591 x1))), vI (m2 599 (m2 591 (m2 591 x1))), vI (m2 600 (m2 591 (m2 591 x1))), vI (if (m2 599 (m2 591 (m2 591 x1))) ≤ 0 then 0 else (if (m2 600 (m2 591 (m2 591 x1))) = 0 then 1 else 0 : Int) : Int), vI 0] (vI z :: []) m7 Q T) (show (if r6 = 0 then 0 else 1 : Int) = 1 by rw [if_neg c9])) K
              have h := ifF c7 h
              by_cases c10 : r1 = 3
              · have h := ifT c10 h
                refine b_tswIn 397 dX10_judgeBuilt_237 g13 (by omega) (by omega) (by rw [c10]; rfl) (by decide) ?_
                refine b_iload dX10_judgeBuilt_397 rfl ?_
                obtain ⟨g18, h⟩ := h
                refine b_if_eq 453 dX10_judgeBuilt_399 g18 (by decide) (fun c11 => ?_) (fun c11 => ?_)
                · have h := ifT c11 h
                  refine b_fgt [true, true, false, false, false, false, false, false, false, false, false, false, false] (ls' := [vR 582, vI x1, vU, vU, vU, vU, vU, vU, vU, vU, vU, vU, vU]) rfl rfl ?_
                  exact pl_X10_judgeBuilt_453 hrec hf _ _ h
                · have h := ifF c11 h
                  refine b_aload_n dX10_judgeBuilt_402 rfl ?_
                  refine b_getR dX10_judgeBuilt_403 fk_X10_130 ly_582 gg_582_24 ?_
                  refine b_iload dX10_judgeBuilt_406 rfl ?_
                  obtain ⟨g19, h⟩ := h
                  refine b_iald dX10_judgeBuilt_408 ly_598 g19 ?_
                  refine b_bipush dX10_judgeBuilt_409 (by decide) ?_
                  obtain ⟨g20, h⟩ := h
                  refine b_icmp_eq 453 dX10_judgeBuilt_411 g20 (by decide) (by decide) (fun c12 => ?_) (fun c12 => ?_)
                  · have h := ifT c12 h
                    refine b_fgt [true, true, false, false, false, false, false, false, false, false, false, false, false] (ls' := [vR 582, vI x1, vU, vU, vU, vU, vU, vU, vU, vU, vU, vU, vU]) rfl rfl ?_
                    exact pl_X10_judgeBuilt_453 hrec hf _ _ h
                  · have h := ifF c12 h
                    refine b_aload_n dX10_judgeBuilt_414 rfl ?_
                    refine b_iload dX10_judgeBuilt_415 rfl ?_
                    refine b_iload dX10_judgeBuilt_417 rfl ?_
                    refine b_iconst dX10_judgeBuilt_419 ?_
                    refine b_isub dX10_judgeBuilt_420 ?_
                    refine b_iconst dX10_judgeBuilt_421 ?_
                    refine b_aload_n dX10_judgeBuilt_422 rfl ?_
                    refine b_getR dX10_judgeBuilt_423 fk_X10_130 ly_582 gg_582_24 ?_
                    refine b_iload dX10_judgeBuilt_426 rfl ?_
                    refine b_iald dX10_judgeBuilt_428 ly_598 g19 ?_
                    refine b_aload_n dX10_judgeBuilt_429 rfl ?_
                    refine b_getR dX10_judgeBuilt_430 fk_X10_133 ly_582 gg_582_25 ?_
                    refine b_iload dX10_judgeBuilt_433 rfl ?_
                    refine b_iald dX10_judgeBuilt_435 ly_599 g19 ?_
                    refine b_aload_n dX10_judgeBuilt_436 rfl ?_
                    refine b_getR dX10_judgeBuilt_437 fk_X10_136 ly_582 gg_582_26 ?_
                    refine b_iload dX10_judgeBuilt_440 rfl ?_
                    refine b_iald dX10_judgeBuilt_442 ly_600 g19 ?_
                    refine b_cVi (as := [vI (m2 598 (m2 591 (m2 591 x1))), vI ((m2 599 (m2 591 (m2 591 x1))) - 1), vI 0, vI (m2 598 (if 0 ≤ (m2 594 (m2 591 x1)) then (m2 591 (m2 594 (m2 591 x1))) else (-1) : Int)), vI (m2 599 (if 0 ≤ (m2 594 (m2 591 x1)) then (m2 591 (m2 594 (m2 591 x1))) else (-1) : Int)), vI (m2 600 (if 0 ≤ (m2 594 (m2 591 x1)) then (m2 591 (m2 594 (m2 591 x1))) else (-1) : Int))]) (st := []) dX10_judgeBuilt_443 mf_X10_joins qs143 lk_X10_456 ly_582 rfl (p_X10_joins (f := 2) (Nat.le_refl _) _ _ _ _ _ _ _ h) (by omega) rfl rfl (Nat.le_of_ble_eq_true rfl) (by decide) rfl (fun _ => rfl) (fun r8 m9 h => ?_) (fun _ h => h)
                    obtain ⟨hs, h⟩ := h
                    have K : B f M_X10_judgeBuilt 454 [vR 582, vI x1, vI x2, vI x3, vI r1, vI (m2 591 (m2 591 x1)), vI (if 0 ≤ (m2 594 (m2 591 x1)) then (m2 591 (m2 594 (m2 591 x1))) else (-1) : Int), vI (if r1 = 0 then 1 else (if r1 = 2 then 1 else (if r1 = 3 then 1 else 0 : Int) : Int) : Int), vI (m2 598 (m2 591 (m2 591 x1))), vI (m2 599 (m2 591 (m2 591 x1))), vI (m2 600 (m2 591 (m2 591 x1))), vI (if (m2 599 (m2 591 (m2 591 x1))) ≤ 0 then 0 else (if (m2 600 (m2 591 (m2 591 x1))) = 0 then 1 else 0 : Int) : Int), vI 0] [vI (if r8 = 0 then 0 else 1 : Int)] m9 Q T := by
                      clear hs
                      refine b_istore (ls' := [vR 582, vI x1, vI x2, vI x3, vI r1, vI (m2 591 (m2 591 x1)), vI (if 0 ≤ (m2 594 (m2 591 x1)) then (m2 591 (m2 594 (m2 591 x1))) else (-1) : Int), vI (if r1 = 0 then 1 else (if r1 = 2 then 1 else (if r1 = 3 then 1 else 0 : Int) : Int) : Int), vI (m2 598 (m2 591 (m2 591 x1))), vI (m2 599 (m2 591 (m2 591 x1))), vI (m2 600 (m2 591 (m2 591 x1))), vI (if (m2 599 (m2 591 (m2 591 x1))) ≤ 0 then 0 else (if (m2 600 (m2 591 (m2 591 x1))) = 0 then 1 else 0 : Int) : Int), vI (if r8 = 0 then 0 else 1 : Int)]) dX10_judgeBuilt_454 (Nat.le_of_ble_eq_true rfl) rfl ?_
                      refine b_aload_n dX10_judgeBuilt_456 rfl ?_
                      refine b_iload_n dX10_judgeBuilt_457 rfl ?_
                      refine b_aload_n dX10_judgeBuilt_458 rfl ?_
                      refine b_getI dX10_judgeBuilt_459 fk_X10_442 ly_582 ?_
                      refine b_aload_n dX10_judgeBuilt_462 rfl ?_
                      refine b_getI dX10_judgeBuilt_463 fk_X10_450 ly_582 ?_
                      refine b_aload_n dX10_judgeBuilt_466 rfl ?_
                      refine b_getI dX10_judgeBuilt_467 fk_X10_453 ly_582 ?_
                      refine b_cVv (as := [vI x1, vI (m9 582 65), vI (m9 582 66), vI (m9 582 67)]) (st := []) dX10_judgeBuilt_470 mf_X10_setRing qs128 lk_X10_482 ly_582 rfl (p_X10_setRing (f := 1) (Nat.le_refl _) _ _ _ _ _ h) (by omega) rfl rfl (Nat.le_of_ble_eq_true rfl) (by decide) rfl (fun _ => rfl) (fun r9 m10 h => ?_) (fun _ h => h)
                      refine b_goto 698 dX10_judgeBuilt_473 (by decide) ?_
                      refine b_fgt [true, true, false, false, false, false, false, false, false, false, false, false, true] (ls' := [vR 582, vI x1, vU, vU, vU, vU, vU, vU, vU, vU, vU, vU, vI (if r8 = 0 then 0 else 1 : Int)]) rfl rfl ?_
                      exact pl_X10_judgeBuilt_698 hrec hf _ _ _ h
                    have g21 := hs
                    refine b_if_eq 453 dX10_judgeBuilt_446 g21 (by decide) (fun c13 => ?_) (fun c13 => ?_)
                    ·
                      refine b_iconst dX10_judgeBuilt_453 ?_
                      exact Eq.mp (congrArg (fun z => B f M_X10_judgeBuilt 454 [vR 582, vI x1, vI x2, vI x3, vI r1, vI (m2 591 (m2 591 x1)), vI (if 0 ≤ (m2 594 (m2 591 x1)) then (m2 591 (m2 594 (m2 591 x1))) else (-1) : Int), vI (if r1 = 0 then 1 else (if r1 = 2 then 1 else (if r1 = 3 then 1 else 0 : Int) : Int) : Int), vI (m2 598 (m2 591 (m2 591 x1))), vI (m2 599 (m2 591 (m2 591 x1))), vI (m2 600 (m2 591 (m2 591 x1))), vI (if (m2 599 (m2 591 (m2 591 x1))) ≤ 0 then 0 else (if (m2 600 (m2 591 (m2 591 x1))) = 0 then 1 else 0 : Int) : Int), vI 0] (vI z :: []) m9 Q T) (show (if r8 = 0 then 0 else 1 : Int) = 0 by rw [if_pos c13])) K
                    ·
                      refine b_iconst dX10_judgeBuilt_449 ?_
                      refine b_goto 454 dX10_judgeBuilt_450 (by decide) ?_
                      exact Eq.mp (congrArg (fun z => B f M_X10_judgeBuilt 454 [vR 582, vI x1, vI x2, vI x3, vI r1, vI (m2 591 (m2 591 x1)), vI (if 0 ≤ (m2 594 (m2 591 x1)) then (m2 591 (m2 594 (m2 591 x1))) else (-1) : Int), vI (if r1 = 0 then 1 else (if r1 = 2 then 1 else (if r1 = 3 then 1 else 0 : Int) : Int) : Int), vI (m2 598 (m2 591 (m2 591 x1))), vI (m2 599 (m2 591 (m2 591 x1))), vI (m2 600 (m2 591 (m2 591 x1))), vI (if (m2 599 (m2 591 (m2 591 x1))) ≤ 0 then 0 else (if (m2 600 (m2 591 (m2 591 x1))) = 0 then 1 else 0 : Int) : Int), vI 0] (vI z :: []) m9 Q T) (show (if r8 = 0 then 0 else 1 : Int) = 1 by rw [if_neg c13])) K
              have h := ifF c10 h
              by_cases c14 : r1 = 4
              · have h := ifT c14 h
                refine b_tswIn 476 dX10_judgeBuilt_237 g13 (by omega) (by omega) (by rw [c14]; rfl) (by decide) ?_
                refine b_iload dX10_judgeBuilt_476 rfl ?_
                refine b_istore (ls' := [vR 582, vI x1, vI x2, vI x3, vI r1, vI (m2 591 (m2 591 x1)), vI (if 0 ≤ (m2 594 (m2 591 x1)) then (m2 591 (m2 594 (m2 591 x1))) else (-1) : Int), vI (if r1 = 0 then 1 else (if r1 = 2 then 1 else (if r1 = 3 then 1 else 0 : Int) : Int) : Int), vI (m2 598 (m2 591 (m2 591 x1))), vI (m2 599 (m2 591 (m2 591 x1))), vI (m2 600 (m2 591 (m2 591 x1))), vI (if (m2 599 (m2 591 (m2 591 x1))) ≤ 0 then 0 else (if (m2 600 (m2 591 (m2 591 x1))) = 0 then 1 else 0 : Int) : Int), vI (if (m2 599 (m2 591 (m2 591 x1))) ≤ 0 then 0 else (if (m2 600 (m2 591 (m2 591 x1))) = 0 then 1 else 0 : Int) : Int)]) dX10_judgeBuilt_478 (Nat.le_of_ble_eq_true rfl) rfl ?_
                refine b_aload_n dX10_judgeBuilt_480 rfl ?_
                refine b_iload_n dX10_judgeBuilt_481 rfl ?_
                refine b_iload dX10_judgeBuilt_482 rfl ?_
                refine b_iload dX10_judgeBuilt_484 rfl ?_
                refine b_iconst dX10_judgeBuilt_486 ?_
                refine b_cVv (as := [vI x1, vI (m2 598 (m2 591 (m2 591 x1))), vI (m2 599 (m2 591 (m2 591 x1))), vI 0]) (st := []) dX10_judgeBuilt_487 mf_X10_setRing qs128 lk_X10_482 ly_582 rfl (p_X10_setRing (f := 1) (Nat.le_refl _) _ _ _ _ _ h) (by omega) rfl rfl (Nat.le_of_ble_eq_true rfl) (by decide) rfl (fun _ => rfl) (fun r10 m11 h => ?_) (fun _ h => h)
                refine b_goto 698 dX10_judgeBuilt_490 (by decide) ?_
                refine b_fgt [true, true, false, false, false, false, false, false, false, false, false, false, true] (ls' := [vR 582, vI x1, vU, vU, vU, vU, vU, vU, vU, vU, vU, vU, vI (if (m2 599 (m2 591 (m2 591 x1))) ≤ 0 then 0 else (if (m2 600 (m2 591 (m2 591 x1))) = 0 then 1 else 0 : Int) : Int)]) rfl rfl ?_
                exact pl_X10_judgeBuilt_698 hrec hf _ _ _ h
              have h := ifF c14 h
              by_cases c15 : r1 = 5
              · have h := ifT c15 h
                refine b_tswIn 493 dX10_judgeBuilt_237 g13 (by omega) (by omega) (by rw [c15]; rfl) (by decide) ?_
                refine b_fgt [true, true, false, false, false, false, false, false, true, true, true, false, false] (ls' := [vR 582, vI x1, vU, vU, vU, vU, vU, vU, vI (m2 598 (m2 591 (m2 591 x1))), vI (m2 599 (m2 591 (m2 591 x1))), vI (m2 600 (m2 591 (m2 591 x1))), vU, vU]) rfl rfl ?_
                exact pl_X10_judgeBuilt_493 hrec hf _ _ _ _ _ h
              have h := ifF c15 h
              by_cases c16 : r1 = 6
              · have h := ifT c16 h
                refine b_tswIn 493 dX10_judgeBuilt_237 g13 (by omega) (by omega) (by rw [c16]; rfl) (by decide) ?_
                refine b_fgt [true, true, false, false, false, false, false, false, true, true, true, false, false] (ls' := [vR 582, vI x1, vU, vU, vU, vU, vU, vU, vI (m2 598 (m2 591 (m2 591 x1))), vI (m2 599 (m2 591 (m2 591 x1))), vI (m2 600 (m2 591 (m2 591 x1))), vU, vU]) rfl rfl ?_
                exact pl_X10_judgeBuilt_493 hrec hf _ _ _ _ _ h
              have h := ifF c16 h
              by_cases c17 : r1 = 7
              · have h := ifT c17 h
                refine b_tswIn 518 dX10_judgeBuilt_237 g13 (by omega) (by omega) (by rw [c17]; rfl) (by decide) ?_
                refine b_fgt [true, true, false, false, false, false, false, false, true, true, true, false, false] (ls' := [vR 582, vI x1, vU, vU, vU, vU, vU, vU, vI (m2 598 (m2 591 (m2 591 x1))), vI (m2 599 (m2 591 (m2 591 x1))), vI (m2 600 (m2 591 (m2 591 x1))), vU, vU]) rfl rfl ?_
                exact pl_X10_judgeBuilt_518 hrec hf _ _ _ _ _ h
              have h := ifF c17 h
              by_cases c18 : r1 = 8
              · have h := ifT c18 h
                refine b_tswIn 518 dX10_judgeBuilt_237 g13 (by omega) (by omega) (by rw [c18]; rfl) (by decide) ?_
                refine b_fgt [true, true, false, false, false, false, false, false, true, true, true, false, false] (ls' := [vR 582, vI x1, vU, vU, vU, vU, vU, vU, vI (m2 598 (m2 591 (m2 591 x1))), vI (m2 599 (m2 591 (m2 591 x1))), vI (m2 600 (m2 591 (m2 591 x1))), vU, vU]) rfl rfl ?_
                exact pl_X10_judgeBuilt_518 hrec hf _ _ _ _ _ h
              have h := ifF c18 h
              by_cases c19 : r1 = 9
              · have h := ifT c19 h
                refine b_tswIn 544 dX10_judgeBuilt_237 g13 (by omega) (by omega) (by rw [c19]; rfl) (by decide) ?_
                refine b_iload dX10_judgeBuilt_544 rfl ?_
                obtain ⟨g22, h⟩ := h
                refine b_if_ne 566 dX10_judgeBuilt_546 g22 (by decide) (fun c20 => ?_) (fun c20 => ?_)
                · have h := ifF c20 h
                  refine b_fgt [true, true, false, false, false, false, false, false, true, false, true, false, false] (ls' := [vR 582, vI x1, vU, vU, vU, vU, vU, vU, vI (m2 598 (m2 591 (m2 591 x1))), vU, vI (m2 600 (m2 591 (m2 591 x1))), vU, vU]) rfl rfl ?_
                  exact pl_X10_judgeBuilt_566 hrec hf _ _ _ _ h
                · have h := ifT (Decidable.of_not_not c20) h
                  refine b_iload dX10_judgeBuilt_549 rfl ?_
                  obtain ⟨g23, h⟩ := h
                  refine b_if_eq 562 dX10_judgeBuilt_551 g23 (by decide) (fun c21 => ?_) (fun c21 => ?_)
                  · have h := ifT c21 h
                    refine b_fgt [true, true, false, false, false, false, false, false, true, false, true, false, false] (ls' := [vR 582, vI x1, vU, vU, vU, vU, vU, vU, vI (m2 598 (m2 591 (m2 591 x1))), vU, vI (m2 600 (m2 591 (m2 591 x1))), vU, vU]) rfl rfl ?_
                    exact pl_X10_judgeBuilt_562 hrec hf _ _ _ _ h
                  · have h := ifF c21 h
                    refine b_iload dX10_judgeBuilt_554 rfl ?_
                    refine b_cSi (as := [vI (m2 598 (m2 591 (m2 591 x1)))]) (st := []) dX10_judgeBuilt_556 mf_X10_isField lk_X10_493 (p_X10_isField (f := 1) (Nat.le_refl _) _ _ h) (by omega) rfl rfl (Nat.le_of_ble_eq_true rfl) (by decide) rfl (fun _ => rfl) (fun r11 m12 h => ?_) (fun _ h => h)
                    obtain ⟨hs, h⟩ := h
                    have K : B f M_X10_judgeBuilt 567 [vR 582, vI x1, vI x2, vI x3, vI r1, vI (m2 591 (m2 591 x1)), vI (if 0 ≤ (m2 594 (m2 591 x1)) then (m2 591 (m2 594 (m2 591 x1))) else (-1) : Int), vI (if r1 = 0 then 1 else (if r1 = 2 then 1 else (if r1 = 3 then 1 else 0 : Int) : Int) : Int), vI (m2 598 (m2 591 (m2 591 x1))), vI (m2 599 (m2 591 (m2 591 x1))), vI (m2 600 (m2 591 (m2 591 x1))), vI (if (m2 599 (m2 591 (m2 591 x1))) ≤ 0 then 0 else (if (m2 600 (m2 591 (m2 591 x1))) = 0 then 1 else 0 : Int) : Int), vI 0] [vI (if r11 = 0 then 0 else 1 : Int)] m12 Q T := by
                      clear hs
                      refine b_istore (ls' := [vR 582, vI x1, vI x2, vI x3, vI r1, vI (m2 591 (m2 591 x1)), vI (if 0 ≤ (m2 594 (m2 591 x1)) then (m2 591 (m2 594 (m2 591 x1))) else (-1) : Int), vI (if r1 = 0 then 1 else (if r1 = 2 then 1 else (if r1 = 3 then 1 else 0 : Int) : Int) : Int), vI (m2 598 (m2 591 (m2 591 x1))), vI (m2 599 (m2 591 (m2 591 x1))), vI (m2 600 (m2 591 (m2 591 x1))), vI (if (m2 599 (m2 591 (m2 591 x1))) ≤ 0 then 0 else (if (m2 600 (m2 591 (m2 591 x1))) = 0 then 1 else 0 : Int) : Int), vI (if r11 = 0 then 0 else 1 : Int)]) dX10_judgeBuilt_567 (Nat.le_of_ble_eq_true rfl) rfl ?_
                      refine b_aload_n dX10_judgeBuilt_569 rfl ?_
                      refine b_iload_n dX10_judgeBuilt_570 rfl ?_
                      refine b_iload dX10_judgeBuilt_571 rfl ?_
                      have K : B f M_X10_judgeBuilt 582 [vR 582, vI x1, vI x2, vI x3, vI r1, vI (m2 591 (m2 591 x1)), vI (if 0 ≤ (m2 594 (m2 591 x1)) then (m2 591 (m2 594 (m2 591 x1))) else (-1) : Int), vI (if r1 = 0 then 1 else (if r1 = 2 then 1 else (if r1 = 3 then 1 else 0 : Int) : Int) : Int), vI (m2 598 (m2 591 (m2 591 x1))), vI (m2 599 (m2 591 (m2 591 x1))), vI (m2 600 (m2 591 (m2 591 x1))), vI (if (m2 599 (m2 591 (m2 591 x1))) ≤ 0 then 0 else (if (m2 600 (m2 591 (m2 591 x1))) = 0 then 1 else 0 : Int) : Int), vI (if r11 = 0 then 0 else 1 : Int)] [vI (if (m2 598 (m2 591 (m2 591 x1))) = 0 then 1 else (m2 598 (m2 591 (m2 591 x1))) : Int), vI x1, vR 582] m12 Q T := by
                        refine b_iconst dX10_judgeBuilt_582 ?_
                        refine b_iload dX10_judgeBuilt_583 rfl ?_
                        refine b_cVv (as := [vI x1, vI (if (m2 598 (m2 591 (m2 591 x1))) = 0 then 1 else (m2 598 (m2 591 (m2 591 x1))) : Int), vI 0, vI (m2 600 (m2 591 (m2 591 x1)))]) (st := []) dX10_judgeBuilt_585 mf_X10_setRing qs128 lk_X10_482 ly_582 rfl (p_X10_setRing (f := 1) (Nat.le_refl _) _ _ _ _ _ h) (by omega) rfl rfl (Nat.le_of_ble_eq_true rfl) (by decide) rfl (fun _ => rfl) (fun r12 m13 h => ?_) (fun _ h => h)
                        refine b_goto 698 dX10_judgeBuilt_588 (by decide) ?_
                        refine b_fgt [true, true, false, false, false, false, false, false, false, false, false, false, true] (ls' := [vR 582, vI x1, vU, vU, vU, vU, vU, vU, vU, vU, vU, vU, vI (if r11 = 0 then 0 else 1 : Int)]) rfl rfl ?_
                        exact pl_X10_judgeBuilt_698 hrec hf _ _ _ h
                      refine b_if_ne 580 dX10_judgeBuilt_573 g23 (by decide) (fun c22 => ?_) (fun c22 => ?_)
                      ·
                        refine b_iload dX10_judgeBuilt_580 rfl ?_
                        exact Eq.mp (congrArg (fun z => B f M_X10_judgeBuilt 582 [vR 582, vI x1, vI x2, vI x3, vI r1, vI (m2 591 (m2 591 x1)), vI (if 0 ≤ (m2 594 (m2 591 x1)) then (m2 591 (m2 594 (m2 591 x1))) else (-1) : Int), vI (if r1 = 0 then 1 else (if r1 = 2 then 1 else (if r1 = 3 then 1 else 0 : Int) : Int) : Int), vI (m2 598 (m2 591 (m2 591 x1))), vI (m2 599 (m2 591 (m2 591 x1))), vI (m2 600 (m2 591 (m2 591 x1))), vI (if (m2 599 (m2 591 (m2 591 x1))) ≤ 0 then 0 else (if (m2 600 (m2 591 (m2 591 x1))) = 0 then 1 else 0 : Int) : Int), vI (if r11 = 0 then 0 else 1 : Int)] (vI z :: [vI x1, vR 582]) m12 Q T) (show (if (m2 598 (m2 591 (m2 591 x1))) = 0 then 1 else (m2 598 (m2 591 (m2 591 x1))) : Int) = (m2 598 (m2 591 (m2 591 x1))) by rw [if_neg c22])) K
                      ·
                        have c22 := Decidable.of_not_not c22
                        refine b_iconst dX10_judgeBuilt_576 ?_
                        refine b_goto 582 dX10_judgeBuilt_577 (by decide) ?_
                        exact Eq.mp (congrArg (fun z => B f M_X10_judgeBuilt 582 [vR 582, vI x1, vI x2, vI x3, vI r1, vI (m2 591 (m2 591 x1)), vI (if 0 ≤ (m2 594 (m2 591 x1)) then (m2 591 (m2 594 (m2 591 x1))) else (-1) : Int), vI (if r1 = 0 then 1 else (if r1 = 2 then 1 else (if r1 = 3 then 1 else 0 : Int) : Int) : Int), vI (m2 598 (m2 591 (m2 591 x1))), vI (m2 599 (m2 591 (m2 591 x1))), vI (m2 600 (m2 591 (m2 591 x1))), vI (if (m2 599 (m2 591 (m2 591 x1))) ≤ 0 then 0 else (if (m2 600 (m2 591 (m2 591 x1))) = 0 then 1 else 0 : Int) : Int), vI (if r11 = 0 then 0 else 1 : Int)] (vI z :: [vI x1, vR 582]) m12 Q T) (show (if (m2 598 (m2 591 (m2 591 x1))) = 0 then 1 else (m2 598 (m2 591 (m2 591 x1))) : Int) = 1 by rw [if_pos c22])) K
                    have g24 := hs
                    refine b_if_eq 566 dX10_judgeBuilt_559 g24 (by decide) (fun c23 => ?_) (fun c23 => ?_)
                    ·
                      refine b_iconst dX10_judgeBuilt_566 ?_
                      exact Eq.mp (congrArg (fun z => B f M_X10_judgeBuilt 567 [vR 582, vI x1, vI x2, vI x3, vI r1, vI (m2 591 (m2 591 x1)), vI (if 0 ≤ (m2 594 (m2 591 x1)) then (m2 591 (m2 594 (m2 591 x1))) else (-1) : Int), vI (if r1 = 0 then 1 else (if r1 = 2 then 1 else (if r1 = 3 then 1 else 0 : Int) : Int) : Int), vI (m2 598 (m2 591 (m2 591 x1))), vI (m2 599 (m2 591 (m2 591 x1))), vI (m2 600 (m2 591 (m2 591 x1))), vI (if (m2 599 (m2 591 (m2 591 x1))) ≤ 0 then 0 else (if (m2 600 (m2 591 (m2 591 x1))) = 0 then 1 else 0 : Int) : Int), vI 0] (vI z :: []) m12 Q T) (show (if r11 = 0 then 0 else 1 : Int) = 0 by rw [if_pos c23])) K
                    ·
                      refine b_iconst dX10_judgeBuilt_562 ?_
                      refine b_goto 567 dX10_judgeBuilt_563 (by decide) ?_
                      exact Eq.mp (congrArg (fun z => B f M_X10_judgeBuilt 567 [vR 582, vI x1, vI x2, vI x3, vI r1, vI (m2 591 (m2 591 x1)), vI (if 0 ≤ (m2 594 (m2 591 x1)) then (m2 591 (m2 594 (m2 591 x1))) else (-1) : Int), vI (if r1 = 0 then 1 else (if r1 = 2 then 1 else (if r1 = 3 then 1 else 0 : Int) : Int) : Int), vI (m2 598 (m2 591 (m2 591 x1))), vI (m2 599 (m2 591 (m2 591 x1))), vI (m2 600 (m2 591 (m2 591 x1))), vI (if (m2 599 (m2 591 (m2 591 x1))) ≤ 0 then 0 else (if (m2 600 (m2 591 (m2 591 x1))) = 0 then 1 else 0 : Int) : Int), vI 0] (vI z :: []) m12 Q T) (show (if r11 = 0 then 0 else 1 : Int) = 1 by rw [if_neg c23])) K
              have h := ifF c19 h
              by_cases c24 : r1 = 10
              · have h := ifT c24 h
                refine b_tswIn 591 dX10_judgeBuilt_237 g13 (by omega) (by omega) (by rw [c24]; rfl) (by decide) ?_
                refine b_iload dX10_judgeBuilt_591 rfl ?_
                obtain ⟨hs, h⟩ := h
                have K : B f M_X10_judgeBuilt 606 [vR 582, vI x1, vI x2, vI x3, vI r1, vI (m2 591 (m2 591 x1)), vI (if 0 ≤ (m2 594 (m2 591 x1)) then (m2 591 (m2 594 (m2 591 x1))) else (-1) : Int), vI (if r1 = 0 then 1 else (if r1 = 2 then 1 else (if r1 = 3 then 1 else 0 : Int) : Int) : Int), vI (m2 598 (m2 591 (m2 591 x1))), vI (m2 599 (m2 591 (m2 591 x1))), vI (m2 600 (m2 591 (m2 591 x1))), vI (if (m2 599 (m2 591 (m2 591 x1))) ≤ 0 then 0 else (if (m2 600 (m2 591 (m2 591 x1))) = 0 then 1 else 0 : Int) : Int), vI 0] [vI (if (m2 600 (m2 591 (m2 591 x1))) ≤ 0 then 0 else (if (m2 599 (m2 591 (m2 591 x1))) = 0 then 1 else 0 : Int) : Int)] m2 Q T := by
                  clear hs
                  refine b_istore (ls' := [vR 582, vI x1, vI x2, vI x3, vI r1, vI (m2 591 (m2 591 x1)), vI (if 0 ≤ (m2 594 (m2 591 x1)) then (m2 591 (m2 594 (m2 591 x1))) else (-1) : Int), vI (if r1 = 0 then 1 else (if r1 = 2 then 1 else (if r1 = 3 then 1 else 0 : Int) : Int) : Int), vI (m2 598 (m2 591 (m2 591 x1))), vI (m2 599 (m2 591 (m2 591 x1))), vI (m2 600 (m2 591 (m2 591 x1))), vI (if (m2 599 (m2 591 (m2 591 x1))) ≤ 0 then 0 else (if (m2 600 (m2 591 (m2 591 x1))) = 0 then 1 else 0 : Int) : Int), vI (if (m2 600 (m2 591 (m2 591 x1))) ≤ 0 then 0 else (if (m2 599 (m2 591 (m2 591 x1))) = 0 then 1 else 0 : Int) : Int)]) dX10_judgeBuilt_606 (Nat.le_of_ble_eq_true rfl) rfl ?_
                  refine b_aload_n dX10_judgeBuilt_608 rfl ?_
                  refine b_iload_n dX10_judgeBuilt_609 rfl ?_
                  refine b_iload dX10_judgeBuilt_610 rfl ?_
                  refine b_iconst dX10_judgeBuilt_612 ?_
                  refine b_iconst dX10_judgeBuilt_613 ?_
                  refine b_cVv (as := [vI x1, vI (m2 598 (m2 591 (m2 591 x1))), vI 1, vI 0]) (st := []) dX10_judgeBuilt_614 mf_X10_setRing qs128 lk_X10_482 ly_582 rfl (p_X10_setRing (f := 1) (Nat.le_refl _) _ _ _ _ _ h) (by omega) rfl rfl (Nat.le_of_ble_eq_true rfl) (by decide) rfl (fun _ => rfl) (fun r13 m14 h => ?_) (fun _ h => h)
                  refine b_goto 698 dX10_judgeBuilt_617 (by decide) ?_
                  refine b_fgt [true, true, false, false, false, false, false, false, false, false, false, false, true] (ls' := [vR 582, vI x1, vU, vU, vU, vU, vU, vU, vU, vU, vU, vU, vI (if (m2 600 (m2 591 (m2 591 x1))) ≤ 0 then 0 else (if (m2 599 (m2 591 (m2 591 x1))) = 0 then 1 else 0 : Int) : Int)]) rfl rfl ?_
                  exact pl_X10_judgeBuilt_698 hrec hf _ _ _ h
                obtain ⟨g25, hs⟩ := hs
                refine b_if_le 605 dX10_judgeBuilt_593 g25 (by decide) (fun c25 => ?_) (fun c25 => ?_)
                ·
                  refine b_iconst dX10_judgeBuilt_605 ?_
                  exact Eq.mp (congrArg (fun z => B f M_X10_judgeBuilt 606 [vR 582, vI x1, vI x2, vI x3, vI r1, vI (m2 591 (m2 591 x1)), vI (if 0 ≤ (m2 594 (m2 591 x1)) then (m2 591 (m2 594 (m2 591 x1))) else (-1) : Int), vI (if r1 = 0 then 1 else (if r1 = 2 then 1 else (if r1 = 3 then 1 else 0 : Int) : Int) : Int), vI (m2 598 (m2 591 (m2 591 x1))), vI (m2 599 (m2 591 (m2 591 x1))), vI (m2 600 (m2 591 (m2 591 x1))), vI (if (m2 599 (m2 591 (m2 591 x1))) ≤ 0 then 0 else (if (m2 600 (m2 591 (m2 591 x1))) = 0 then 1 else 0 : Int) : Int), vI 0] (vI z :: []) m2 Q T) (show (if (m2 600 (m2 591 (m2 591 x1))) ≤ 0 then 0 else (if (m2 599 (m2 591 (m2 591 x1))) = 0 then 1 else 0 : Int) : Int) = 0 by rw [if_pos c25])) K
                ·
                  have hs := ifF c25 hs
                  have g26 := hs
                  refine b_iload dX10_judgeBuilt_596 rfl ?_
                  refine b_if_ne 605 dX10_judgeBuilt_598 g26 (by decide) (fun c26 => ?_) (fun c26 => ?_)
                  ·
                    refine b_iconst dX10_judgeBuilt_605 ?_
                    exact Eq.mp (congrArg (fun z => B f M_X10_judgeBuilt 606 [vR 582, vI x1, vI x2, vI x3, vI r1, vI (m2 591 (m2 591 x1)), vI (if 0 ≤ (m2 594 (m2 591 x1)) then (m2 591 (m2 594 (m2 591 x1))) else (-1) : Int), vI (if r1 = 0 then 1 else (if r1 = 2 then 1 else (if r1 = 3 then 1 else 0 : Int) : Int) : Int), vI (m2 598 (m2 591 (m2 591 x1))), vI (m2 599 (m2 591 (m2 591 x1))), vI (m2 600 (m2 591 (m2 591 x1))), vI (if (m2 599 (m2 591 (m2 591 x1))) ≤ 0 then 0 else (if (m2 600 (m2 591 (m2 591 x1))) = 0 then 1 else 0 : Int) : Int), vI 0] (vI z :: []) m2 Q T) (show (if (m2 600 (m2 591 (m2 591 x1))) ≤ 0 then 0 else (if (m2 599 (m2 591 (m2 591 x1))) = 0 then 1 else 0 : Int) : Int) = 0 by rw [if_neg c25, if_neg c26])) K
                  ·
                    have c26 := Decidable.of_not_not c26
                    refine b_iconst dX10_judgeBuilt_601 ?_
                    refine b_goto 606 dX10_judgeBuilt_602 (by decide) ?_
                    exact Eq.mp (congrArg (fun z => B f M_X10_judgeBuilt 606 [vR 582, vI x1, vI x2, vI x3, vI r1, vI (m2 591 (m2 591 x1)), vI (if 0 ≤ (m2 594 (m2 591 x1)) then (m2 591 (m2 594 (m2 591 x1))) else (-1) : Int), vI (if r1 = 0 then 1 else (if r1 = 2 then 1 else (if r1 = 3 then 1 else 0 : Int) : Int) : Int), vI (m2 598 (m2 591 (m2 591 x1))), vI (m2 599 (m2 591 (m2 591 x1))), vI (m2 600 (m2 591 (m2 591 x1))), vI (if (m2 599 (m2 591 (m2 591 x1))) ≤ 0 then 0 else (if (m2 600 (m2 591 (m2 591 x1))) = 0 then 1 else 0 : Int) : Int), vI 0] (vI z :: []) m2 Q T) (show (if (m2 600 (m2 591 (m2 591 x1))) ≤ 0 then 0 else (if (m2 599 (m2 591 (m2 591 x1))) = 0 then 1 else 0 : Int) : Int) = 1 by rw [if_neg c25, if_pos c26])) K
              have h := ifF c24 h
              by_cases c27 : r1 = 11
              · have h := ifT c27 h
                refine b_tswIn 620 dX10_judgeBuilt_237 g13 (by omega) (by omega) (by rw [c27]; rfl) (by decide) ?_
                refine b_iload dX10_judgeBuilt_620 rfl ?_
                refine b_iconst dX10_judgeBuilt_622 ?_
                obtain ⟨g27, h⟩ := h
                refine b_icmp_le 649 dX10_judgeBuilt_623 g27 (by decide) (by decide) (fun c28 => ?_) (fun c28 => ?_)
                · have h := ifT c28 h
                  refine b_fgt [true, true, false, false, false, false, false, false, false, false, false, false, false] (ls' := [vR 582, vI x1, vU, vU, vU, vU, vU, vU, vU, vU, vU, vU, vU]) rfl rfl ?_
                  exact pl_X10_judgeBuilt_649 hrec hf _ _ h
                · have h := ifF c28 h
                  refine b_iload dX10_judgeBuilt_626 rfl ?_
                  refine b_cSi (as := [vI (m2 598 (m2 591 (m2 591 x1)))]) (st := []) dX10_judgeBuilt_628 mf_X10_isField lk_X10_493 (p_X10_isField (f := 1) (Nat.le_refl _) _ _ h) (by omega) rfl rfl (Nat.le_of_ble_eq_true rfl) (by decide) rfl (fun _ => rfl) (fun r14 m15 h => ?_) (fun _ h => h)
                  obtain ⟨hs, h⟩ := h
                  have K : B f M_X10_judgeBuilt 650 [vR 582, vI x1, vI x2, vI x3, vI r1, vI (m2 591 (m2 591 x1)), vI (if 0 ≤ (m2 594 (m2 591 x1)) then (m2 591 (m2 594 (m2 591 x1))) else (-1) : Int), vI (if r1 = 0 then 1 else (if r1 = 2 then 1 else (if r1 = 3 then 1 else 0 : Int) : Int) : Int), vI (m2 598 (m2 591 (m2 591 x1))), vI (m2 599 (m2 591 (m2 591 x1))), vI (m2 600 (m2 591 (m2 591 x1))), vI (if (m2 599 (m2 591 (m2 591 x1))) ≤ 0 then 0 else (if (m2 600 (m2 591 (m2 591 x1))) = 0 then 1 else 0 : Int) : Int), vI 0] [vI (if r14 = 0 then 0 else (if (m2 599 (m2 591 (m2 591 x1))) = 1 then (if (m2 600 (m2 591 (m2 591 x1))) = 0 then 1 else 0 : Int) else 0 : Int) : Int)] m15 Q T := by
                    clear hs
                    refine b_istore (ls' := [vR 582, vI x1, vI x2, vI x3, vI r1, vI (m2 591 (m2 591 x1)), vI (if 0 ≤ (m2 594 (m2 591 x1)) then (m2 591 (m2 594 (m2 591 x1))) else (-1) : Int), vI (if r1 = 0 then 1 else (if r1 = 2 then 1 else (if r1 = 3 then 1 else 0 : Int) : Int) : Int), vI (m2 598 (m2 591 (m2 591 x1))), vI (m2 599 (m2 591 (m2 591 x1))), vI (m2 600 (m2 591 (m2 591 x1))), vI (if (m2 599 (m2 591 (m2 591 x1))) ≤ 0 then 0 else (if (m2 600 (m2 591 (m2 591 x1))) = 0 then 1 else 0 : Int) : Int), vI (if r14 = 0 then 0 else (if (m2 599 (m2 591 (m2 591 x1))) = 1 then (if (m2 600 (m2 591 (m2 591 x1))) = 0 then 1 else 0 : Int) else 0 : Int) : Int)]) dX10_judgeBuilt_650 (Nat.le_of_ble_eq_true rfl) rfl ?_
                    refine b_aload_n dX10_judgeBuilt_652 rfl ?_
                    refine b_iload_n dX10_judgeBuilt_653 rfl ?_
                    refine b_iconst dX10_judgeBuilt_654 ?_
                    refine b_iconst dX10_judgeBuilt_655 ?_
                    refine b_iconst dX10_judgeBuilt_656 ?_
                    refine b_cVv (as := [vI x1, vI 0, vI 0, vI 0]) (st := []) dX10_judgeBuilt_657 mf_X10_setRing qs128 lk_X10_482 ly_582 rfl (p_X10_setRing (f := 1) (Nat.le_refl _) _ _ _ _ _ h) (by omega) rfl rfl (Nat.le_of_ble_eq_true rfl) (by decide) rfl (fun _ => rfl) (fun r15 m16 h => ?_) (fun _ h => h)
                    refine b_goto 698 dX10_judgeBuilt_660 (by decide) ?_
                    refine b_fgt [true, true, false, false, false, false, false, false, false, false, false, false, true] (ls' := [vR 582, vI x1, vU, vU, vU, vU, vU, vU, vU, vU, vU, vU, vI (if r14 = 0 then 0 else (if (m2 599 (m2 591 (m2 591 x1))) = 1 then (if (m2 600 (m2 591 (m2 591 x1))) = 0 then 1 else 0 : Int) else 0 : Int) : Int)]) rfl rfl ?_
                    exact pl_X10_judgeBuilt_698 hrec hf _ _ _ h
                  obtain ⟨g28, hs⟩ := hs
                  refine b_if_eq 649 dX10_judgeBuilt_631 g28 (by decide) (fun c29 => ?_) (fun c29 => ?_)
                  ·
                    refine b_iconst dX10_judgeBuilt_649 ?_
                    exact Eq.mp (congrArg (fun z => B f M_X10_judgeBuilt 650 [vR 582, vI x1, vI x2, vI x3, vI r1, vI (m2 591 (m2 591 x1)), vI (if 0 ≤ (m2 594 (m2 591 x1)) then (m2 591 (m2 594 (m2 591 x1))) else (-1) : Int), vI (if r1 = 0 then 1 else (if r1 = 2 then 1 else (if r1 = 3 then 1 else 0 : Int) : Int) : Int), vI (m2 598 (m2 591 (m2 591 x1))), vI (m2 599 (m2 591 (m2 591 x1))), vI (m2 600 (m2 591 (m2 591 x1))), vI (if (m2 599 (m2 591 (m2 591 x1))) ≤ 0 then 0 else (if (m2 600 (m2 591 (m2 591 x1))) = 0 then 1 else 0 : Int) : Int), vI 0] (vI z :: []) m15 Q T) (show (if r14 = 0 then 0 else (if (m2 599 (m2 591 (m2 591 x1))) = 1 then (if (m2 600 (m2 591 (m2 591 x1))) = 0 then 1 else 0 : Int) else 0 : Int) : Int) = 0 by rw [if_pos c29])) K
                  ·
                    have hs := ifF c29 hs
                    obtain ⟨g29, hs⟩ := hs
                    refine b_iload dX10_judgeBuilt_634 rfl ?_
                    refine b_iconst dX10_judgeBuilt_636 ?_
                    refine b_icmp_ne 649 dX10_judgeBuilt_637 g29 (by decide) (by decide) (fun c30 => ?_) (fun c30 => ?_)
                    ·
                      refine b_iconst dX10_judgeBuilt_649 ?_
                      exact Eq.mp (congrArg (fun z => B f M_X10_judgeBuilt 650 [vR 582, vI x1, vI x2, vI x3, vI r1, vI (m2 591 (m2 591 x1)), vI (if 0 ≤ (m2 594 (m2 591 x1)) then (m2 591 (m2 594 (m2 591 x1))) else (-1) : Int), vI (if r1 = 0 then 1 else (if r1 = 2 then 1 else (if r1 = 3 then 1 else 0 : Int) : Int) : Int), vI (m2 598 (m2 591 (m2 591 x1))), vI (m2 599 (m2 591 (m2 591 x1))), vI (m2 600 (m2 591 (m2 591 x1))), vI (if (m2 599 (m2 591 (m2 591 x1))) ≤ 0 then 0 else (if (m2 600 (m2 591 (m2 591 x1))) = 0 then 1 else 0 : Int) : Int), vI 0] (vI z :: []) m15 Q T) (show (if r14 = 0 then 0 else (if (m2 599 (m2 591 (m2 591 x1))) = 1 then (if (m2 600 (m2 591 (m2 591 x1))) = 0 then 1 else 0 : Int) else 0 : Int) : Int) = 0 by rw [if_neg c29, if_neg c30])) K
                    ·
                      have c30 := Decidable.of_not_not c30
                      have hs := ifT c30 hs
                      have g30 := hs
                      refine b_iload dX10_judgeBuilt_640 rfl ?_
                      refine b_if_ne 649 dX10_judgeBuilt_642 g30 (by decide) (fun c31 => ?_) (fun c31 => ?_)
                      ·
                        refine b_iconst dX10_judgeBuilt_649 ?_
                        exact Eq.mp (congrArg (fun z => B f M_X10_judgeBuilt 650 [vR 582, vI x1, vI x2, vI x3, vI r1, vI (m2 591 (m2 591 x1)), vI (if 0 ≤ (m2 594 (m2 591 x1)) then (m2 591 (m2 594 (m2 591 x1))) else (-1) : Int), vI (if r1 = 0 then 1 else (if r1 = 2 then 1 else (if r1 = 3 then 1 else 0 : Int) : Int) : Int), vI (m2 598 (m2 591 (m2 591 x1))), vI (m2 599 (m2 591 (m2 591 x1))), vI (m2 600 (m2 591 (m2 591 x1))), vI (if (m2 599 (m2 591 (m2 591 x1))) ≤ 0 then 0 else (if (m2 600 (m2 591 (m2 591 x1))) = 0 then 1 else 0 : Int) : Int), vI 0] (vI z :: []) m15 Q T) (show (if r14 = 0 then 0 else (if (m2 599 (m2 591 (m2 591 x1))) = 1 then (if (m2 600 (m2 591 (m2 591 x1))) = 0 then 1 else 0 : Int) else 0 : Int) : Int) = 0 by rw [if_neg c29, if_pos c30, if_neg c31])) K
                      ·
                        have c31 := Decidable.of_not_not c31
                        refine b_iconst dX10_judgeBuilt_645 ?_
                        refine b_goto 650 dX10_judgeBuilt_646 (by decide) ?_
                        exact Eq.mp (congrArg (fun z => B f M_X10_judgeBuilt 650 [vR 582, vI x1, vI x2, vI x3, vI r1, vI (m2 591 (m2 591 x1)), vI (if 0 ≤ (m2 594 (m2 591 x1)) then (m2 591 (m2 594 (m2 591 x1))) else (-1) : Int), vI (if r1 = 0 then 1 else (if r1 = 2 then 1 else (if r1 = 3 then 1 else 0 : Int) : Int) : Int), vI (m2 598 (m2 591 (m2 591 x1))), vI (m2 599 (m2 591 (m2 591 x1))), vI (m2 600 (m2 591 (m2 591 x1))), vI (if (m2 599 (m2 591 (m2 591 x1))) ≤ 0 then 0 else (if (m2 600 (m2 591 (m2 591 x1))) = 0 then 1 else 0 : Int) : Int), vI 0] (vI z :: []) m15 Q T) (show (if r14 = 0 then 0 else (if (m2 599 (m2 591 (m2 591 x1))) = 1 then (if (m2 600 (m2 591 (m2 591 x1))) = 0 then 1 else 0 : Int) else 0 : Int) : Int) = 1 by rw [if_neg c29, if_pos c30, if_pos c31])) K
              have h := ifF c27 h
              refine b_tswOut 663 dX10_judgeBuilt_237 g13 (by omega) (by decide) ?_
              refine b_aload_n dX10_judgeBuilt_663 rfl ?_
              refine b_iload dX10_judgeBuilt_664 rfl ?_
              refine b_iconst dX10_judgeBuilt_666 ?_
              refine b_cVi (as := [vI (m2 591 (m2 591 x1)), vI 0]) (st := []) dX10_judgeBuilt_667 mf_X10_isNumber qs150 lk_X10_598 ly_582 rfl (p_X10_isNumber (f := 1) (Nat.le_refl _) _ _ _ h) (by omega) rfl rfl (Nat.le_of_ble_eq_true rfl) (by decide) rfl (fun _ => rfl) (fun r16 m17 h => ?_) (fun _ h => h)
              obtain ⟨g31, h⟩ := h
              refine b_if_ne 683 dX10_judgeBuilt_670 g31 (by decide) (fun c32 => ?_) (fun c32 => ?_)
              · have h := ifF c32 h
                refine b_fgt [true, true, false, false, false, false, false, false, false, false, false, false, false] (ls' := [vR 582, vI x1, vU, vU, vU, vU, vU, vU, vU, vU, vU, vU, vU]) rfl rfl ?_
                exact pl_X10_judgeBuilt_683 hrec hf _ _ h
              · have h := ifT (Decidable.of_not_not c32) h
                refine b_aload_n dX10_judgeBuilt_673 rfl ?_
                refine b_iload dX10_judgeBuilt_674 rfl ?_
                refine b_iconst dX10_judgeBuilt_676 ?_
                refine b_cVi (as := [vI (m2 591 (m2 591 x1)), vI 1]) (st := []) dX10_judgeBuilt_677 mf_X10_isNumber qs150 lk_X10_598 ly_582 rfl (p_X10_isNumber (f := 1) (Nat.le_refl _) _ _ _ h) (by omega) rfl rfl (Nat.le_of_ble_eq_true rfl) (by decide) rfl (fun _ => rfl) (fun r17 m18 h => ?_) (fun _ h => h)
                obtain ⟨hs, h⟩ := h
                have K : B f M_X10_judgeBuilt 688 [vR 582, vI x1, vI x2, vI x3, vI r1, vI (m2 591 (m2 591 x1)), vI (if 0 ≤ (m2 594 (m2 591 x1)) then (m2 591 (m2 594 (m2 591 x1))) else (-1) : Int), vI (if r1 = 0 then 1 else (if r1 = 2 then 1 else (if r1 = 3 then 1 else 0 : Int) : Int) : Int), vI (m2 598 (m2 591 (m2 591 x1))), vI (m2 599 (m2 591 (m2 591 x1))), vI (m2 600 (m2 591 (m2 591 x1))), vI (if (m2 599 (m2 591 (m2 591 x1))) ≤ 0 then 0 else (if (m2 600 (m2 591 (m2 591 x1))) = 0 then 1 else 0 : Int) : Int), vI 0] [vI (if r17 = 0 then 0 else 1 : Int)] m18 Q T := by
                  clear hs
                  refine b_istore (ls' := [vR 582, vI x1, vI x2, vI x3, vI r1, vI (m2 591 (m2 591 x1)), vI (if 0 ≤ (m2 594 (m2 591 x1)) then (m2 591 (m2 594 (m2 591 x1))) else (-1) : Int), vI (if r1 = 0 then 1 else (if r1 = 2 then 1 else (if r1 = 3 then 1 else 0 : Int) : Int) : Int), vI (m2 598 (m2 591 (m2 591 x1))), vI (m2 599 (m2 591 (m2 591 x1))), vI (m2 600 (m2 591 (m2 591 x1))), vI (if (m2 599 (m2 591 (m2 591 x1))) ≤ 0 then 0 else (if (m2 600 (m2 591 (m2 591 x1))) = 0 then 1 else 0 : Int) : Int), vI (if r17 = 0 then 0 else 1 : Int)]) dX10_judgeBuilt_688 (Nat.le_of_ble_eq_true rfl) rfl ?_
                  refine b_aload_n dX10_judgeBuilt_690 rfl ?_
                  refine b_iload_n dX10_judgeBuilt_691 rfl ?_
                  refine b_iconst dX10_judgeBuilt_692 ?_
                  refine b_iconst dX10_judgeBuilt_693 ?_
                  refine b_iconst dX10_judgeBuilt_694 ?_
                  refine b_cVv (as := [vI x1, vI 0, vI 0, vI 0]) (st := []) dX10_judgeBuilt_695 mf_X10_setRing qs128 lk_X10_482 ly_582 rfl (p_X10_setRing (f := 1) (Nat.le_refl _) _ _ _ _ _ h) (by omega) rfl rfl (Nat.le_of_ble_eq_true rfl) (by decide) rfl (fun _ => rfl) (fun r18 m19 h => ?_) (fun _ h => h)
                  refine b_fgt [true, true, false, false, false, false, false, false, false, false, false, false, true] (ls' := [vR 582, vI x1, vU, vU, vU, vU, vU, vU, vU, vU, vU, vU, vI (if r17 = 0 then 0 else 1 : Int)]) rfl rfl ?_
                  exact pl_X10_judgeBuilt_698 hrec hf _ _ _ h
                have g32 := hs
                refine b_if_eq 687 dX10_judgeBuilt_680 g32 (by decide) (fun c33 => ?_) (fun c33 => ?_)
                ·
                  refine b_iconst dX10_judgeBuilt_687 ?_
                  exact Eq.mp (congrArg (fun z => B f M_X10_judgeBuilt 688 [vR 582, vI x1, vI x2, vI x3, vI r1, vI (m2 591 (m2 591 x1)), vI (if 0 ≤ (m2 594 (m2 591 x1)) then (m2 591 (m2 594 (m2 591 x1))) else (-1) : Int), vI (if r1 = 0 then 1 else (if r1 = 2 then 1 else (if r1 = 3 then 1 else 0 : Int) : Int) : Int), vI (m2 598 (m2 591 (m2 591 x1))), vI (m2 599 (m2 591 (m2 591 x1))), vI (m2 600 (m2 591 (m2 591 x1))), vI (if (m2 599 (m2 591 (m2 591 x1))) ≤ 0 then 0 else (if (m2 600 (m2 591 (m2 591 x1))) = 0 then 1 else 0 : Int) : Int), vI 0] (vI z :: []) m18 Q T) (show (if r17 = 0 then 0 else 1 : Int) = 0 by rw [if_pos c33])) K
                ·
                  refine b_iconst dX10_judgeBuilt_683 ?_
                  refine b_goto 688 dX10_judgeBuilt_684 (by decide) ?_
                  exact Eq.mp (congrArg (fun z => B f M_X10_judgeBuilt 688 [vR 582, vI x1, vI x2, vI x3, vI r1, vI (m2 591 (m2 591 x1)), vI (if 0 ≤ (m2 594 (m2 591 x1)) then (m2 591 (m2 594 (m2 591 x1))) else (-1) : Int), vI (if r1 = 0 then 1 else (if r1 = 2 then 1 else (if r1 = 3 then 1 else 0 : Int) : Int) : Int), vI (m2 598 (m2 591 (m2 591 x1))), vI (m2 599 (m2 591 (m2 591 x1))), vI (m2 600 (m2 591 (m2 591 x1))), vI (if (m2 599 (m2 591 (m2 591 x1))) ≤ 0 then 0 else (if (m2 600 (m2 591 (m2 591 x1))) = 0 then 1 else 0 : Int) : Int), vI 0] (vI z :: []) m18 Q T) (show (if r17 = 0 then 0 else 1 : Int) = 1 by rw [if_neg c33])) K
            obtain ⟨g11, hs⟩ := hs
            refine b_if_le 229 dX10_judgeBuilt_217 g11 (by decide) (fun c34 => ?_) (fun c34 => ?_)
            ·
              refine b_iconst dX10_judgeBuilt_229 ?_
              exact Eq.mp (congrArg (fun z => B f M_X10_judgeBuilt 230 [vR 582, vI x1, vI x2, vI x3, vI r1, vI (m2 591 (m2 591 x1)), vI (if 0 ≤ (m2 594 (m2 591 x1)) then (m2 591 (m2 594 (m2 591 x1))) else (-1) : Int), vI (if r1 = 0 then 1 else (if r1 = 2 then 1 else (if r1 = 3 then 1 else 0 : Int) : Int) : Int), vI (m2 598 (m2 591 (m2 591 x1))), vI (m2 599 (m2 591 (m2 591 x1))), vI (m2 600 (m2 591 (m2 591 x1))), vU, vU] (vI z :: []) m2 Q T) (show (if (m2 599 (m2 591 (m2 591 x1))) ≤ 0 then 0 else (if (m2 600 (m2 591 (m2 591 x1))) = 0 then 1 else 0 : Int) : Int) = 0 by rw [if_pos c34])) K
            ·
              have hs := ifF c34 hs
              have g12 := hs
              refine b_iload dX10_judgeBuilt_220 rfl ?_
              refine b_if_ne 229 dX10_judgeBuilt_222 g12 (by decide) (fun c35 => ?_) (fun c35 => ?_)
              ·
                refine b_iconst dX10_judgeBuilt_229 ?_
                exact Eq.mp (congrArg (fun z => B f M_X10_judgeBuilt 230 [vR 582, vI x1, vI x2, vI x3, vI r1, vI (m2 591 (m2 591 x1)), vI (if 0 ≤ (m2 594 (m2 591 x1)) then (m2 591 (m2 594 (m2 591 x1))) else (-1) : Int), vI (if r1 = 0 then 1 else (if r1 = 2 then 1 else (if r1 = 3 then 1 else 0 : Int) : Int) : Int), vI (m2 598 (m2 591 (m2 591 x1))), vI (m2 599 (m2 591 (m2 591 x1))), vI (m2 600 (m2 591 (m2 591 x1))), vU, vU] (vI z :: []) m2 Q T) (show (if (m2 599 (m2 591 (m2 591 x1))) ≤ 0 then 0 else (if (m2 600 (m2 591 (m2 591 x1))) = 0 then 1 else 0 : Int) : Int) = 0 by rw [if_neg c34, if_neg c35])) K
              ·
                have c35 := Decidable.of_not_not c35
                refine b_iconst dX10_judgeBuilt_225 ?_
                refine b_goto 230 dX10_judgeBuilt_226 (by decide) ?_
                exact Eq.mp (congrArg (fun z => B f M_X10_judgeBuilt 230 [vR 582, vI x1, vI x2, vI x3, vI r1, vI (m2 591 (m2 591 x1)), vI (if 0 ≤ (m2 594 (m2 591 x1)) then (m2 591 (m2 594 (m2 591 x1))) else (-1) : Int), vI (if r1 = 0 then 1 else (if r1 = 2 then 1 else (if r1 = 3 then 1 else 0 : Int) : Int) : Int), vI (m2 598 (m2 591 (m2 591 x1))), vI (m2 599 (m2 591 (m2 591 x1))), vI (m2 600 (m2 591 (m2 591 x1))), vU, vU] (vI z :: []) m2 Q T) (show (if (m2 599 (m2 591 (m2 591 x1))) ≤ 0 then 0 else (if (m2 600 (m2 591 (m2 591 x1))) = 0 then 1 else 0 : Int) : Int) = 1 by rw [if_neg c34, if_pos c35])) K
          · have h := ifF c2 h
            refine b_aload_n dX10_judgeBuilt_182 rfl ?_
            refine b_iload_n dX10_judgeBuilt_183 rfl ?_
            refine b_cVv (as := [vI x1]) (st := []) dX10_judgeBuilt_184 mf_X10_wrong qs146 lk_X10_486 ly_582 rfl (p_X10_wrong (f := 2) (Nat.le_refl _) _ _ h) (by omega) rfl rfl (Nat.le_of_ble_eq_true rfl) (by decide) rfl (fun _ => rfl) (fun r19 m20 h => ?_) (fun _ h => h)
            exact b_vret dX10_judgeBuilt_187 rfl h
        have g7 := hs
        refine b_if_eq 178 dX10_judgeBuilt_171 g7 (by decide) (fun c36 => ?_) (fun c36 => ?_)
        ·
          refine b_iconst dX10_judgeBuilt_178 ?_
          exact Eq.mp (congrArg (fun z => B f M_X10_judgeBuilt 179 [vR 582, vI x1, vI x2, vI x3, vI r1, vI (m2 591 (m2 591 x1)), vI (if 0 ≤ (m2 594 (m2 591 x1)) then (m2 591 (m2 594 (m2 591 x1))) else (-1) : Int), vI (if r1 = 0 then 1 else (if r1 = 2 then 1 else (if r1 = 3 then 1 else 0 : Int) : Int) : Int), vU, vU, vU, vU, vU] (vI z :: [vI x3]) m2 Q T) (show (if (if r1 = 0 then 1 else (if r1 = 2 then 1 else (if r1 = 3 then 1 else 0 : Int) : Int) : Int) = 0 then 1 else 2 : Int) = 1 by rw [if_pos c36])) K
        ·
          refine b_iconst dX10_judgeBuilt_174 ?_
          refine b_goto 179 dX10_judgeBuilt_175 (by decide) ?_
          exact Eq.mp (congrArg (fun z => B f M_X10_judgeBuilt 179 [vR 582, vI x1, vI x2, vI x3, vI r1, vI (m2 591 (m2 591 x1)), vI (if 0 ≤ (m2 594 (m2 591 x1)) then (m2 591 (m2 594 (m2 591 x1))) else (-1) : Int), vI (if r1 = 0 then 1 else (if r1 = 2 then 1 else (if r1 = 3 then 1 else 0 : Int) : Int) : Int), vU, vU, vU, vU, vU] (vI z :: [vI x3]) m2 Q T) (show (if (if r1 = 0 then 1 else (if r1 = 2 then 1 else (if r1 = 3 then 1 else 0 : Int) : Int) : Int) = 0 then 1 else 2 : Int) = 2 by rw [if_neg c36])) K
      have g6 := hs
      refine b_if_eq 161 dX10_judgeBuilt_146 g6 (by decide) (fun c37 => ?_) (fun c37 => ?_)
      ·
        refine b_iconst dX10_judgeBuilt_161 ?_
        refine b_goto 166 dX10_judgeBuilt_162 (by decide) ?_
        exact Eq.mp (congrArg (fun z => B f M_X10_judgeBuilt 166 [vR 582, vI x1, vI x2, vI x3, vI r1, vI (m2 591 (m2 591 x1)), vI (if 0 ≤ (m2 594 (m2 591 x1)) then (m2 591 (m2 594 (m2 591 x1))) else (-1) : Int), vU, vU, vU, vU, vU, vU] (vI z :: []) m2 Q T) (show (if r1 = 0 then 1 else (if r1 = 2 then 1 else (if r1 = 3 then 1 else 0 : Int) : Int) : Int) = 1 by rw [if_pos c37])) K
      ·
        refine b_iload dX10_judgeBuilt_149 rfl ?_
        refine b_iconst dX10_judgeBuilt_151 ?_
        refine b_icmp_eq 161 dX10_judgeBuilt_152 g6 (by decide) (by decide) (fun c38 => ?_) (fun c38 => ?_)
        ·
          refine b_iconst dX10_judgeBuilt_161 ?_
          refine b_goto 166 dX10_judgeBuilt_162 (by decide) ?_
          exact Eq.mp (congrArg (fun z => B f M_X10_judgeBuilt 166 [vR 582, vI x1, vI x2, vI x3, vI r1, vI (m2 591 (m2 591 x1)), vI (if 0 ≤ (m2 594 (m2 591 x1)) then (m2 591 (m2 594 (m2 591 x1))) else (-1) : Int), vU, vU, vU, vU, vU, vU] (vI z :: []) m2 Q T) (show (if r1 = 0 then 1 else (if r1 = 2 then 1 else (if r1 = 3 then 1 else 0 : Int) : Int) : Int) = 1 by rw [if_neg c37, if_pos c38])) K
        ·
          refine b_iload dX10_judgeBuilt_155 rfl ?_
          refine b_iconst dX10_judgeBuilt_157 ?_
          refine b_icmp_ne 165 dX10_judgeBuilt_158 g6 (by decide) (by decide) (fun c39 => ?_) (fun c39 => ?_)
          ·
            refine b_iconst dX10_judgeBuilt_165 ?_
            exact Eq.mp (congrArg (fun z => B f M_X10_judgeBuilt 166 [vR 582, vI x1, vI x2, vI x3, vI r1, vI (m2 591 (m2 591 x1)), vI (if 0 ≤ (m2 594 (m2 591 x1)) then (m2 591 (m2 594 (m2 591 x1))) else (-1) : Int), vU, vU, vU, vU, vU, vU] (vI z :: []) m2 Q T) (show (if r1 = 0 then 1 else (if r1 = 2 then 1 else (if r1 = 3 then 1 else 0 : Int) : Int) : Int) = 0 by rw [if_neg c37, if_neg c38, if_neg c39])) K
          ·
            have c39 := Decidable.of_not_not c39
            refine b_iconst dX10_judgeBuilt_161 ?_
            refine b_goto 166 dX10_judgeBuilt_162 (by decide) ?_
            exact Eq.mp (congrArg (fun z => B f M_X10_judgeBuilt 166 [vR 582, vI x1, vI x2, vI x3, vI r1, vI (m2 591 (m2 591 x1)), vI (if 0 ≤ (m2 594 (m2 591 x1)) then (m2 591 (m2 594 (m2 591 x1))) else (-1) : Int), vU, vU, vU, vU, vU, vU] (vI z :: []) m2 Q T) (show (if r1 = 0 then 1 else (if r1 = 2 then 1 else (if r1 = 3 then 1 else 0 : Int) : Int) : Int) = 1 by rw [if_neg c37, if_neg c38, if_pos c39])) K
    obtain ⟨g4, hs⟩ := hs
    refine b_if_ge 126 dX10_judgeBuilt_119 g4 (by decide) (fun c40 => ?_) (fun c40 => ?_)
    ·
      have hs := ifT c40 hs
      have g5 := hs
      refine b_aload_n dX10_judgeBuilt_126 rfl ?_
      refine b_getR dX10_judgeBuilt_127 fk_X10_109 ly_582 gg_582_17 ?_
      refine b_aload_n dX10_judgeBuilt_130 rfl ?_
      refine b_getR dX10_judgeBuilt_131 fk_X10_118 ly_582 gg_582_20 ?_
      refine b_aload_n dX10_judgeBuilt_134 rfl ?_
      refine b_getR dX10_judgeBuilt_135 fk_X10_109 ly_582 gg_582_17 ?_
      refine b_iload_n dX10_judgeBuilt_138 rfl ?_
      refine b_iald dX10_judgeBuilt_139 ly_591 g2 ?_
      refine b_iald dX10_judgeBuilt_140 ly_594 g3 ?_
      refine b_iald dX10_judgeBuilt_141 ly_591 g5 ?_
      exact Eq.mp (congrArg (fun z => B f M_X10_judgeBuilt 142 [vR 582, vI x1, vI x2, vI x3, vI r1, vI (m2 591 (m2 591 x1)), vU, vU, vU, vU, vU, vU, vU] (vI z :: []) m2 Q T) (show (if 0 ≤ (m2 594 (m2 591 x1)) then (m2 591 (m2 594 (m2 591 x1))) else (-1) : Int) = (m2 591 (m2 594 (m2 591 x1))) by rw [if_pos c40])) K
    ·
      refine b_iconst dX10_judgeBuilt_122 ?_
      refine b_goto 142 dX10_judgeBuilt_123 (by decide) ?_
      exact Eq.mp (congrArg (fun z => B f M_X10_judgeBuilt 142 [vR 582, vI x1, vI x2, vI x3, vI r1, vI (m2 591 (m2 591 x1)), vU, vU, vU, vU, vU, vU, vU] (vI z :: []) m2 Q T) (show (if 0 ≤ (m2 594 (m2 591 x1)) then (m2 591 (m2 594 (m2 591 x1))) else (-1) : Int) = (-1) by rw [if_neg c40])) K
  · have h := ifT (Decidable.of_not_not c1) h
    exact b_vret dX10_judgeBuilt_74 rfl h
theorem pl_X10_judgeBuilt_12 {f : Nat} {Q : Int → MM → Prop} {T : MM → Prop} {rec : Nat → List Int → MM → (Int → MM → Prop) → (MM → Prop) → Prop} {fr : Nat} (hrec : HR_X10_judge rec fr) (hf : 24 ≤ f ∧ fr + 1 ≤ f) : ∀ (n : Nat) (x1 : Int) (x2 : Int) (x3 : Int) (x4 : Int) (m : MM), P_X10_judgeBuilt_12 rec Q T n x1 x2 x3 x4 m → B f M_X10_judgeBuilt 12 [vR 582, vI x1, vI x2, vI x3, vI x4, vU, vU, vU, vU, vU, vU, vU, vU] [] m Q T := by
  intro n
  induction n with
  | zero => intro x1 x2 x3 x4 m h; exact h.elim
  | succ n ih =>
    intro x1 x2 x3 x4 m h
    have h : (RI x4) ∧ (if x4 < 0 then P_X10_judgeBuilt_70 rec Q T x1 x2 x3 m else (0 ≤ x4 ∧ x4 < 12000) ∧ rec 0 [(m 591 x4)] m (fun r1 m1 => ((RI x2) ∧ (if x2 = 0 then True else ((0 ≤ (m1 591 x4) ∧ (m1 591 x4) < 12000) ∧ (RI (m1 598 (m1 591 x4)))))) ∧ P_X10_judgeBuilt_12 rec Q T n x1 (if x2 = 0 then 0 else (if (m1 598 (m1 591 x4)) = (-9) then 0 else 1 : Int) : Int) (x3 + 1) (m1 594 x4) m1) T) := h
    refine b_iload dX10_judgeBuilt_12 rfl ?_
    obtain ⟨g1, h⟩ := h
    refine b_if_lt 70 dX10_judgeBuilt_14 g1 (by decide) (fun c1 => ?_) (fun c1 => ?_)
    · have h := ifT c1 h
      refine b_fgt [true, true, true, true, false, false, false, false, false, false, false, false, false] (ls' := [vR 582, vI x1, vI x2, vI x3, vU, vU, vU, vU, vU, vU, vU, vU, vU]) rfl rfl ?_
      exact pl_X10_judgeBuilt_70 hrec hf _ _ _ _ h
    · have h := ifF c1 h
      refine b_aload_n dX10_judgeBuilt_17 rfl ?_
      refine b_aload_n dX10_judgeBuilt_18 rfl ?_
      refine b_getR dX10_judgeBuilt_19 fk_X10_109 ly_582 gg_582_17 ?_
      refine b_iload dX10_judgeBuilt_22 rfl ?_
      obtain ⟨g2, h⟩ := h
      refine b_iald dX10_judgeBuilt_24 ly_591 g2 ?_
      refine b_cVv (as := [vI (m 591 x4)]) (st := []) dX10_judgeBuilt_25 mf_X10_judge qs134 lk_X10_476 ly_582 rfl (hrec.1 _ _ _ _ h) (by omega) rfl rfl (Nat.le_of_ble_eq_true rfl) (by decide) rfl (fun _ => rfl) (fun r1 m1 h => ?_) (fun _ h => h)
      refine b_iload_n dX10_judgeBuilt_28 rfl ?_
      obtain ⟨hs, h⟩ := h
      have K : B f M_X10_judgeBuilt 54 [vR 582, vI x1, vI x2, vI x3, vI x4, vU, vU, vU, vU, vU, vU, vU, vU] [vI (if x2 = 0 then 0 else (if (m1 598 (m1 591 x4)) = (-9) then 0 else 1 : Int) : Int)] m1 Q T := by
        clear hs
        refine b_istore_n (ls' := [vR 582, vI x1, vI (if x2 = 0 then 0 else (if (m1 598 (m1 591 x4)) = (-9) then 0 else 1 : Int) : Int), vI x3, vI x4, vU, vU, vU, vU, vU, vU, vU, vU]) dX10_judgeBuilt_54 (Nat.le_of_ble_eq_true rfl) rfl ?_
        refine b_iinc (ls' := [vR 582, vI x1, vI (if x2 = 0 then 0 else (if (m1 598 (m1 591 x4)) = (-9) then 0 else 1 : Int) : Int), vI (x3 + 1), vI x4, vU, vU, vU, vU, vU, vU, vU, vU]) dX10_judgeBuilt_55 rfl rfl ?_
        refine b_aload_n dX10_judgeBuilt_58 rfl ?_
        refine b_getR dX10_judgeBuilt_59 fk_X10_118 ly_582 gg_582_20 ?_
        refine b_iload dX10_judgeBuilt_62 rfl ?_
        refine b_iald dX10_judgeBuilt_64 ly_594 g2 ?_
        refine b_istore (ls' := [vR 582, vI x1, vI (if x2 = 0 then 0 else (if (m1 598 (m1 591 x4)) = (-9) then 0 else 1 : Int) : Int), vI (x3 + 1), vI (m1 594 x4), vU, vU, vU, vU, vU, vU, vU, vU]) dX10_judgeBuilt_65 (Nat.le_of_ble_eq_true rfl) rfl ?_
        refine b_goto 12 dX10_judgeBuilt_67 (by decide) ?_
        exact ih _ _ _ _ _ h
      obtain ⟨g3, hs⟩ := hs
      refine b_if_eq 53 dX10_judgeBuilt_29 g3 (by decide) (fun c2 => ?_) (fun c2 => ?_)
      ·
        refine b_iconst dX10_judgeBuilt_53 ?_
        exact Eq.mp (congrArg (fun z => B f M_X10_judgeBuilt 54 [vR 582, vI x1, vI x2, vI x3, vI x4, vU, vU, vU, vU, vU, vU, vU, vU] (vI z :: []) m1 Q T) (show (if x2 = 0 then 0 else (if (m1 598 (m1 591 x4)) = (-9) then 0 else 1 : Int) : Int) = 0 by rw [if_pos c2])) K
      ·
        have hs := ifF c2 hs
        obtain ⟨g4, g5⟩ := hs
        refine b_aload_n dX10_judgeBuilt_32 rfl ?_
        refine b_getR dX10_judgeBuilt_33 fk_X10_130 ly_582 gg_582_24 ?_
        refine b_aload_n dX10_judgeBuilt_36 rfl ?_
        refine b_getR dX10_judgeBuilt_37 fk_X10_109 ly_582 gg_582_17 ?_
        refine b_iload dX10_judgeBuilt_40 rfl ?_
        refine b_iald dX10_judgeBuilt_42 ly_591 g2 ?_
        refine b_iald dX10_judgeBuilt_43 ly_598 g4 ?_
        refine b_bipush dX10_judgeBuilt_44 (by decide) ?_
        refine b_icmp_eq 53 dX10_judgeBuilt_46 g5 (by decide) (by decide) (fun c3 => ?_) (fun c3 => ?_)
        ·
          refine b_iconst dX10_judgeBuilt_53 ?_
          exact Eq.mp (congrArg (fun z => B f M_X10_judgeBuilt 54 [vR 582, vI x1, vI x2, vI x3, vI x4, vU, vU, vU, vU, vU, vU, vU, vU] (vI z :: []) m1 Q T) (show (if x2 = 0 then 0 else (if (m1 598 (m1 591 x4)) = (-9) then 0 else 1 : Int) : Int) = 0 by rw [if_neg c2, if_pos c3])) K
        ·
          refine b_iconst dX10_judgeBuilt_49 ?_
          refine b_goto 54 dX10_judgeBuilt_50 (by decide) ?_
          exact Eq.mp (congrArg (fun z => B f M_X10_judgeBuilt 54 [vR 582, vI x1, vI x2, vI x3, vI x4, vU, vU, vU, vU, vU, vU, vU, vU] (vI z :: []) m1 Q T) (show (if x2 = 0 then 0 else (if (m1 598 (m1 591 x4)) = (-9) then 0 else 1 : Int) : Int) = 1 by rw [if_neg c2, if_neg c3])) K
theorem w_X10_judgeBuilt {f : Nat} {Q : Int → MM → Prop} {T : MM → Prop} {rec : Nat → List Int → MM → (Int → MM → Prop) → (MM → Prop) → Prop} {fr : Nat} (hrec : HR_X10_judge rec fr) (hf : 24 ≤ f ∧ fr + 1 ≤ f) (x1 : Int) (m : MM) (h : W_X10_judgeBuilt rec x1 m Q T) : CC f M_X10_judgeBuilt [vR 582, vI x1] m Q T := by
  refine CC.of (plainFor_of_name (by decide)) (Nat.le_of_ble_eq_true rfl) (ls := [vR 582, vI x1, vU, vU, vU, vU, vU, vU, vU, vU, vU, vU, vU]) rfl ?_
  have h : (0 ≤ x1 ∧ x1 < 12000) ∧ ∃ nn, P_X10_judgeBuilt_12 rec Q T nn x1 1 0 (m 591 x1) m := h
  refine b_iconst dX10_judgeBuilt_0 ?_
  refine b_istore_n (ls' := [vR 582, vI x1, vI 1, vU, vU, vU, vU, vU, vU, vU, vU, vU, vU]) dX10_judgeBuilt_1 (Nat.le_of_ble_eq_true rfl) rfl ?_
  refine b_iconst dX10_judgeBuilt_2 ?_
  refine b_istore_n (ls' := [vR 582, vI x1, vI 1, vI 0, vU, vU, vU, vU, vU, vU, vU, vU, vU]) dX10_judgeBuilt_3 (Nat.le_of_ble_eq_true rfl) rfl ?_
  refine b_aload_n dX10_judgeBuilt_4 rfl ?_
  refine b_getR dX10_judgeBuilt_5 fk_X10_109 ly_582 gg_582_17 ?_
  refine b_iload_n dX10_judgeBuilt_8 rfl ?_
  obtain ⟨g1, h⟩ := h
  refine b_iald dX10_judgeBuilt_9 ly_591 g1 ?_
  refine b_istore (ls' := [vR 582, vI x1, vI 1, vI 0, vI (m 591 x1), vU, vU, vU, vU, vU, vU, vU, vU]) dX10_judgeBuilt_10 (Nat.le_of_ble_eq_true rfl) rfl ?_
  obtain ⟨nn, h⟩ := h
  exact pl_X10_judgeBuilt_12 hrec hf nn _ _ _ _ _ h
theorem pl_X10_judgeCall_127 {f : Nat} {Q : Int → MM → Prop} {T : MM → Prop} {rec : Nat → List Int → MM → (Int → MM → Prop) → (MM → Prop) → Prop} {fr : Nat} (hrec : HR_X10_judge rec fr) (hf : 24 ≤ f ∧ fr + 1 ≤ f) {K98 : Int → Int → Int → Int → Int → Int → MM → Prop} (hK98 : ∀ (x1 : Int) (x2 : Int) (x3 : Int) (x4 : Int) (x5 : Int) (x6 : Int) (m : MM), K98 x1 x2 x3 x4 x5 x6 m → B f M_X10_judgeCall 98 [vR 582, vI x1, vI x2, vI x3, vI x4, vI x5, vI x6, vU] [] m Q T) : ∀ (x1 : Int) (x2 : Int) (x3 : Int) (x4 : Int) (x6 : Int) (m : MM), P_X10_judgeCall_127 rec Q T K98 x1 x2 x3 x4 x6 m → B f M_X10_judgeCall 127 [vR 582, vI x1, vI x2, vI x3, vI x4, vU, vI x6, vU] [] m Q T := by
  intro x1 x2 x3 x4 x6 m h
  have h : K98 x1 x2 x3 x4 1 (x6 + 1) m := h
  refine b_iconst dX10_judgeCall_127 ?_
  refine b_goto 132 dX10_judgeCall_128 (by decide) ?_
  refine b_istore (ls' := [vR 582, vI x1, vI x2, vI x3, vI x4, vI 1, vI x6, vU]) dX10_judgeCall_132 (Nat.le_of_ble_eq_true rfl) rfl ?_
  refine b_iinc (ls' := [vR 582, vI x1, vI x2, vI x3, vI x4, vI 1, vI (x6 + 1), vU]) dX10_judgeCall_134 rfl rfl ?_
  refine b_goto 98 dX10_judgeCall_137 (by decide) ?_
  exact hK98 _ _ _ _ _ _ _ h
theorem pl_X10_judgeCall_264 {f : Nat} {Q : Int → MM → Prop} {T : MM → Prop} {rec : Nat → List Int → MM → (Int → MM → Prop) → (MM → Prop) → Prop} {fr : Nat} (hrec : HR_X10_judge rec fr) (hf : 24 ≤ f ∧ fr + 1 ≤ f) : ∀ (x1 : Int) (x4 : Int) (m : MM), P_X10_judgeCall_264 rec Q T x1 x4 m → B f M_X10_judgeCall 264 [vR 582, vI x1, vU, vU, vI x4, vU, vU, vU] [] m Q T := by
  intro x1 x4 m h
  have h : (0 ≤ x1 ∧ x1 < 12000) ∧ P_X10_meantOf (m 605 x1) x4 m (fun r1 m1 => (RI r1) ∧ (if 0 ≤ r1 then ∀ m2 : MM, m2 = up m1 597 x1 r1 → (0 ≤ r1 ∧ r1 < 21) ∧ ((RI (m2 611 r1))) ∧ ∀ m3 : MM, m3 = up m2 601 x1 (if (m2 611 r1) ≤ 0 then (-9) else (m2 582 81) : Int) → ∀ m4 : MM, m4 = up m3 602 x1 (m3 582 82) → ∀ m5 : MM, m5 = up m4 603 x1 (m4 582 83) → P_X10_instance r1 (-1) (m5 601 x1) (m5 582 82) (m5 582 83) m5 (fun r2 m6 => (RI r2) ∧ (if r2 = 0 then Q 0 m6 else P_X10_setRing x1 (m6 582 70) (m6 582 71) (m6 582 72) m6 (fun r3 m7 => Q 0 m7))) else P_X10_wrong x1 m1 (fun r4 m8 => Q 0 m8))) := h
  refine b_aload_n dX10_judgeCall_264 rfl ?_
  refine b_aload_n dX10_judgeCall_265 rfl ?_
  refine b_getR dX10_judgeCall_266 fk_X10_152 ly_582 gg_582_31 ?_
  refine b_iload_n dX10_judgeCall_269 rfl ?_
  obtain ⟨g1, h⟩ := h
  refine b_lald dX10_judgeCall_270 ly_605 g1 ?_
  refine b_iload dX10_judgeCall_271 rfl ?_
  refine b_cVi (as := [vL (m 605 x1), vI x4]) (st := []) dX10_judgeCall_273 mf_X10_meantOf qs140 lk_X10_594 ly_582 rfl (p_X10_meantOf (f := 5) (Nat.le_refl _) _ _ _ h) (by omega) rfl rfl (Nat.le_of_ble_eq_true rfl) (by decide) rfl (fun _ => rfl) (fun r1 m1 h => ?_) (fun _ h => h)
  refine b_istore (ls' := [vR 582, vI x1, vU, vU, vI x4, vU, vU, vI r1]) dX10_judgeCall_276 (Nat.le_of_ble_eq_true rfl) rfl ?_
  refine b_iload dX10_judgeCall_278 rfl ?_
  obtain ⟨g2, h⟩ := h
  refine b_if_ge 289 dX10_judgeCall_280 g2 (by decide) (fun c1 => ?_) (fun c1 => ?_)
  · have h := ifT c1 h
    refine b_aload_n dX10_judgeCall_289 rfl ?_
    refine b_getR dX10_judgeCall_290 fk_X10_127 ly_582 gg_582_23 ?_
    refine b_iload_n dX10_judgeCall_293 rfl ?_
    refine b_iload dX10_judgeCall_294 rfl ?_
    refine b_iast dX10_judgeCall_296 ly_597 g1 (fun m2 em2 => ?_)
    have h := h m2 em2
    refine b_aload_n dX10_judgeCall_297 rfl ?_
    refine b_getR dX10_judgeCall_298 fk_X10_139 ly_582 gg_582_27 ?_
    refine b_iload_n dX10_judgeCall_301 rfl ?_
    refine b_aload_n dX10_judgeCall_302 rfl ?_
    refine b_getR dX10_judgeCall_303 fk_X10_170 ly_582 gg_582_40 ?_
    refine b_iload dX10_judgeCall_306 rfl ?_
    obtain ⟨g3, h⟩ := h
    refine b_iald dX10_judgeCall_308 ly_611 g3 ?_
    obtain ⟨hs, h⟩ := h
    have K : B f M_X10_judgeCall 321 [vR 582, vI x1, vU, vU, vI x4, vU, vU, vI r1] [vI (if (m2 611 r1) ≤ 0 then (-9) else (m2 582 81) : Int), vI x1, vR 601] m2 Q T := by
      clear hs
      refine b_iast dX10_judgeCall_321 ly_601 g1 (fun m3 em3 => ?_)
      have h := h m3 em3
      refine b_aload_n dX10_judgeCall_322 rfl ?_
      refine b_getR dX10_judgeCall_323 fk_X10_142 ly_582 gg_582_28 ?_
      refine b_iload_n dX10_judgeCall_326 rfl ?_
      refine b_aload_n dX10_judgeCall_327 rfl ?_
      refine b_getI dX10_judgeCall_328 fk_X10_585 ly_582 ?_
      refine b_iast dX10_judgeCall_331 ly_602 g1 (fun m4 em4 => ?_)
      have h := h m4 em4
      refine b_aload_n dX10_judgeCall_332 rfl ?_
      refine b_getR dX10_judgeCall_333 fk_X10_145 ly_582 gg_582_29 ?_
      refine b_iload_n dX10_judgeCall_336 rfl ?_
      refine b_aload_n dX10_judgeCall_337 rfl ?_
      refine b_getI dX10_judgeCall_338 fk_X10_588 ly_582 ?_
      refine b_iast dX10_judgeCall_341 ly_603 g1 (fun m5 em5 => ?_)
      have h := h m5 em5
      refine b_aload_n dX10_judgeCall_342 rfl ?_
      refine b_iload dX10_judgeCall_343 rfl ?_
      refine b_iconst dX10_judgeCall_345 ?_
      refine b_aload_n dX10_judgeCall_346 rfl ?_
      refine b_getR dX10_judgeCall_347 fk_X10_139 ly_582 gg_582_27 ?_
      refine b_iload_n dX10_judgeCall_350 rfl ?_
      refine b_iald dX10_judgeCall_351 ly_601 g1 ?_
      refine b_aload_n dX10_judgeCall_352 rfl ?_
      refine b_getI dX10_judgeCall_353 fk_X10_585 ly_582 ?_
      refine b_aload_n dX10_judgeCall_356 rfl ?_
      refine b_getI dX10_judgeCall_357 fk_X10_588 ly_582 ?_
      refine b_cVi (as := [vI r1, vI (-1), vI (m5 601 x1), vI (m5 582 82), vI (m5 582 83)]) (st := []) dX10_judgeCall_360 mf_X10_instance qs137 lk_X10_538 ly_582 rfl (p_X10_instance (f := 1) (Nat.le_refl _) _ _ _ _ _ _ h) (by omega) rfl rfl (Nat.le_of_ble_eq_true rfl) (by decide) rfl (fun _ => rfl) (fun r2 m6 h => ?_) (fun _ h => h)
      obtain ⟨g5, h⟩ := h
      refine b_if_eq 383 dX10_judgeCall_363 g5 (by decide) (fun c2 => ?_) (fun c2 => ?_)
      · have h := ifT c2 h
        exact b_vret dX10_judgeCall_383 rfl h
      · have h := ifF c2 h
        refine b_aload_n dX10_judgeCall_366 rfl ?_
        refine b_iload_n dX10_judgeCall_367 rfl ?_
        refine b_aload_n dX10_judgeCall_368 rfl ?_
        refine b_getI dX10_judgeCall_369 fk_X10_542 ly_582 ?_
        refine b_aload_n dX10_judgeCall_372 rfl ?_
        refine b_getI dX10_judgeCall_373 fk_X10_545 ly_582 ?_
        refine b_aload_n dX10_judgeCall_376 rfl ?_
        refine b_getI dX10_judgeCall_377 fk_X10_548 ly_582 ?_
        refine b_cVv (as := [vI x1, vI (m6 582 70), vI (m6 582 71), vI (m6 582 72)]) (st := []) dX10_judgeCall_380 mf_X10_setRing qs128 lk_X10_482 ly_582 rfl (p_X10_setRing (f := 1) (Nat.le_refl _) _ _ _ _ _ h) (by omega) rfl rfl (Nat.le_of_ble_eq_true rfl) (by decide) rfl (fun _ => rfl) (fun r3 m7 h => ?_) (fun _ h => h)
        exact b_vret dX10_judgeCall_383 rfl h
    have g4 := hs
    refine b_if_le 319 dX10_judgeCall_309 g4 (by decide) (fun c3 => ?_) (fun c3 => ?_)
    ·
      refine b_bipush dX10_judgeCall_319 (by decide) ?_
      exact Eq.mp (congrArg (fun z => B f M_X10_judgeCall 321 [vR 582, vI x1, vU, vU, vI x4, vU, vU, vI r1] (vI z :: [vI x1, vR 601]) m2 Q T) (show (if (m2 611 r1) ≤ 0 then (-9) else (m2 582 81) : Int) = (-9) by rw [if_pos c3])) K
    ·
      refine b_aload_n dX10_judgeCall_312 rfl ?_
      refine b_getI dX10_judgeCall_313 fk_X10_582 ly_582 ?_
      refine b_goto 321 dX10_judgeCall_316 (by decide) ?_
      exact Eq.mp (congrArg (fun z => B f M_X10_judgeCall 321 [vR 582, vI x1, vU, vU, vI x4, vU, vU, vI r1] (vI z :: [vI x1, vR 601]) m2 Q T) (show (if (m2 611 r1) ≤ 0 then (-9) else (m2 582 81) : Int) = (m2 582 81) by rw [if_neg c3])) K
  · have h := ifF c1 h
    refine b_aload_n dX10_judgeCall_283 rfl ?_
    refine b_iload_n dX10_judgeCall_284 rfl ?_
    refine b_cVv (as := [vI x1]) (st := []) dX10_judgeCall_285 mf_X10_wrong qs146 lk_X10_486 ly_582 rfl (p_X10_wrong (f := 2) (Nat.le_refl _) _ _ h) (by omega) rfl rfl (Nat.le_of_ble_eq_true rfl) (by decide) rfl (fun _ => rfl) (fun r4 m8 h => ?_) (fun _ h => h)
    exact b_vret dX10_judgeCall_288 rfl h
theorem pl_X10_judgeCall_182 {f : Nat} {Q : Int → MM → Prop} {T : MM → Prop} {rec : Nat → List Int → MM → (Int → MM → Prop) → (MM → Prop) → Prop} {fr : Nat} (hrec : HR_X10_judge rec fr) (hf : 24 ≤ f ∧ fr + 1 ≤ f) : ∀ (n : Nat) (x1 : Int) (x3 : Int) (x4 : Int) (x6 : Int) (x7 : Int) (m : MM), P_X10_judgeCall_182 rec Q T n x1 x3 x4 x6 x7 m → B f M_X10_judgeCall 182 [vR 582, vI x1, vU, vI x3, vI x4, vU, vI x6, vI x7] [] m Q T := by
  intro n
  induction n with
  | zero => intro x1 x3 x4 x6 x7 m h; exact h.elim
  | succ n ih =>
    intro x1 x3 x4 x6 x7 m h
    have h : (RI x7) ∧ (if x7 < 0 then P_X10_judgeCall_264 rec Q T x1 x4 m else (RI x3) ∧ (if 3 < x3 then P_X10_judgeCall_264 rec Q T x1 x4 m else (0 ≤ x7 ∧ x7 < 12000) ∧ (0 ≤ (m 591 x7) ∧ (m 591 x7) < 12000) ∧ (0 ≤ x6 ∧ x6 < 3) ∧ ∀ m1 : MM, m1 = up m 632 x6 (m 598 (m 591 x7)) → (0 ≤ (m1 591 x7) ∧ (m1 591 x7) < 12000) ∧ ∀ m2 : MM, m2 = up m1 633 x6 (m1 599 (m1 591 x7)) → (0 ≤ (m2 591 x7) ∧ (m2 591 x7) < 12000) ∧ ∀ m3 : MM, m3 = up m2 634 x6 (m2 600 (m2 591 x7)) → P_X10_judgeCall_182 rec Q T n x1 x3 x4 (x6 + 1) (m3 594 x7) m3)) := h
    refine b_iload dX10_judgeCall_182 rfl ?_
    obtain ⟨g1, h⟩ := h
    refine b_if_lt 264 dX10_judgeCall_184 g1 (by decide) (fun c1 => ?_) (fun c1 => ?_)
    · have h := ifT c1 h
      refine b_fgt [true, true, false, false, true, false, false, false] (ls' := [vR 582, vI x1, vU, vU, vI x4, vU, vU, vU]) rfl rfl ?_
      exact pl_X10_judgeCall_264 hrec hf _ _ _ h
    · have h := ifF c1 h
      refine b_iload_n dX10_judgeCall_187 rfl ?_
      refine b_iconst dX10_judgeCall_188 ?_
      obtain ⟨g2, h⟩ := h
      refine b_icmp_gt 264 dX10_judgeCall_189 g2 (by decide) (by decide) (fun c2 => ?_) (fun c2 => ?_)
      · have h := ifT c2 h
        refine b_fgt [true, true, false, false, true, false, false, false] (ls' := [vR 582, vI x1, vU, vU, vI x4, vU, vU, vU]) rfl rfl ?_
        exact pl_X10_judgeCall_264 hrec hf _ _ _ h
      · have h := ifF c2 h
        refine b_aload_n dX10_judgeCall_192 rfl ?_
        refine b_getR dX10_judgeCall_193 fk_X10_240 ly_582 gg_582_78 ?_
        refine b_iload dX10_judgeCall_196 rfl ?_
        refine b_aload_n dX10_judgeCall_198 rfl ?_
        refine b_getR dX10_judgeCall_199 fk_X10_130 ly_582 gg_582_24 ?_
        refine b_aload_n dX10_judgeCall_202 rfl ?_
        refine b_getR dX10_judgeCall_203 fk_X10_109 ly_582 gg_582_17 ?_
        refine b_iload dX10_judgeCall_206 rfl ?_
        obtain ⟨g3, h⟩ := h
        refine b_iald dX10_judgeCall_208 ly_591 g3 ?_
        obtain ⟨g4, h⟩ := h
        refine b_iald dX10_judgeCall_209 ly_598 g4 ?_
        obtain ⟨g5, h⟩ := h
        refine b_iast dX10_judgeCall_210 ly_632 g5 (fun m1 em1 => ?_)
        have h := h m1 em1
        refine b_aload_n dX10_judgeCall_211 rfl ?_
        refine b_getR dX10_judgeCall_212 fk_X10_243 ly_582 gg_582_79 ?_
        refine b_iload dX10_judgeCall_215 rfl ?_
        refine b_aload_n dX10_judgeCall_217 rfl ?_
        refine b_getR dX10_judgeCall_218 fk_X10_133 ly_582 gg_582_25 ?_
        refine b_aload_n dX10_judgeCall_221 rfl ?_
        refine b_getR dX10_judgeCall_222 fk_X10_109 ly_582 gg_582_17 ?_
        refine b_iload dX10_judgeCall_225 rfl ?_
        refine b_iald dX10_judgeCall_227 ly_591 g3 ?_
        obtain ⟨g6, h⟩ := h
        refine b_iald dX10_judgeCall_228 ly_599 g6 ?_
        refine b_iast dX10_judgeCall_229 ly_633 g5 (fun m2 em2 => ?_)
        have h := h m2 em2
        refine b_aload_n dX10_judgeCall_230 rfl ?_
        refine b_getR dX10_judgeCall_231 fk_X10_246 ly_582 gg_582_80 ?_
        refine b_iload dX10_judgeCall_234 rfl ?_
        refine b_aload_n dX10_judgeCall_236 rfl ?_
        refine b_getR dX10_judgeCall_237 fk_X10_136 ly_582 gg_582_26 ?_
        refine b_aload_n dX10_judgeCall_240 rfl ?_
        refine b_getR dX10_judgeCall_241 fk_X10_109 ly_582 gg_582_17 ?_
        refine b_iload dX10_judgeCall_244 rfl ?_
        refine b_iald dX10_judgeCall_246 ly_591 g3 ?_
        obtain ⟨g7, h⟩ := h
        refine b_iald dX10_judgeCall_247 ly_600 g7 ?_
        refine b_iast dX10_judgeCall_248 ly_634 g5 (fun m3 em3 => ?_)
        have h := h m3 em3
        refine b_iinc (ls' := [vR 582, vI x1, vU, vI x3, vI x4, vU, vI (x6 + 1), vI x7]) dX10_judgeCall_249 rfl rfl ?_
        refine b_aload_n dX10_judgeCall_252 rfl ?_
        refine b_getR dX10_judgeCall_253 fk_X10_118 ly_582 gg_582_20 ?_
        refine b_iload dX10_judgeCall_256 rfl ?_
        refine b_iald dX10_judgeCall_258 ly_594 g3 ?_
        refine b_istore (ls' := [vR 582, vI x1, vU, vI x3, vI x4, vU, vI (x6 + 1), vI (m3 594 x7)]) dX10_judgeCall_259 (Nat.le_of_ble_eq_true rfl) rfl ?_
        refine b_goto 182 dX10_judgeCall_261 (by decide) ?_
        exact ih _ _ _ _ _ _ h
theorem pl_X10_judgeCall_156 {f : Nat} {Q : Int → MM → Prop} {T : MM → Prop} {rec : Nat → List Int → MM → (Int → MM → Prop) → (MM → Prop) → Prop} {fr : Nat} (hrec : HR_X10_judge rec fr) (hf : 24 ≤ f ∧ fr + 1 ≤ f) : ∀ (x1 : Int) (x2 : Int) (x3 : Int) (x4 : Int) (x5 : Int) (m : MM), P_X10_judgeCall_156 rec Q T x1 x2 x3 x4 x5 m → B f M_X10_judgeCall 156 [vR 582, vI x1, vI x2, vI x3, vI x4, vI x5, vU, vU] [] m Q T := by
  intro x1 x2 x3 x4 x5 m h
  have h : (RI x5) ∧ (if x5 = 0 then Q 0 m else (RI x2) ∧ (if x2 = 0 then Q 0 m else ∀ m1 : MM, m1 = up m 582 73 x3 → (0 ≤ x1 ∧ x1 < 12000) ∧ ∃ nn, P_X10_judgeCall_182 rec Q T nn x1 x3 x4 0 (m1 591 x1) m1)) := h
  refine b_iload dX10_judgeCall_156 rfl ?_
  obtain ⟨g1, h⟩ := h
  refine b_if_eq 165 dX10_judgeCall_158 g1 (by decide) (fun c1 => ?_) (fun c1 => ?_)
  · have h := ifT c1 h
    exact b_vret dX10_judgeCall_165 rfl h
  · have h := ifF c1 h
    refine b_iload_n dX10_judgeCall_161 rfl ?_
    obtain ⟨g2, h⟩ := h
    refine b_if_ne 166 dX10_judgeCall_162 g2 (by decide) (fun c2 => ?_) (fun c2 => ?_)
    · have h := ifF c2 h
      refine b_aload_n dX10_judgeCall_166 rfl ?_
      refine b_iload_n dX10_judgeCall_167 rfl ?_
      refine b_putI dX10_judgeCall_168 fk_X10_566 ly_582 (fun m1 em1 => ?_)
      have h := h m1 em1
      refine b_iconst dX10_judgeCall_171 ?_
      refine b_istore (ls' := [vR 582, vI x1, vI x2, vI x3, vI x4, vI x5, vI 0, vU]) dX10_judgeCall_172 (Nat.le_of_ble_eq_true rfl) rfl ?_
      refine b_aload_n dX10_judgeCall_174 rfl ?_
      refine b_getR dX10_judgeCall_175 fk_X10_109 ly_582 gg_582_17 ?_
      refine b_iload_n dX10_judgeCall_178 rfl ?_
      obtain ⟨g3, h⟩ := h
      refine b_iald dX10_judgeCall_179 ly_591 g3 ?_
      refine b_istore (ls' := [vR 582, vI x1, vI x2, vI x3, vI x4, vI x5, vI 0, vI (m1 591 x1)]) dX10_judgeCall_180 (Nat.le_of_ble_eq_true rfl) rfl ?_
      refine b_fgt [true, true, false, true, true, false, true, true] (ls' := [vR 582, vI x1, vU, vI x3, vI x4, vU, vI 0, vI (m1 591 x1)]) rfl rfl ?_
      obtain ⟨nn, h⟩ := h
      exact pl_X10_judgeCall_182 hrec hf nn _ _ _ _ _ _ h
    · have h := ifT (Decidable.of_not_not c2) h
      exact b_vret dX10_judgeCall_165 rfl h
theorem pl_X10_judgeCall_140 {f : Nat} {Q : Int → MM → Prop} {T : MM → Prop} {rec : Nat → List Int → MM → (Int → MM → Prop) → (MM → Prop) → Prop} {fr : Nat} (hrec : HR_X10_judge rec fr) (hf : 24 ≤ f ∧ fr + 1 ≤ f) : ∀ (x1 : Int) (x2 : Int) (x3 : Int) (x4 : Int) (x5 : Int) (m : MM), P_X10_judgeCall_140 rec Q T x1 x2 x3 x4 x5 m → B f M_X10_judgeCall 140 [vR 582, vI x1, vI x2, vI x3, vI x4, vI x5, vU, vU] [] m Q T := by
  intro x1 x2 x3 x4 x5 m h
  have h : (RI x5) ∧ (if x5 = 0 then (0 ≤ x1 ∧ x1 < 12000) ∧ P_X10_note 3 (m 595 x1) m (fun r1 m1 => P_X10_judgeCall_156 rec Q T x1 x2 x3 x4 x5 m1) else P_X10_judgeCall_156 rec Q T x1 x2 x3 x4 x5 m) := h
  refine b_iload dX10_judgeCall_140 rfl ?_
  obtain ⟨g1, h⟩ := h
  refine b_if_ne 156 dX10_judgeCall_142 g1 (by decide) (fun c1 => ?_) (fun c1 => ?_)
  · have h := ifF c1 h
    exact pl_X10_judgeCall_156 hrec hf _ _ _ _ _ _ h
  · have h := ifT (Decidable.of_not_not c1) h
    refine b_aload_n dX10_judgeCall_145 rfl ?_
    refine b_iconst dX10_judgeCall_146 ?_
    refine b_aload_n dX10_judgeCall_147 rfl ?_
    refine b_getR dX10_judgeCall_148 fk_X10_121 ly_582 gg_582_21 ?_
    refine b_iload_n dX10_judgeCall_151 rfl ?_
    obtain ⟨g2, h⟩ := h
    refine b_iald dX10_judgeCall_152 ly_595 g2 ?_
    refine b_cVv (as := [vI 3, vI (m 595 x1)]) (st := []) dX10_judgeCall_153 mf_X10_note qs129 lk_X10_472 ly_582 rfl (p_X10_note (f := 1) (Nat.le_refl _) _ _ _ h) (by omega) rfl rfl (Nat.le_of_ble_eq_true rfl) (by decide) rfl (fun _ => rfl) (fun r1 m1 h => ?_) (fun _ h => h)
    exact pl_X10_judgeCall_156 hrec hf _ _ _ _ _ _ h
theorem pl_X10_judgeCall_98 {f : Nat} {Q : Int → MM → Prop} {T : MM → Prop} {rec : Nat → List Int → MM → (Int → MM → Prop) → (MM → Prop) → Prop} {fr : Nat} (hrec : HR_X10_judge rec fr) (hf : 24 ≤ f ∧ fr + 1 ≤ f) : ∀ (n : Nat) (x1 : Int) (x2 : Int) (x3 : Int) (x4 : Int) (x5 : Int) (x6 : Int) (m : MM), P_X10_judgeCall_98 rec Q T n x1 x2 x3 x4 x5 x6 m → B f M_X10_judgeCall 98 [vR 582, vI x1, vI x2, vI x3, vI x4, vI x5, vI x6, vU] [] m Q T := by
  intro n
  induction n with
  | zero => intro x1 x2 x3 x4 x5 x6 m h; exact h.elim
  | succ n ih =>
    intro x1 x2 x3 x4 x5 x6 m h
    have h : (RI x6) ∧ (RI x4) ∧ (if x4 ≤ x6 then P_X10_judgeCall_140 rec Q T x1 x2 x3 x4 x5 m else (RI x5) ∧ (if x5 = 0 then (0 ≤ x6 ∧ x6 < 21) ∧ (0 ≤ x1 ∧ x1 < 12000) ∧ (RL (m 606 x6)) ∧ (RL (m 605 x1)) ∧ (if (m 606 x6) = (m 605 x1) then P_X10_judgeCall_127 rec Q T (fun z0 z1 z2 z3 z4 z5 z6 => P_X10_judgeCall_98 rec Q T n z0 z1 z2 z3 z4 z5 z6) x1 x2 x3 x4 x6 m else P_X10_judgeCall_98 rec Q T n x1 x2 x3 x4 0 (x6 + 1) m) else P_X10_judgeCall_127 rec Q T (fun z0 z1 z2 z3 z4 z5 z6 => P_X10_judgeCall_98 rec Q T n z0 z1 z2 z3 z4 z5 z6) x1 x2 x3 x4 x6 m)) := h
    refine b_iload dX10_judgeCall_98 rfl ?_
    refine b_iload dX10_judgeCall_100 rfl ?_
    obtain ⟨g1, h⟩ := h
    obtain ⟨g2, h⟩ := h
    refine b_icmp_ge 140 dX10_judgeCall_102 g1 g2 (by decide) (fun c1 => ?_) (fun c1 => ?_)
    · have h := ifT c1 h
      refine b_fgt [true, true, true, true, true, true, false, false] (ls' := [vR 582, vI x1, vI x2, vI x3, vI x4, vI x5, vU, vU]) rfl rfl ?_
      exact pl_X10_judgeCall_140 hrec hf _ _ _ _ _ _ h
    · have h := ifF c1 h
      refine b_iload dX10_judgeCall_105 rfl ?_
      obtain ⟨g3, h⟩ := h
      refine b_if_ne 127 dX10_judgeCall_107 g3 (by decide) (fun c2 => ?_) (fun c2 => ?_)
      · have h := ifF c2 h
        refine b_fgt [true, true, true, true, true, false, true, false] (ls' := [vR 582, vI x1, vI x2, vI x3, vI x4, vU, vI x6, vU]) rfl rfl ?_
        exact pl_X10_judgeCall_127 hrec hf (fun _ _ _ _ _ _ _ h => ih _ _ _ _ _ _ _ h) _ _ _ _ _ _ h
      · have h := ifT (Decidable.of_not_not c2) h
        refine b_aload_n dX10_judgeCall_110 rfl ?_
        refine b_getR dX10_judgeCall_111 fk_X10_155 ly_582 gg_582_35 ?_
        refine b_iload dX10_judgeCall_114 rfl ?_
        obtain ⟨g4, h⟩ := h
        refine b_lald dX10_judgeCall_116 ly_606 g4 ?_
        refine b_aload_n dX10_judgeCall_117 rfl ?_
        refine b_getR dX10_judgeCall_118 fk_X10_152 ly_582 gg_582_31 ?_
        refine b_iload_n dX10_judgeCall_121 rfl ?_
        obtain ⟨g5, h⟩ := h
        refine b_lald dX10_judgeCall_122 ly_605 g5 ?_
        obtain ⟨g6, h⟩ := h
        obtain ⟨g7, h⟩ := h
        refine b_lc_ne 131 dX10_judgeCall_123 dX10_judgeCall_124 g6 g7 (by decide) (fun c3 => ?_) (fun c3 => ?_)
        · have h := ifF c3 h
          refine b_iconst dX10_judgeCall_131 ?_
          refine b_istore (ls' := [vR 582, vI x1, vI x2, vI x3, vI x4, vI 0, vI x6, vU]) dX10_judgeCall_132 (Nat.le_of_ble_eq_true rfl) rfl ?_
          refine b_iinc (ls' := [vR 582, vI x1, vI x2, vI x3, vI x4, vI 0, vI (x6 + 1), vU]) dX10_judgeCall_134 rfl rfl ?_
          refine b_goto 98 dX10_judgeCall_137 (by decide) ?_
          exact ih _ _ _ _ _ _ _ h
        · have h := ifT (Decidable.of_not_not c3) h
          refine b_fgt [true, true, true, true, true, false, true, false] (ls' := [vR 582, vI x1, vI x2, vI x3, vI x4, vU, vI x6, vU]) rfl rfl ?_
          exact pl_X10_judgeCall_127 hrec hf (fun _ _ _ _ _ _ _ h => ih _ _ _ _ _ _ _ h) _ _ _ _ _ _ h
theorem pl_X10_judgeCall_70 {f : Nat} {Q : Int → MM → Prop} {T : MM → Prop} {rec : Nat → List Int → MM → (Int → MM → Prop) → (MM → Prop) → Prop} {fr : Nat} (hrec : HR_X10_judge rec fr) (hf : 24 ≤ f ∧ fr + 1 ≤ f) : ∀ (x1 : Int) (x2 : Int) (x3 : Int) (m : MM), P_X10_judgeCall_70 rec Q T x1 x2 x3 m → B f M_X10_judgeCall 70 [vR 582, vI x1, vI x2, vI x3, vU, vU, vU, vU] [] m Q T := by
  intro x1 x2 x3 m h
  have h : ((RI (m 582 61))) ∧ ∃ nn, P_X10_judgeCall_98 rec Q T nn x1 x2 x3 (if (m 582 61) < 0 then (m 582 32) else ((m 582 61) + 1) : Int) 0 0 m := h
  refine b_aload_n dX10_judgeCall_70 rfl ?_
  refine b_getI dX10_judgeCall_71 fk_X10_231 ly_582 ?_
  obtain ⟨hs, h⟩ := h
  have K : B f M_X10_judgeCall 90 [vR 582, vI x1, vI x2, vI x3, vU, vU, vU, vU] [vI (if (m 582 61) < 0 then (m 582 32) else ((m 582 61) + 1) : Int)] m Q T := by
    clear hs
    refine b_istore (ls' := [vR 582, vI x1, vI x2, vI x3, vI (if (m 582 61) < 0 then (m 582 32) else ((m 582 61) + 1) : Int), vU, vU, vU]) dX10_judgeCall_90 (Nat.le_of_ble_eq_true rfl) rfl ?_
    refine b_iconst dX10_judgeCall_92 ?_
    refine b_istore (ls' := [vR 582, vI x1, vI x2, vI x3, vI (if (m 582 61) < 0 then (m 582 32) else ((m 582 61) + 1) : Int), vI 0, vU, vU]) dX10_judgeCall_93 (Nat.le_of_ble_eq_true rfl) rfl ?_
    refine b_iconst dX10_judgeCall_95 ?_
    refine b_istore (ls' := [vR 582, vI x1, vI x2, vI x3, vI (if (m 582 61) < 0 then (m 582 32) else ((m 582 61) + 1) : Int), vI 0, vI 0, vU]) dX10_judgeCall_96 (Nat.le_of_ble_eq_true rfl) rfl ?_
    obtain ⟨nn, h⟩ := h
    exact pl_X10_judgeCall_98 hrec hf nn _ _ _ _ _ _ _ h
  have g1 := hs
  refine b_if_lt 86 dX10_judgeCall_74 g1 (by decide) (fun c1 => ?_) (fun c1 => ?_)
  ·
    refine b_aload_n dX10_judgeCall_86 rfl ?_
    refine b_getI dX10_judgeCall_87 fk_X10_591 ly_582 ?_
    exact Eq.mp (congrArg (fun z => B f M_X10_judgeCall 90 [vR 582, vI x1, vI x2, vI x3, vU, vU, vU, vU] (vI z :: []) m Q T) (show (if (m 582 61) < 0 then (m 582 32) else ((m 582 61) + 1) : Int) = (m 582 32) by rw [if_pos c1])) K
  ·
    refine b_aload_n dX10_judgeCall_77 rfl ?_
    refine b_getI dX10_judgeCall_78 fk_X10_231 ly_582 ?_
    refine b_iconst dX10_judgeCall_81 ?_
    refine b_iadd dX10_judgeCall_82 ?_
    refine b_goto 90 dX10_judgeCall_83 (by decide) ?_
    exact Eq.mp (congrArg (fun z => B f M_X10_judgeCall 90 [vR 582, vI x1, vI x2, vI x3, vU, vU, vU, vU] (vI z :: []) m Q T) (show (if (m 582 61) < 0 then (m 582 32) else ((m 582 61) + 1) : Int) = ((m 582 61) + 1) by rw [if_neg c1])) K
theorem pl_X10_judgeCall_12 {f : Nat} {Q : Int → MM → Prop} {T : MM → Prop} {rec : Nat → List Int → MM → (Int → MM → Prop) → (MM → Prop) → Prop} {fr : Nat} (hrec : HR_X10_judge rec fr) (hf : 24 ≤ f ∧ fr + 1 ≤ f) : ∀ (n : Nat) (x1 : Int) (x2 : Int) (x3 : Int) (x4 : Int) (m : MM), P_X10_judgeCall_12 rec Q T n x1 x2 x3 x4 m → B f M_X10_judgeCall 12 [vR 582, vI x1, vI x2, vI x3, vI x4, vU, vU, vU] [] m Q T := by
  intro n
  induction n with
  | zero => intro x1 x2 x3 x4 m h; exact h.elim
  | succ n ih =>
    intro x1 x2 x3 x4 m h
    have h : (RI x4) ∧ (if x4 < 0 then P_X10_judgeCall_70 rec Q T x1 x2 x3 m else (0 ≤ x4 ∧ x4 < 12000) ∧ rec 0 [(m 591 x4)] m (fun r1 m1 => ((RI x2) ∧ (if x2 = 0 then True else ((0 ≤ (m1 591 x4) ∧ (m1 591 x4) < 12000) ∧ (RI (m1 598 (m1 591 x4)))))) ∧ P_X10_judgeCall_12 rec Q T n x1 (if x2 = 0 then 0 else (if (m1 598 (m1 591 x4)) = (-9) then 0 else 1 : Int) : Int) (x3 + 1) (m1 594 x4) m1) T) := h
    refine b_iload dX10_judgeCall_12 rfl ?_
    obtain ⟨g1, h⟩ := h
    refine b_if_lt 70 dX10_judgeCall_14 g1 (by decide) (fun c1 => ?_) (fun c1 => ?_)
    · have h := ifT c1 h
      refine b_fgt [true, true, true, true, false, false, false, false] (ls' := [vR 582, vI x1, vI x2, vI x3, vU, vU, vU, vU]) rfl rfl ?_
      exact pl_X10_judgeCall_70 hrec hf _ _ _ _ h
    · have h := ifF c1 h
      refine b_aload_n dX10_judgeCall_17 rfl ?_
      refine b_aload_n dX10_judgeCall_18 rfl ?_
      refine b_getR dX10_judgeCall_19 fk_X10_109 ly_582 gg_582_17 ?_
      refine b_iload dX10_judgeCall_22 rfl ?_
      obtain ⟨g2, h⟩ := h
      refine b_iald dX10_judgeCall_24 ly_591 g2 ?_
      refine b_cVv (as := [vI (m 591 x4)]) (st := []) dX10_judgeCall_25 mf_X10_judge qs134 lk_X10_476 ly_582 rfl (hrec.1 _ _ _ _ h) (by omega) rfl rfl (Nat.le_of_ble_eq_true rfl) (by decide) rfl (fun _ => rfl) (fun r1 m1 h => ?_) (fun _ h => h)
      refine b_iload_n dX10_judgeCall_28 rfl ?_
      obtain ⟨hs, h⟩ := h
      have K : B f M_X10_judgeCall 54 [vR 582, vI x1, vI x2, vI x3, vI x4, vU, vU, vU] [vI (if x2 = 0 then 0 else (if (m1 598 (m1 591 x4)) = (-9) then 0 else 1 : Int) : Int)] m1 Q T := by
        clear hs
        refine b_istore_n (ls' := [vR 582, vI x1, vI (if x2 = 0 then 0 else (if (m1 598 (m1 591 x4)) = (-9) then 0 else 1 : Int) : Int), vI x3, vI x4, vU, vU, vU]) dX10_judgeCall_54 (Nat.le_of_ble_eq_true rfl) rfl ?_
        refine b_iinc (ls' := [vR 582, vI x1, vI (if x2 = 0 then 0 else (if (m1 598 (m1 591 x4)) = (-9) then 0 else 1 : Int) : Int), vI (x3 + 1), vI x4, vU, vU, vU]) dX10_judgeCall_55 rfl rfl ?_
        refine b_aload_n dX10_judgeCall_58 rfl ?_
        refine b_getR dX10_judgeCall_59 fk_X10_118 ly_582 gg_582_20 ?_
        refine b_iload dX10_judgeCall_62 rfl ?_
        refine b_iald dX10_judgeCall_64 ly_594 g2 ?_
        refine b_istore (ls' := [vR 582, vI x1, vI (if x2 = 0 then 0 else (if (m1 598 (m1 591 x4)) = (-9) then 0 else 1 : Int) : Int), vI (x3 + 1), vI (m1 594 x4), vU, vU, vU]) dX10_judgeCall_65 (Nat.le_of_ble_eq_true rfl) rfl ?_
        refine b_goto 12 dX10_judgeCall_67 (by decide) ?_
        exact ih _ _ _ _ _ h
      obtain ⟨g3, hs⟩ := hs
      refine b_if_eq 53 dX10_judgeCall_29 g3 (by decide) (fun c2 => ?_) (fun c2 => ?_)
      ·
        refine b_iconst dX10_judgeCall_53 ?_
        exact Eq.mp (congrArg (fun z => B f M_X10_judgeCall 54 [vR 582, vI x1, vI x2, vI x3, vI x4, vU, vU, vU] (vI z :: []) m1 Q T) (show (if x2 = 0 then 0 else (if (m1 598 (m1 591 x4)) = (-9) then 0 else 1 : Int) : Int) = 0 by rw [if_pos c2])) K
      ·
        have hs := ifF c2 hs
        obtain ⟨g4, g5⟩ := hs
        refine b_aload_n dX10_judgeCall_32 rfl ?_
        refine b_getR dX10_judgeCall_33 fk_X10_130 ly_582 gg_582_24 ?_
        refine b_aload_n dX10_judgeCall_36 rfl ?_
        refine b_getR dX10_judgeCall_37 fk_X10_109 ly_582 gg_582_17 ?_
        refine b_iload dX10_judgeCall_40 rfl ?_
        refine b_iald dX10_judgeCall_42 ly_591 g2 ?_
        refine b_iald dX10_judgeCall_43 ly_598 g4 ?_
        refine b_bipush dX10_judgeCall_44 (by decide) ?_
        refine b_icmp_eq 53 dX10_judgeCall_46 g5 (by decide) (by decide) (fun c3 => ?_) (fun c3 => ?_)
        ·
          refine b_iconst dX10_judgeCall_53 ?_
          exact Eq.mp (congrArg (fun z => B f M_X10_judgeCall 54 [vR 582, vI x1, vI x2, vI x3, vI x4, vU, vU, vU] (vI z :: []) m1 Q T) (show (if x2 = 0 then 0 else (if (m1 598 (m1 591 x4)) = (-9) then 0 else 1 : Int) : Int) = 0 by rw [if_neg c2, if_pos c3])) K
        ·
          refine b_iconst dX10_judgeCall_49 ?_
          refine b_goto 54 dX10_judgeCall_50 (by decide) ?_
          exact Eq.mp (congrArg (fun z => B f M_X10_judgeCall 54 [vR 582, vI x1, vI x2, vI x3, vI x4, vU, vU, vU] (vI z :: []) m1 Q T) (show (if x2 = 0 then 0 else (if (m1 598 (m1 591 x4)) = (-9) then 0 else 1 : Int) : Int) = 1 by rw [if_neg c2, if_neg c3])) K
theorem w_X10_judgeCall {f : Nat} {Q : Int → MM → Prop} {T : MM → Prop} {rec : Nat → List Int → MM → (Int → MM → Prop) → (MM → Prop) → Prop} {fr : Nat} (hrec : HR_X10_judge rec fr) (hf : 24 ≤ f ∧ fr + 1 ≤ f) (x1 : Int) (m : MM) (h : W_X10_judgeCall rec x1 m Q T) : CC f M_X10_judgeCall [vR 582, vI x1] m Q T := by
  refine CC.of (plainFor_of_name (by decide)) (Nat.le_of_ble_eq_true rfl) (ls := [vR 582, vI x1, vU, vU, vU, vU, vU, vU]) rfl ?_
  have h : (0 ≤ x1 ∧ x1 < 12000) ∧ ∃ nn, P_X10_judgeCall_12 rec Q T nn x1 1 0 (m 591 x1) m := h
  refine b_iconst dX10_judgeCall_0 ?_
  refine b_istore_n (ls' := [vR 582, vI x1, vI 1, vU, vU, vU, vU, vU]) dX10_judgeCall_1 (Nat.le_of_ble_eq_true rfl) rfl ?_
  refine b_iconst dX10_judgeCall_2 ?_
  refine b_istore_n (ls' := [vR 582, vI x1, vI 1, vI 0, vU, vU, vU, vU]) dX10_judgeCall_3 (Nat.le_of_ble_eq_true rfl) rfl ?_
  refine b_aload_n dX10_judgeCall_4 rfl ?_
  refine b_getR dX10_judgeCall_5 fk_X10_109 ly_582 gg_582_17 ?_
  refine b_iload_n dX10_judgeCall_8 rfl ?_
  obtain ⟨g1, h⟩ := h
  refine b_iald dX10_judgeCall_9 ly_591 g1 ?_
  refine b_istore (ls' := [vR 582, vI x1, vI 1, vI 0, vI (m 591 x1), vU, vU, vU]) dX10_judgeCall_10 (Nat.le_of_ble_eq_true rfl) rfl ?_
  obtain ⟨nn, h⟩ := h
  exact pl_X10_judgeCall_12 hrec hf nn _ _ _ _ _ h
theorem pl_X10_judgeLeft_206 {f : Nat} {Q : Int → MM → Prop} {T : MM → Prop} {rec : Nat → List Int → MM → (Int → MM → Prop) → (MM → Prop) → Prop} {fr : Nat} (hrec : HR_X10_judge rec fr) (hf : 24 ≤ f ∧ fr + 1 ≤ f) : ∀ (x1 : Int) (m : MM), P_X10_judgeLeft_206 rec Q T x1 m → B f M_X10_judgeLeft 206 [vR 582, vI x1, vU, vU, vU] [] m Q T := by
  intro x1 m h
  have h : P_X10_wrong x1 m (fun r1 m1 => Q 0 m1) := h
  refine b_aload_n dX10_judgeLeft_206 rfl ?_
  refine b_iload_n dX10_judgeLeft_207 rfl ?_
  refine b_cVv (as := [vI x1]) (st := []) dX10_judgeLeft_208 mf_X10_wrong qs146 lk_X10_486 ly_582 rfl (p_X10_wrong (f := 2) (Nat.le_refl _) _ _ h) (by omega) rfl rfl (Nat.le_of_ble_eq_true rfl) (by decide) rfl (fun _ => rfl) (fun r1 m1 h => ?_) (fun _ h => h)
  refine b_goto 707 dX10_judgeLeft_211 (by decide) ?_
  exact b_vret dX10_judgeLeft_707 rfl h
theorem pl_X10_judgeLeft_172 {f : Nat} {Q : Int → MM → Prop} {T : MM → Prop} {rec : Nat → List Int → MM → (Int → MM → Prop) → (MM → Prop) → Prop} {fr : Nat} (hrec : HR_X10_judge rec fr) (hf : 24 ≤ f ∧ fr + 1 ≤ f) : ∀ (x1 : Int) (x2 : Int) (x3 : Int) (m : MM), P_X10_judgeLeft_172 rec Q T x1 x2 x3 m → B f M_X10_judgeLeft 172 [vR 582, vI x1, vI x2, vI x3, vU] [] m Q T := by
  intro x1 x2 x3 m h
  have h : (0 ≤ x2 ∧ x2 < 12000) ∧ (RI (m 598 x2)) ∧ (if (m 598 x2) = (-2) then (0 ≤ x3 ∧ x3 < 12000) ∧ (RI (m 598 x3)) ∧ (if (m 598 x3) = (-2) then P_X10_setRing x1 (-2) 0 0 m (fun r1 m1 => Q 0 m1) else P_X10_judgeLeft_206 rec Q T x1 m) else P_X10_judgeLeft_206 rec Q T x1 m) := h
  refine b_aload_n dX10_judgeLeft_172 rfl ?_
  refine b_getR dX10_judgeLeft_173 fk_X10_130 ly_582 gg_582_24 ?_
  refine b_iload_n dX10_judgeLeft_176 rfl ?_
  obtain ⟨g1, h⟩ := h
  refine b_iald dX10_judgeLeft_177 ly_598 g1 ?_
  refine b_bipush dX10_judgeLeft_178 (by decide) ?_
  obtain ⟨g2, h⟩ := h
  refine b_icmp_ne 206 dX10_judgeLeft_180 g2 (by decide) (by decide) (fun c1 => ?_) (fun c1 => ?_)
  · have h := ifF c1 h
    refine b_fgt [true, true, false, false, false] (ls' := [vR 582, vI x1, vU, vU, vU]) rfl rfl ?_
    exact pl_X10_judgeLeft_206 hrec hf _ _ h
  · have h := ifT (Decidable.of_not_not c1) h
    refine b_aload_n dX10_judgeLeft_183 rfl ?_
    refine b_getR dX10_judgeLeft_184 fk_X10_130 ly_582 gg_582_24 ?_
    refine b_iload_n dX10_judgeLeft_187 rfl ?_
    obtain ⟨g3, h⟩ := h
    refine b_iald dX10_judgeLeft_188 ly_598 g3 ?_
    refine b_bipush dX10_judgeLeft_189 (by decide) ?_
    obtain ⟨g4, h⟩ := h
    refine b_icmp_ne 206 dX10_judgeLeft_191 g4 (by decide) (by decide) (fun c2 => ?_) (fun c2 => ?_)
    · have h := ifF c2 h
      refine b_fgt [true, true, false, false, false] (ls' := [vR 582, vI x1, vU, vU, vU]) rfl rfl ?_
      exact pl_X10_judgeLeft_206 hrec hf _ _ h
    · have h := ifT (Decidable.of_not_not c2) h
      refine b_aload_n dX10_judgeLeft_194 rfl ?_
      refine b_iload_n dX10_judgeLeft_195 rfl ?_
      refine b_bipush dX10_judgeLeft_196 (by decide) ?_
      refine b_iconst dX10_judgeLeft_198 ?_
      refine b_iconst dX10_judgeLeft_199 ?_
      refine b_cVv (as := [vI x1, vI (-2), vI 0, vI 0]) (st := []) dX10_judgeLeft_200 mf_X10_setRing qs128 lk_X10_482 ly_582 rfl (p_X10_setRing (f := 1) (Nat.le_refl _) _ _ _ _ _ h) (by omega) rfl rfl (Nat.le_of_ble_eq_true rfl) (by decide) rfl (fun _ => rfl) (fun r1 m1 h => ?_) (fun _ h => h)
      refine b_goto 707 dX10_judgeLeft_203 (by decide) ?_
      exact b_vret dX10_judgeLeft_707 rfl h
theorem pl_X10_judgeLeft_214 {f : Nat} {Q : Int → MM → Prop} {T : MM → Prop} {rec : Nat → List Int → MM → (Int → MM → Prop) → (MM → Prop) → Prop} {fr : Nat} (hrec : HR_X10_judge rec fr) (hf : 24 ≤ f ∧ fr + 1 ≤ f) : ∀ (x1 : Int) (x2 : Int) (x3 : Int) (m : MM), P_X10_judgeLeft_214 rec Q T x1 x2 x3 m → B f M_X10_judgeLeft 214 [vR 582, vI x1, vI x2, vI x3, vU] [] m Q T := by
  intro x1 x2 x3 m h
  have h : P_X10_joinsParts x2 x3 m (fun r1 m1 => (RI r1) ∧ (if r1 = 0 then P_X10_wrong x1 m1 (fun r2 m2 => Q 0 m2) else P_X10_setRing x1 (-2) 0 0 m1 (fun r3 m3 => Q 0 m3))) := h
  refine b_aload_n dX10_judgeLeft_214 rfl ?_
  refine b_iload_n dX10_judgeLeft_215 rfl ?_
  refine b_iload_n dX10_judgeLeft_216 rfl ?_
  refine b_cVi (as := [vI x2, vI x3]) (st := []) dX10_judgeLeft_217 mf_X10_joinsParts qs148 lk_X10_489 ly_582 rfl (p_X10_joinsParts (f := 3) (Nat.le_refl _) _ _ _ h) (by omega) rfl rfl (Nat.le_of_ble_eq_true rfl) (by decide) rfl (fun _ => rfl) (fun r1 m1 h => ?_) (fun _ h => h)
  obtain ⟨g1, h⟩ := h
  refine b_if_eq 235 dX10_judgeLeft_220 g1 (by decide) (fun c1 => ?_) (fun c1 => ?_)
  · have h := ifT c1 h
    refine b_aload_n dX10_judgeLeft_235 rfl ?_
    refine b_iload_n dX10_judgeLeft_236 rfl ?_
    refine b_cVv (as := [vI x1]) (st := []) dX10_judgeLeft_237 mf_X10_wrong qs146 lk_X10_486 ly_582 rfl (p_X10_wrong (f := 2) (Nat.le_refl _) _ _ h) (by omega) rfl rfl (Nat.le_of_ble_eq_true rfl) (by decide) rfl (fun _ => rfl) (fun r2 m2 h => ?_) (fun _ h => h)
    refine b_goto 707 dX10_judgeLeft_240 (by decide) ?_
    exact b_vret dX10_judgeLeft_707 rfl h
  · have h := ifF c1 h
    refine b_aload_n dX10_judgeLeft_223 rfl ?_
    refine b_iload_n dX10_judgeLeft_224 rfl ?_
    refine b_bipush dX10_judgeLeft_225 (by decide) ?_
    refine b_iconst dX10_judgeLeft_227 ?_
    refine b_iconst dX10_judgeLeft_228 ?_
    refine b_cVv (as := [vI x1, vI (-2), vI 0, vI 0]) (st := []) dX10_judgeLeft_229 mf_X10_setRing qs128 lk_X10_482 ly_582 rfl (p_X10_setRing (f := 1) (Nat.le_refl _) _ _ _ _ _ h) (by omega) rfl rfl (Nat.le_of_ble_eq_true rfl) (by decide) rfl (fun _ => rfl) (fun r3 m3 h => ?_) (fun _ h => h)
    refine b_goto 707 dX10_judgeLeft_232 (by decide) ?_
    exact b_vret dX10_judgeLeft_707 rfl h
theorem pl_X10_judgeLeft_293 {f : Nat} {Q : Int → MM → Prop} {T : MM → Prop} {rec : Nat → List Int → MM → (Int → MM → Prop) → (MM → Prop) → Prop} {fr : Nat} (hrec : HR_X10_judge rec fr) (hf : 24 ≤ f ∧ fr + 1 ≤ f) : ∀ (x1 : Int) (m : MM), P_X10_judgeLeft_293 rec Q T x1 m → B f M_X10_judgeLeft 293 [vR 582, vI x1, vU, vU, vU] [] m Q T := by
  intro x1 m h
  have h : P_X10_wrong x1 m (fun r1 m1 => Q 0 m1) := h
  refine b_aload_n dX10_judgeLeft_293 rfl ?_
  refine b_iload_n dX10_judgeLeft_294 rfl ?_
  refine b_cVv (as := [vI x1]) (st := []) dX10_judgeLeft_295 mf_X10_wrong qs146 lk_X10_486 ly_582 rfl (p_X10_wrong (f := 2) (Nat.le_refl _) _ _ h) (by omega) rfl rfl (Nat.le_of_ble_eq_true rfl) (by decide) rfl (fun _ => rfl) (fun r1 m1 h => ?_) (fun _ h => h)
  refine b_goto 707 dX10_judgeLeft_298 (by decide) ?_
  exact b_vret dX10_judgeLeft_707 rfl h
theorem pl_X10_judgeLeft_267 {f : Nat} {Q : Int → MM → Prop} {T : MM → Prop} {rec : Nat → List Int → MM → (Int → MM → Prop) → (MM → Prop) → Prop} {fr : Nat} (hrec : HR_X10_judge rec fr) (hf : 24 ≤ f ∧ fr + 1 ≤ f) : ∀ (x1 : Int) (m : MM), P_X10_judgeLeft_267 rec Q T x1 m → B f M_X10_judgeLeft 267 [vR 582, vI x1, vU, vU, vU] [] m Q T := by
  intro x1 m h
  have h : (RI (m 582 66)) ∧ (if (m 582 66) = 0 then (RI (m 582 67)) ∧ (if (m 582 67) = 0 then P_X10_setRing x1 (-2) 0 0 m (fun r1 m1 => Q 0 m1) else P_X10_judgeLeft_293 rec Q T x1 m) else P_X10_judgeLeft_293 rec Q T x1 m) := h
  refine b_aload_n dX10_judgeLeft_267 rfl ?_
  refine b_getI dX10_judgeLeft_268 fk_X10_450 ly_582 ?_
  obtain ⟨g1, h⟩ := h
  refine b_if_ne 293 dX10_judgeLeft_271 g1 (by decide) (fun c1 => ?_) (fun c1 => ?_)
  · have h := ifF c1 h
    exact pl_X10_judgeLeft_293 hrec hf _ _ h
  · have h := ifT (Decidable.of_not_not c1) h
    refine b_aload_n dX10_judgeLeft_274 rfl ?_
    refine b_getI dX10_judgeLeft_275 fk_X10_453 ly_582 ?_
    obtain ⟨g2, h⟩ := h
    refine b_if_ne 293 dX10_judgeLeft_278 g2 (by decide) (fun c2 => ?_) (fun c2 => ?_)
    · have h := ifF c2 h
      exact pl_X10_judgeLeft_293 hrec hf _ _ h
    · have h := ifT (Decidable.of_not_not c2) h
      refine b_aload_n dX10_judgeLeft_281 rfl ?_
      refine b_iload_n dX10_judgeLeft_282 rfl ?_
      refine b_bipush dX10_judgeLeft_283 (by decide) ?_
      refine b_iconst dX10_judgeLeft_285 ?_
      refine b_iconst dX10_judgeLeft_286 ?_
      refine b_cVv (as := [vI x1, vI (-2), vI 0, vI 0]) (st := []) dX10_judgeLeft_287 mf_X10_setRing qs128 lk_X10_482 ly_582 rfl (p_X10_setRing (f := 1) (Nat.le_refl _) _ _ _ _ _ h) (by omega) rfl rfl (Nat.le_of_ble_eq_true rfl) (by decide) rfl (fun _ => rfl) (fun r1 m1 h => ?_) (fun _ h => h)
      refine b_goto 707 dX10_judgeLeft_290 (by decide) ?_
      exact b_vret dX10_judgeLeft_707 rfl h
theorem pl_X10_judgeLeft_243 {f : Nat} {Q : Int → MM → Prop} {T : MM → Prop} {rec : Nat → List Int → MM → (Int → MM → Prop) → (MM → Prop) → Prop} {fr : Nat} (hrec : HR_X10_judge rec fr) (hf : 24 ≤ f ∧ fr + 1 ≤ f) : ∀ (x1 : Int) (x2 : Int) (x3 : Int) (m : MM), P_X10_judgeLeft_243 rec Q T x1 x2 x3 m → B f M_X10_judgeLeft 243 [vR 582, vI x1, vI x2, vI x3, vU] [] m Q T := by
  intro x1 x2 x3 m h
  have h : P_X10_joinsParts x2 x3 m (fun r1 m1 => (RI r1) ∧ (if r1 = 0 then P_X10_judgeLeft_293 rec Q T x1 m1 else (RI (m1 582 65)) ∧ (if (m1 582 65) = 0 then P_X10_judgeLeft_267 rec Q T x1 m1 else (if (m1 582 65) = 1 then P_X10_judgeLeft_267 rec Q T x1 m1 else P_X10_judgeLeft_293 rec Q T x1 m1)))) := h
  refine b_aload_n dX10_judgeLeft_243 rfl ?_
  refine b_iload_n dX10_judgeLeft_244 rfl ?_
  refine b_iload_n dX10_judgeLeft_245 rfl ?_
  refine b_cVi (as := [vI x2, vI x3]) (st := []) dX10_judgeLeft_246 mf_X10_joinsParts qs148 lk_X10_489 ly_582 rfl (p_X10_joinsParts (f := 3) (Nat.le_refl _) _ _ _ h) (by omega) rfl rfl (Nat.le_of_ble_eq_true rfl) (by decide) rfl (fun _ => rfl) (fun r1 m1 h => ?_) (fun _ h => h)
  obtain ⟨g1, h⟩ := h
  refine b_if_eq 293 dX10_judgeLeft_249 g1 (by decide) (fun c1 => ?_) (fun c1 => ?_)
  · have h := ifT c1 h
    refine b_fgt [true, true, false, false, false] (ls' := [vR 582, vI x1, vU, vU, vU]) rfl rfl ?_
    exact pl_X10_judgeLeft_293 hrec hf _ _ h
  · have h := ifF c1 h
    refine b_aload_n dX10_judgeLeft_252 rfl ?_
    refine b_getI dX10_judgeLeft_253 fk_X10_442 ly_582 ?_
    obtain ⟨g2, h⟩ := h
    refine b_if_eq 267 dX10_judgeLeft_256 g2 (by decide) (fun c2 => ?_) (fun c2 => ?_)
    · have h := ifT c2 h
      refine b_fgt [true, true, false, false, false] (ls' := [vR 582, vI x1, vU, vU, vU]) rfl rfl ?_
      exact pl_X10_judgeLeft_267 hrec hf _ _ h
    · have h := ifF c2 h
      refine b_aload_n dX10_judgeLeft_259 rfl ?_
      refine b_getI dX10_judgeLeft_260 fk_X10_442 ly_582 ?_
      refine b_iconst dX10_judgeLeft_263 ?_
      refine b_icmp_ne 293 dX10_judgeLeft_264 g2 (by decide) (by decide) (fun c3 => ?_) (fun c3 => ?_)
      · have h := ifF c3 h
        refine b_fgt [true, true, false, false, false] (ls' := [vR 582, vI x1, vU, vU, vU]) rfl rfl ?_
        exact pl_X10_judgeLeft_293 hrec hf _ _ h
      · have h := ifT (Decidable.of_not_not c3) h
        refine b_fgt [true, true, false, false, false] (ls' := [vR 582, vI x1, vU, vU, vU]) rfl rfl ?_
        exact pl_X10_judgeLeft_267 hrec hf _ _ h
theorem pl_X10_judgeLeft_339 {f : Nat} {Q : Int → MM → Prop} {T : MM → Prop} {rec : Nat → List Int → MM → (Int → MM → Prop) → (MM → Prop) → Prop} {fr : Nat} (hrec : HR_X10_judge rec fr) (hf : 24 ≤ f ∧ fr + 1 ≤ f) : ∀ (x1 : Int) (m : MM), P_X10_judgeLeft_339 rec Q T x1 m → B f M_X10_judgeLeft 339 [vR 582, vI x1, vU, vU, vU] [] m Q T := by
  intro x1 m h
  have h : P_X10_wrong x1 m (fun r1 m1 => Q 0 m1) := h
  refine b_aload_n dX10_judgeLeft_339 rfl ?_
  refine b_iload_n dX10_judgeLeft_340 rfl ?_
  refine b_cVv (as := [vI x1]) (st := []) dX10_judgeLeft_341 mf_X10_wrong qs146 lk_X10_486 ly_582 rfl (p_X10_wrong (f := 2) (Nat.le_refl _) _ _ h) (by omega) rfl rfl (Nat.le_of_ble_eq_true rfl) (by decide) rfl (fun _ => rfl) (fun r1 m1 h => ?_) (fun _ h => h)
  refine b_goto 707 dX10_judgeLeft_344 (by decide) ?_
  exact b_vret dX10_judgeLeft_707 rfl h
theorem pl_X10_judgeLeft_301 {f : Nat} {Q : Int → MM → Prop} {T : MM → Prop} {rec : Nat → List Int → MM → (Int → MM → Prop) → (MM → Prop) → Prop} {fr : Nat} (hrec : HR_X10_judge rec fr) (hf : 24 ≤ f ∧ fr + 1 ≤ f) : ∀ (x1 : Int) (x2 : Int) (x3 : Int) (m : MM), P_X10_judgeLeft_301 rec Q T x1 x2 x3 m → B f M_X10_judgeLeft 301 [vR 582, vI x1, vI x2, vI x3, vU] [] m Q T := by
  intro x1 x2 x3 m h
  have h : P_X10_joinsParts x2 x3 m (fun r1 m1 => (RI r1) ∧ (if r1 = 0 then P_X10_judgeLeft_339 rec Q T x1 m1 else (RI (m1 582 65)) ∧ (if (m1 582 65) = (-2) then P_X10_judgeLeft_339 rec Q T x1 m1 else P_X10_setRing x1 (m1 582 65) (m1 582 66) (m1 582 67) m1 (fun r2 m2 => Q 0 m2)))) := h
  refine b_aload_n dX10_judgeLeft_301 rfl ?_
  refine b_iload_n dX10_judgeLeft_302 rfl ?_
  refine b_iload_n dX10_judgeLeft_303 rfl ?_
  refine b_cVi (as := [vI x2, vI x3]) (st := []) dX10_judgeLeft_304 mf_X10_joinsParts qs148 lk_X10_489 ly_582 rfl (p_X10_joinsParts (f := 3) (Nat.le_refl _) _ _ _ h) (by omega) rfl rfl (Nat.le_of_ble_eq_true rfl) (by decide) rfl (fun _ => rfl) (fun r1 m1 h => ?_) (fun _ h => h)
  obtain ⟨g1, h⟩ := h
  refine b_if_eq 339 dX10_judgeLeft_307 g1 (by decide) (fun c1 => ?_) (fun c1 => ?_)
  · have h := ifT c1 h
    refine b_fgt [true, true, false, false, false] (ls' := [vR 582, vI x1, vU, vU, vU]) rfl rfl ?_
    exact pl_X10_judgeLeft_339 hrec hf _ _ h
  · have h := ifF c1 h
    refine b_aload_n dX10_judgeLeft_310 rfl ?_
    refine b_getI dX10_judgeLeft_311 fk_X10_442 ly_582 ?_
    refine b_bipush dX10_judgeLeft_314 (by decide) ?_
    obtain ⟨g2, h⟩ := h
    refine b_icmp_eq 339 dX10_judgeLeft_316 g2 (by decide) (by decide) (fun c2 => ?_) (fun c2 => ?_)
    · have h := ifT c2 h
      refine b_fgt [true, true, false, false, false] (ls' := [vR 582, vI x1, vU, vU, vU]) rfl rfl ?_
      exact pl_X10_judgeLeft_339 hrec hf _ _ h
    · have h := ifF c2 h
      refine b_aload_n dX10_judgeLeft_319 rfl ?_
      refine b_iload_n dX10_judgeLeft_320 rfl ?_
      refine b_aload_n dX10_judgeLeft_321 rfl ?_
      refine b_getI dX10_judgeLeft_322 fk_X10_442 ly_582 ?_
      refine b_aload_n dX10_judgeLeft_325 rfl ?_
      refine b_getI dX10_judgeLeft_326 fk_X10_450 ly_582 ?_
      refine b_aload_n dX10_judgeLeft_329 rfl ?_
      refine b_getI dX10_judgeLeft_330 fk_X10_453 ly_582 ?_
      refine b_cVv (as := [vI x1, vI (m1 582 65), vI (m1 582 66), vI (m1 582 67)]) (st := []) dX10_judgeLeft_333 mf_X10_setRing qs128 lk_X10_482 ly_582 rfl (p_X10_setRing (f := 1) (Nat.le_refl _) _ _ _ _ _ h) (by omega) rfl rfl (Nat.le_of_ble_eq_true rfl) (by decide) rfl (fun _ => rfl) (fun r2 m2 h => ?_) (fun _ h => h)
      refine b_goto 707 dX10_judgeLeft_336 (by decide) ?_
      exact b_vret dX10_judgeLeft_707 rfl h
theorem pl_X10_judgeLeft_403 {f : Nat} {Q : Int → MM → Prop} {T : MM → Prop} {rec : Nat → List Int → MM → (Int → MM → Prop) → (MM → Prop) → Prop} {fr : Nat} (hrec : HR_X10_judge rec fr) (hf : 24 ≤ f ∧ fr + 1 ≤ f) : ∀ (x1 : Int) (m : MM), P_X10_judgeLeft_403 rec Q T x1 m → B f M_X10_judgeLeft 403 [vR 582, vI x1, vU, vU, vU] [] m Q T := by
  intro x1 m h
  have h : ((RI (m 582 65))) ∧ P_X10_setRing x1 (if (m 582 65) = 0 then 1 else (m 582 65) : Int) (m 582 66) (m 582 67) m (fun r1 m1 => Q 0 m1) := h
  refine b_aload_n dX10_judgeLeft_403 rfl ?_
  refine b_iload_n dX10_judgeLeft_404 rfl ?_
  refine b_aload_n dX10_judgeLeft_405 rfl ?_
  refine b_getI dX10_judgeLeft_406 fk_X10_442 ly_582 ?_
  obtain ⟨hs, h⟩ := h
  have K : B f M_X10_judgeLeft 420 [vR 582, vI x1, vU, vU, vU] [vI (if (m 582 65) = 0 then 1 else (m 582 65) : Int), vI x1, vR 582] m Q T := by
    clear hs
    refine b_aload_n dX10_judgeLeft_420 rfl ?_
    refine b_getI dX10_judgeLeft_421 fk_X10_450 ly_582 ?_
    refine b_aload_n dX10_judgeLeft_424 rfl ?_
    refine b_getI dX10_judgeLeft_425 fk_X10_453 ly_582 ?_
    refine b_cVv (as := [vI x1, vI (if (m 582 65) = 0 then 1 else (m 582 65) : Int), vI (m 582 66), vI (m 582 67)]) (st := []) dX10_judgeLeft_428 mf_X10_setRing qs128 lk_X10_482 ly_582 rfl (p_X10_setRing (f := 1) (Nat.le_refl _) _ _ _ _ _ h) (by omega) rfl rfl (Nat.le_of_ble_eq_true rfl) (by decide) rfl (fun _ => rfl) (fun r1 m1 h => ?_) (fun _ h => h)
    refine b_goto 707 dX10_judgeLeft_431 (by decide) ?_
    exact b_vret dX10_judgeLeft_707 rfl h
  have g1 := hs
  refine b_if_ne 416 dX10_judgeLeft_409 g1 (by decide) (fun c1 => ?_) (fun c1 => ?_)
  ·
    refine b_aload_n dX10_judgeLeft_416 rfl ?_
    refine b_getI dX10_judgeLeft_417 fk_X10_442 ly_582 ?_
    exact Eq.mp (congrArg (fun z => B f M_X10_judgeLeft 420 [vR 582, vI x1, vU, vU, vU] (vI z :: [vI x1, vR 582]) m Q T) (show (if (m 582 65) = 0 then 1 else (m 582 65) : Int) = (m 582 65) by rw [if_neg c1])) K
  ·
    have c1 := Decidable.of_not_not c1
    refine b_iconst dX10_judgeLeft_412 ?_
    refine b_goto 420 dX10_judgeLeft_413 (by decide) ?_
    exact Eq.mp (congrArg (fun z => B f M_X10_judgeLeft 420 [vR 582, vI x1, vU, vU, vU] (vI z :: [vI x1, vR 582]) m Q T) (show (if (m 582 65) = 0 then 1 else (m 582 65) : Int) = 1 by rw [if_pos c1])) K
theorem pl_X10_judgeLeft_434 {f : Nat} {Q : Int → MM → Prop} {T : MM → Prop} {rec : Nat → List Int → MM → (Int → MM → Prop) → (MM → Prop) → Prop} {fr : Nat} (hrec : HR_X10_judge rec fr) (hf : 24 ≤ f ∧ fr + 1 ≤ f) : ∀ (x1 : Int) (m : MM), P_X10_judgeLeft_434 rec Q T x1 m → B f M_X10_judgeLeft 434 [vR 582, vI x1, vU, vU, vU] [] m Q T := by
  intro x1 m h
  have h : P_X10_wrong x1 m (fun r1 m1 => Q 0 m1) := h
  refine b_aload_n dX10_judgeLeft_434 rfl ?_
  refine b_iload_n dX10_judgeLeft_435 rfl ?_
  refine b_cVv (as := [vI x1]) (st := []) dX10_judgeLeft_436 mf_X10_wrong qs146 lk_X10_486 ly_582 rfl (p_X10_wrong (f := 2) (Nat.le_refl _) _ _ h) (by omega) rfl rfl (Nat.le_of_ble_eq_true rfl) (by decide) rfl (fun _ => rfl) (fun r1 m1 h => ?_) (fun _ h => h)
  refine b_goto 707 dX10_judgeLeft_439 (by decide) ?_
  exact b_vret dX10_judgeLeft_707 rfl h
theorem pl_X10_judgeLeft_478 {f : Nat} {Q : Int → MM → Prop} {T : MM → Prop} {rec : Nat → List Int → MM → (Int → MM → Prop) → (MM → Prop) → Prop} {fr : Nat} (hrec : HR_X10_judge rec fr) (hf : 24 ≤ f ∧ fr + 1 ≤ f) : ∀ (x1 : Int) (m : MM), P_X10_judgeLeft_478 rec Q T x1 m → B f M_X10_judgeLeft 478 [vR 582, vI x1, vU, vU, vU] [] m Q T := by
  intro x1 m h
  have h : P_X10_wrong x1 m (fun r1 m1 => Q 0 m1) := h
  refine b_aload_n dX10_judgeLeft_478 rfl ?_
  refine b_iload_n dX10_judgeLeft_479 rfl ?_
  refine b_cVv (as := [vI x1]) (st := []) dX10_judgeLeft_480 mf_X10_wrong qs146 lk_X10_486 ly_582 rfl (p_X10_wrong (f := 2) (Nat.le_refl _) _ _ h) (by omega) rfl rfl (Nat.le_of_ble_eq_true rfl) (by decide) rfl (fun _ => rfl) (fun r1 m1 h => ?_) (fun _ h => h)
  refine b_goto 707 dX10_judgeLeft_483 (by decide) ?_
  exact b_vret dX10_judgeLeft_707 rfl h
theorem pl_X10_judgeLeft_442 {f : Nat} {Q : Int → MM → Prop} {T : MM → Prop} {rec : Nat → List Int → MM → (Int → MM → Prop) → (MM → Prop) → Prop} {fr : Nat} (hrec : HR_X10_judge rec fr) (hf : 24 ≤ f ∧ fr + 1 ≤ f) : ∀ (x1 : Int) (x2 : Int) (x3 : Int) (m : MM), P_X10_judgeLeft_442 rec Q T x1 x2 x3 m → B f M_X10_judgeLeft 442 [vR 582, vI x1, vI x2, vI x3, vU] [] m Q T := by
  intro x1 x2 x3 m h
  have h : P_X10_joinsParts x2 x3 m (fun r1 m1 => (RI r1) ∧ (if r1 = 0 then P_X10_judgeLeft_478 rec Q T x1 m1 else P_X10_isDivided m1 (fun r2 m2 => (RI r2) ∧ (if r2 = 0 then P_X10_judgeLeft_478 rec Q T x1 m2 else P_X10_setRing x1 (m2 582 65) (m2 582 66) (m2 582 67) m2 (fun r3 m3 => Q 0 m3))))) := h
  refine b_aload_n dX10_judgeLeft_442 rfl ?_
  refine b_iload_n dX10_judgeLeft_443 rfl ?_
  refine b_iload_n dX10_judgeLeft_444 rfl ?_
  refine b_cVi (as := [vI x2, vI x3]) (st := []) dX10_judgeLeft_445 mf_X10_joinsParts qs148 lk_X10_489 ly_582 rfl (p_X10_joinsParts (f := 3) (Nat.le_refl _) _ _ _ h) (by omega) rfl rfl (Nat.le_of_ble_eq_true rfl) (by decide) rfl (fun _ => rfl) (fun r1 m1 h => ?_) (fun _ h => h)
  obtain ⟨g1, h⟩ := h
  refine b_if_eq 478 dX10_judgeLeft_448 g1 (by decide) (fun c1 => ?_) (fun c1 => ?_)
  · have h := ifT c1 h
    refine b_fgt [true, true, false, false, false] (ls' := [vR 582, vI x1, vU, vU, vU]) rfl rfl ?_
    exact pl_X10_judgeLeft_478 hrec hf _ _ h
  · have h := ifF c1 h
    refine b_aload_n dX10_judgeLeft_451 rfl ?_
    refine b_cVi (as := []) (st := []) dX10_judgeLeft_452 mf_X10_isDivided qs149 lk_X10_496 ly_582 rfl (p_X10_isDivided (f := 2) (Nat.le_refl _) _ h) (by omega) rfl rfl (Nat.le_of_ble_eq_true rfl) (by decide) rfl (fun _ => rfl) (fun r2 m2 h => ?_) (fun _ h => h)
    obtain ⟨g2, h⟩ := h
    refine b_if_eq 478 dX10_judgeLeft_455 g2 (by decide) (fun c2 => ?_) (fun c2 => ?_)
    · have h := ifT c2 h
      refine b_fgt [true, true, false, false, false] (ls' := [vR 582, vI x1, vU, vU, vU]) rfl rfl ?_
      exact pl_X10_judgeLeft_478 hrec hf _ _ h
    · have h := ifF c2 h
      refine b_aload_n dX10_judgeLeft_458 rfl ?_
      refine b_iload_n dX10_judgeLeft_459 rfl ?_
      refine b_aload_n dX10_judgeLeft_460 rfl ?_
      refine b_getI dX10_judgeLeft_461 fk_X10_442 ly_582 ?_
      refine b_aload_n dX10_judgeLeft_464 rfl ?_
      refine b_getI dX10_judgeLeft_465 fk_X10_450 ly_582 ?_
      refine b_aload_n dX10_judgeLeft_468 rfl ?_
      refine b_getI dX10_judgeLeft_469 fk_X10_453 ly_582 ?_
      refine b_cVv (as := [vI x1, vI (m2 582 65), vI (m2 582 66), vI (m2 582 67)]) (st := []) dX10_judgeLeft_472 mf_X10_setRing qs128 lk_X10_482 ly_582 rfl (p_X10_setRing (f := 1) (Nat.le_refl _) _ _ _ _ _ h) (by omega) rfl rfl (Nat.le_of_ble_eq_true rfl) (by decide) rfl (fun _ => rfl) (fun r3 m3 h => ?_) (fun _ h => h)
      refine b_goto 707 dX10_judgeLeft_475 (by decide) ?_
      exact b_vret dX10_judgeLeft_707 rfl h
theorem pl_X10_judgeLeft_536 {f : Nat} {Q : Int → MM → Prop} {T : MM → Prop} {rec : Nat → List Int → MM → (Int → MM → Prop) → (MM → Prop) → Prop} {fr : Nat} (hrec : HR_X10_judge rec fr) (hf : 24 ≤ f ∧ fr + 1 ≤ f) : ∀ (x1 : Int) (m : MM), P_X10_judgeLeft_536 rec Q T x1 m → B f M_X10_judgeLeft 536 [vR 582, vI x1, vU, vU, vU] [] m Q T := by
  intro x1 m h
  have h : P_X10_wrong x1 m (fun r1 m1 => Q 0 m1) := h
  refine b_aload_n dX10_judgeLeft_536 rfl ?_
  refine b_iload_n dX10_judgeLeft_537 rfl ?_
  refine b_cVv (as := [vI x1]) (st := []) dX10_judgeLeft_538 mf_X10_wrong qs146 lk_X10_486 ly_582 rfl (p_X10_wrong (f := 2) (Nat.le_refl _) _ _ h) (by omega) rfl rfl (Nat.le_of_ble_eq_true rfl) (by decide) rfl (fun _ => rfl) (fun r1 m1 h => ?_) (fun _ h => h)
  refine b_goto 707 dX10_judgeLeft_541 (by decide) ?_
  exact b_vret dX10_judgeLeft_707 rfl h
theorem pl_X10_judgeLeft_94 {f : Nat} {Q : Int → MM → Prop} {T : MM → Prop} {rec : Nat → List Int → MM → (Int → MM → Prop) → (MM → Prop) → Prop} {fr : Nat} (hrec : HR_X10_judge rec fr) (hf : 24 ≤ f ∧ fr + 1 ≤ f) : ∀ (x1 : Int) (x2 : Int) (x3 : Int) (x4 : Int) (m : MM), P_X10_judgeLeft_94 rec Q T x1 x2 x3 x4 m → B f M_X10_judgeLeft 94 [vR 582, vI x1, vI x2, vI x3, vI x4] [] m Q T := by
  intro x1 x2 x3 x4 m h
  have h : (0 ≤ x1 ∧ x1 < 12000) ∧ (RI (m 590 x1)) ∧ (if (m 590 x1) = 11 then P_X10_judgeLeft_172 rec Q T x1 x2 x3 m else (if (m 590 x1) = 12 then P_X10_judgeLeft_172 rec Q T x1 x2 x3 m else (if (m 590 x1) = 13 then P_X10_judgeLeft_214 rec Q T x1 x2 x3 m else (if (m 590 x1) = 14 then P_X10_judgeLeft_214 rec Q T x1 x2 x3 m else (if (m 590 x1) = 15 then P_X10_judgeLeft_243 rec Q T x1 x2 x3 m else (if (m 590 x1) = 16 then P_X10_judgeLeft_243 rec Q T x1 x2 x3 m else (if (m 590 x1) = 17 then P_X10_judgeLeft_301 rec Q T x1 x2 x3 m else (if (m 590 x1) = 18 then P_X10_judgeLeft_301 rec Q T x1 x2 x3 m else (if (m 590 x1) = 19 then P_X10_judgeLeft_301 rec Q T x1 x2 x3 m else (if (m 590 x1) = 20 then (0 ≤ x3 ∧ x3 < 12000) ∧ (RI (m 599 x3)) ∧ (if (m 599 x3) = 0 then (RI (m 600 x3)) ∧ (if (m 600 x3) = 0 then (RI (m 598 x3)) ∧ (if (m 598 x3) = (-2) then P_X10_judgeLeft_434 rec Q T x1 m else P_X10_joinsParts x2 x3 m (fun r1 m1 => (RI r1) ∧ (if r1 = 0 then P_X10_judgeLeft_434 rec Q T x1 m1 else (RI (m1 582 65)) ∧ (if (m1 582 65) < 2 then P_X10_judgeLeft_403 rec Q T x1 m1 else P_X10_isField (m1 582 65) m1 (fun r2 m2 => (RI r2) ∧ (if r2 = 0 then P_X10_judgeLeft_434 rec Q T x1 m2 else P_X10_judgeLeft_403 rec Q T x1 m2)))))) else P_X10_judgeLeft_434 rec Q T x1 m) else P_X10_judgeLeft_434 rec Q T x1 m) else (if (m 590 x1) = 21 then P_X10_judgeLeft_442 rec Q T x1 x2 x3 m else (if (m 590 x1) = 22 then P_X10_judgeLeft_442 rec Q T x1 x2 x3 m else (if (m 590 x1) = 23 then (0 ≤ x2 ∧ x2 < 12000) ∧ (RI (m 598 x2)) ∧ (if (m 598 x2) = (-2) then P_X10_judgeLeft_536 rec Q T x1 m else (RL (m 605 x1)) ∧ (if 12 < (m 605 x1) then P_X10_judgeLeft_536 rec Q T x1 m else P_X10_setRing x1 (m 598 x2) (m 599 x2) (m 600 x2) m (fun r3 m3 => Q 0 m3))) else (if (m 590 x1) = 24 then (0 ≤ x2 ∧ x2 < 12000) ∧ (0 ≤ x4 ∧ x4 < 12000) ∧ P_X10_goes (m 598 x2) (m 599 x2) (m 600 x2) (m 598 x4) (m 599 x4) (m 600 x4) m (fun r4 m4 => (RI r4) ∧ (if r4 = 0 then P_X10_wrong x1 m4 (fun r5 m5 => Q 0 m5) else P_X10_setRing x1 (m4 598 x4) (m4 599 x4) (m4 600 x4) m4 (fun r6 m6 => Q 0 m6))) else (0 ≤ x4 ∧ x4 < 12000) ∧ (0 ≤ x2 ∧ x2 < 12000) ∧ P_X10_goes (m 598 x4) (m 599 x4) (m 600 x4) (m 598 x2) (m 599 x2) (m 600 x2) m (fun r7 m7 => (RI r7) ∧ (if r7 = 0 then P_X10_wrong x1 m7 (fun r8 m8 => Q 0 m8) else P_X10_setRing x1 (m7 598 x4) (m7 599 x4) (m7 600 x4) m7 (fun r9 m9 => Q 0 m9))))))))))))))))) := h
  refine b_aload_n dX10_judgeLeft_94 rfl ?_
  refine b_getR dX10_judgeLeft_95 fk_X10_106 ly_582 gg_582_16 ?_
  refine b_iload_n dX10_judgeLeft_98 rfl ?_
  obtain ⟨g1, h⟩ := h
  refine b_iald dX10_judgeLeft_99 ly_590 g1 ?_
  obtain ⟨g2, h⟩ := h
  by_cases c1 : (m 590 x1) = 11
  · have h := ifT c1 h
    refine b_tswIn 172 dX10_judgeLeft_100 g2 (by omega) (by omega) (by rw [c1]; rfl) (by decide) ?_
    refine b_fgt [true, true, true, true, false] (ls' := [vR 582, vI x1, vI x2, vI x3, vU]) rfl rfl ?_
    exact pl_X10_judgeLeft_172 hrec hf _ _ _ _ h
  have h := ifF c1 h
  by_cases c2 : (m 590 x1) = 12
  · have h := ifT c2 h
    refine b_tswIn 172 dX10_judgeLeft_100 g2 (by omega) (by omega) (by rw [c2]; rfl) (by decide) ?_
    refine b_fgt [true, true, true, true, false] (ls' := [vR 582, vI x1, vI x2, vI x3, vU]) rfl rfl ?_
    exact pl_X10_judgeLeft_172 hrec hf _ _ _ _ h
  have h := ifF c2 h
  by_cases c3 : (m 590 x1) = 13
  · have h := ifT c3 h
    refine b_tswIn 214 dX10_judgeLeft_100 g2 (by omega) (by omega) (by rw [c3]; rfl) (by decide) ?_
    refine b_fgt [true, true, true, true, false] (ls' := [vR 582, vI x1, vI x2, vI x3, vU]) rfl rfl ?_
    exact pl_X10_judgeLeft_214 hrec hf _ _ _ _ h
  have h := ifF c3 h
  by_cases c4 : (m 590 x1) = 14
  · have h := ifT c4 h
    refine b_tswIn 214 dX10_judgeLeft_100 g2 (by omega) (by omega) (by rw [c4]; rfl) (by decide) ?_
    refine b_fgt [true, true, true, true, false] (ls' := [vR 582, vI x1, vI x2, vI x3, vU]) rfl rfl ?_
    exact pl_X10_judgeLeft_214 hrec hf _ _ _ _ h
  have h := ifF c4 h
  by_cases c5 : (m 590 x1) = 15
  · have h := ifT c5 h
    refine b_tswIn 243 dX10_judgeLeft_100 g2 (by omega) (by omega) (by rw [c5]; rfl) (by decide) ?_
    refine b_fgt [true, true, true, true, false] (ls' := [vR 582, vI x1, vI x2, vI x3, vU]) rfl rfl ?_
    exact pl_X10_judgeLeft_243 hrec hf _ _ _ _ h
  have h := ifF c5 h
  by_cases c6 : (m 590 x1) = 16
  · have h := ifT c6 h
    refine b_tswIn 243 dX10_judgeLeft_100 g2 (by omega) (by omega) (by rw [c6]; rfl) (by decide) ?_
    refine b_fgt [true, true, true, true, false] (ls' := [vR 582, vI x1, vI x2, vI x3, vU]) rfl rfl ?_
    exact pl_X10_judgeLeft_243 hrec hf _ _ _ _ h
  have h := ifF c6 h
  by_cases c7 : (m 590 x1) = 17
  · have h := ifT c7 h
    refine b_tswIn 301 dX10_judgeLeft_100 g2 (by omega) (by omega) (by rw [c7]; rfl) (by decide) ?_
    refine b_fgt [true, true, true, true, false] (ls' := [vR 582, vI x1, vI x2, vI x3, vU]) rfl rfl ?_
    exact pl_X10_judgeLeft_301 hrec hf _ _ _ _ h
  have h := ifF c7 h
  by_cases c8 : (m 590 x1) = 18
  · have h := ifT c8 h
    refine b_tswIn 301 dX10_judgeLeft_100 g2 (by omega) (by omega) (by rw [c8]; rfl) (by decide) ?_
    refine b_fgt [true, true, true, true, false] (ls' := [vR 582, vI x1, vI x2, vI x3, vU]) rfl rfl ?_
    exact pl_X10_judgeLeft_301 hrec hf _ _ _ _ h
  have h := ifF c8 h
  by_cases c9 : (m 590 x1) = 19
  · have h := ifT c9 h
    refine b_tswIn 301 dX10_judgeLeft_100 g2 (by omega) (by omega) (by rw [c9]; rfl) (by decide) ?_
    refine b_fgt [true, true, true, true, false] (ls' := [vR 582, vI x1, vI x2, vI x3, vU]) rfl rfl ?_
    exact pl_X10_judgeLeft_301 hrec hf _ _ _ _ h
  have h := ifF c9 h
  by_cases c10 : (m 590 x1) = 20
  · have h := ifT c10 h
    refine b_tswIn 347 dX10_judgeLeft_100 g2 (by omega) (by omega) (by rw [c10]; rfl) (by decide) ?_
    refine b_aload_n dX10_judgeLeft_347 rfl ?_
    refine b_getR dX10_judgeLeft_348 fk_X10_133 ly_582 gg_582_25 ?_
    refine b_iload_n dX10_judgeLeft_351 rfl ?_
    obtain ⟨g3, h⟩ := h
    refine b_iald dX10_judgeLeft_352 ly_599 g3 ?_
    obtain ⟨g4, h⟩ := h
    refine b_if_ne 434 dX10_judgeLeft_353 g4 (by decide) (fun c11 => ?_) (fun c11 => ?_)
    · have h := ifF c11 h
      refine b_fgt [true, true, false, false, false] (ls' := [vR 582, vI x1, vU, vU, vU]) rfl rfl ?_
      exact pl_X10_judgeLeft_434 hrec hf _ _ h
    · have h := ifT (Decidable.of_not_not c11) h
      refine b_aload_n dX10_judgeLeft_356 rfl ?_
      refine b_getR dX10_judgeLeft_357 fk_X10_136 ly_582 gg_582_26 ?_
      refine b_iload_n dX10_judgeLeft_360 rfl ?_
      refine b_iald dX10_judgeLeft_361 ly_600 g3 ?_
      obtain ⟨g5, h⟩ := h
      refine b_if_ne 434 dX10_judgeLeft_362 g5 (by decide) (fun c12 => ?_) (fun c12 => ?_)
      · have h := ifF c12 h
        refine b_fgt [true, true, false, false, false] (ls' := [vR 582, vI x1, vU, vU, vU]) rfl rfl ?_
        exact pl_X10_judgeLeft_434 hrec hf _ _ h
      · have h := ifT (Decidable.of_not_not c12) h
        refine b_aload_n dX10_judgeLeft_365 rfl ?_
        refine b_getR dX10_judgeLeft_366 fk_X10_130 ly_582 gg_582_24 ?_
        refine b_iload_n dX10_judgeLeft_369 rfl ?_
        refine b_iald dX10_judgeLeft_370 ly_598 g3 ?_
        refine b_bipush dX10_judgeLeft_371 (by decide) ?_
        obtain ⟨g6, h⟩ := h
        refine b_icmp_eq 434 dX10_judgeLeft_373 g6 (by decide) (by decide) (fun c13 => ?_) (fun c13 => ?_)
        · have h := ifT c13 h
          refine b_fgt [true, true, false, false, false] (ls' := [vR 582, vI x1, vU, vU, vU]) rfl rfl ?_
          exact pl_X10_judgeLeft_434 hrec hf _ _ h
        · have h := ifF c13 h
          refine b_aload_n dX10_judgeLeft_376 rfl ?_
          refine b_iload_n dX10_judgeLeft_377 rfl ?_
          refine b_iload_n dX10_judgeLeft_378 rfl ?_
          refine b_cVi (as := [vI x2, vI x3]) (st := []) dX10_judgeLeft_379 mf_X10_joinsParts qs148 lk_X10_489 ly_582 rfl (p_X10_joinsParts (f := 3) (Nat.le_refl _) _ _ _ h) (by omega) rfl rfl (Nat.le_of_ble_eq_true rfl) (by decide) rfl (fun _ => rfl) (fun r1 m1 h => ?_) (fun _ h => h)
          obtain ⟨g7, h⟩ := h
          refine b_if_eq 434 dX10_judgeLeft_382 g7 (by decide) (fun c14 => ?_) (fun c14 => ?_)
          · have h := ifT c14 h
            refine b_fgt [true, true, false, false, false] (ls' := [vR 582, vI x1, vU, vU, vU]) rfl rfl ?_
            exact pl_X10_judgeLeft_434 hrec hf _ _ h
          · have h := ifF c14 h
            refine b_aload_n dX10_judgeLeft_385 rfl ?_
            refine b_getI dX10_judgeLeft_386 fk_X10_442 ly_582 ?_
            refine b_iconst dX10_judgeLeft_389 ?_
            obtain ⟨g8, h⟩ := h
            refine b_icmp_lt 403 dX10_judgeLeft_390 g8 (by decide) (by decide) (fun c15 => ?_) (fun c15 => ?_)
            · have h := ifT c15 h
              refine b_fgt [true, true, false, false, false] (ls' := [vR 582, vI x1, vU, vU, vU]) rfl rfl ?_
              exact pl_X10_judgeLeft_403 hrec hf _ _ h
            · have h := ifF c15 h
              refine b_aload_n dX10_judgeLeft_393 rfl ?_
              refine b_getI dX10_judgeLeft_394 fk_X10_442 ly_582 ?_
              refine b_cSi (as := [vI (m1 582 65)]) (st := []) dX10_judgeLeft_397 mf_X10_isField lk_X10_493 (p_X10_isField (f := 1) (Nat.le_refl _) _ _ h) (by omega) rfl rfl (Nat.le_of_ble_eq_true rfl) (by decide) rfl (fun _ => rfl) (fun r2 m2 h => ?_) (fun _ h => h)
              obtain ⟨g9, h⟩ := h
              refine b_if_eq 434 dX10_judgeLeft_400 g9 (by decide) (fun c16 => ?_) (fun c16 => ?_)
              · have h := ifT c16 h
                refine b_fgt [true, true, false, false, false] (ls' := [vR 582, vI x1, vU, vU, vU]) rfl rfl ?_
                exact pl_X10_judgeLeft_434 hrec hf _ _ h
              · have h := ifF c16 h
                refine b_fgt [true, true, false, false, false] (ls' := [vR 582, vI x1, vU, vU, vU]) rfl rfl ?_
                exact pl_X10_judgeLeft_403 hrec hf _ _ h
  have h := ifF c10 h
  by_cases c17 : (m 590 x1) = 21
  · have h := ifT c17 h
    refine b_tswIn 442 dX10_judgeLeft_100 g2 (by omega) (by omega) (by rw [c17]; rfl) (by decide) ?_
    refine b_fgt [true, true, true, true, false] (ls' := [vR 582, vI x1, vI x2, vI x3, vU]) rfl rfl ?_
    exact pl_X10_judgeLeft_442 hrec hf _ _ _ _ h
  have h := ifF c17 h
  by_cases c18 : (m 590 x1) = 22
  · have h := ifT c18 h
    refine b_tswIn 442 dX10_judgeLeft_100 g2 (by omega) (by omega) (by rw [c18]; rfl) (by decide) ?_
    refine b_fgt [true, true, true, true, false] (ls' := [vR 582, vI x1, vI x2, vI x3, vU]) rfl rfl ?_
    exact pl_X10_judgeLeft_442 hrec hf _ _ _ _ h
  have h := ifF c18 h
  by_cases c19 : (m 590 x1) = 23
  · have h := ifT c19 h
    refine b_tswIn 486 dX10_judgeLeft_100 g2 (by omega) (by omega) (by rw [c19]; rfl) (by decide) ?_
    refine b_aload_n dX10_judgeLeft_486 rfl ?_
    refine b_getR dX10_judgeLeft_487 fk_X10_130 ly_582 gg_582_24 ?_
    refine b_iload_n dX10_judgeLeft_490 rfl ?_
    obtain ⟨g10, h⟩ := h
    refine b_iald dX10_judgeLeft_491 ly_598 g10 ?_
    refine b_bipush dX10_judgeLeft_492 (by decide) ?_
    obtain ⟨g11, h⟩ := h
    refine b_icmp_eq 536 dX10_judgeLeft_494 g11 (by decide) (by decide) (fun c20 => ?_) (fun c20 => ?_)
    · have h := ifT c20 h
      refine b_fgt [true, true, false, false, false] (ls' := [vR 582, vI x1, vU, vU, vU]) rfl rfl ?_
      exact pl_X10_judgeLeft_536 hrec hf _ _ h
    · have h := ifF c20 h
      refine b_aload_n dX10_judgeLeft_497 rfl ?_
      refine b_getR dX10_judgeLeft_498 fk_X10_152 ly_582 gg_582_31 ?_
      refine b_iload_n dX10_judgeLeft_501 rfl ?_
      refine b_lald dX10_judgeLeft_502 ly_605 g1 ?_
      refine b_ldc2 (12) dX10_judgeLeft_503 q2273 (by decide) ?_
      obtain ⟨g12, h⟩ := h
      refine b_lc_gt 536 dX10_judgeLeft_506 dX10_judgeLeft_507 g12 (by decide) (by decide) (fun c21 => ?_) (fun c21 => ?_)
      · have h := ifT c21 h
        refine b_fgt [true, true, false, false, false] (ls' := [vR 582, vI x1, vU, vU, vU]) rfl rfl ?_
        exact pl_X10_judgeLeft_536 hrec hf _ _ h
      · have h := ifF c21 h
        refine b_aload_n dX10_judgeLeft_510 rfl ?_
        refine b_iload_n dX10_judgeLeft_511 rfl ?_
        refine b_aload_n dX10_judgeLeft_512 rfl ?_
        refine b_getR dX10_judgeLeft_513 fk_X10_130 ly_582 gg_582_24 ?_
        refine b_iload_n dX10_judgeLeft_516 rfl ?_
        refine b_iald dX10_judgeLeft_517 ly_598 g10 ?_
        refine b_aload_n dX10_judgeLeft_518 rfl ?_
        refine b_getR dX10_judgeLeft_519 fk_X10_133 ly_582 gg_582_25 ?_
        refine b_iload_n dX10_judgeLeft_522 rfl ?_
        refine b_iald dX10_judgeLeft_523 ly_599 g10 ?_
        refine b_aload_n dX10_judgeLeft_524 rfl ?_
        refine b_getR dX10_judgeLeft_525 fk_X10_136 ly_582 gg_582_26 ?_
        refine b_iload_n dX10_judgeLeft_528 rfl ?_
        refine b_iald dX10_judgeLeft_529 ly_600 g10 ?_
        refine b_cVv (as := [vI x1, vI (m 598 x2), vI (m 599 x2), vI (m 600 x2)]) (st := []) dX10_judgeLeft_530 mf_X10_setRing qs128 lk_X10_482 ly_582 rfl (p_X10_setRing (f := 1) (Nat.le_refl _) _ _ _ _ _ h) (by omega) rfl rfl (Nat.le_of_ble_eq_true rfl) (by decide) rfl (fun _ => rfl) (fun r3 m3 h => ?_) (fun _ h => h)
        refine b_goto 707 dX10_judgeLeft_533 (by decide) ?_
        exact b_vret dX10_judgeLeft_707 rfl h
  have h := ifF c19 h
  by_cases c22 : (m 590 x1) = 24
  · have h := ifT c22 h
    refine b_tswIn 544 dX10_judgeLeft_100 g2 (by omega) (by omega) (by rw [c22]; rfl) (by decide) ?_
    refine b_aload_n dX10_judgeLeft_544 rfl ?_
    refine b_aload_n dX10_judgeLeft_545 rfl ?_
    refine b_getR dX10_judgeLeft_546 fk_X10_130 ly_582 gg_582_24 ?_
    refine b_iload_n dX10_judgeLeft_549 rfl ?_
    obtain ⟨g13, h⟩ := h
    refine b_iald dX10_judgeLeft_550 ly_598 g13 ?_
    refine b_aload_n dX10_judgeLeft_551 rfl ?_
    refine b_getR dX10_judgeLeft_552 fk_X10_133 ly_582 gg_582_25 ?_
    refine b_iload_n dX10_judgeLeft_555 rfl ?_
    refine b_iald dX10_judgeLeft_556 ly_599 g13 ?_
    refine b_aload_n dX10_judgeLeft_557 rfl ?_
    refine b_getR dX10_judgeLeft_558 fk_X10_136 ly_582 gg_582_26 ?_
    refine b_iload_n dX10_judgeLeft_561 rfl ?_
    refine b_iald dX10_judgeLeft_562 ly_600 g13 ?_
    refine b_aload_n dX10_judgeLeft_563 rfl ?_
    refine b_getR dX10_judgeLeft_564 fk_X10_130 ly_582 gg_582_24 ?_
    refine b_iload dX10_judgeLeft_567 rfl ?_
    obtain ⟨g14, h⟩ := h
    refine b_iald dX10_judgeLeft_569 ly_598 g14 ?_
    refine b_aload_n dX10_judgeLeft_570 rfl ?_
    refine b_getR dX10_judgeLeft_571 fk_X10_133 ly_582 gg_582_25 ?_
    refine b_iload dX10_judgeLeft_574 rfl ?_
    refine b_iald dX10_judgeLeft_576 ly_599 g14 ?_
    refine b_aload_n dX10_judgeLeft_577 rfl ?_
    refine b_getR dX10_judgeLeft_578 fk_X10_136 ly_582 gg_582_26 ?_
    refine b_iload dX10_judgeLeft_581 rfl ?_
    refine b_iald dX10_judgeLeft_583 ly_600 g14 ?_
    refine b_cVi (as := [vI (m 598 x2), vI (m 599 x2), vI (m 600 x2), vI (m 598 x4), vI (m 599 x4), vI (m 600 x4)]) (st := []) dX10_judgeLeft_584 mf_X10_goes qs145 lk_X10_502 ly_582 rfl (p_X10_goes (f := 3) (Nat.le_refl _) _ _ _ _ _ _ _ h) (by omega) rfl rfl (Nat.le_of_ble_eq_true rfl) (by decide) rfl (fun _ => rfl) (fun r4 m4 h => ?_) (fun _ h => h)
    obtain ⟨g15, h⟩ := h
    refine b_if_eq 619 dX10_judgeLeft_587 g15 (by decide) (fun c23 => ?_) (fun c23 => ?_)
    · have h := ifT c23 h
      refine b_aload_n dX10_judgeLeft_619 rfl ?_
      refine b_iload_n dX10_judgeLeft_620 rfl ?_
      refine b_cVv (as := [vI x1]) (st := []) dX10_judgeLeft_621 mf_X10_wrong qs146 lk_X10_486 ly_582 rfl (p_X10_wrong (f := 2) (Nat.le_refl _) _ _ h) (by omega) rfl rfl (Nat.le_of_ble_eq_true rfl) (by decide) rfl (fun _ => rfl) (fun r5 m5 h => ?_) (fun _ h => h)
      refine b_goto 707 dX10_judgeLeft_624 (by decide) ?_
      exact b_vret dX10_judgeLeft_707 rfl h
    · have h := ifF c23 h
      refine b_aload_n dX10_judgeLeft_590 rfl ?_
      refine b_iload_n dX10_judgeLeft_591 rfl ?_
      refine b_aload_n dX10_judgeLeft_592 rfl ?_
      refine b_getR dX10_judgeLeft_593 fk_X10_130 ly_582 gg_582_24 ?_
      refine b_iload dX10_judgeLeft_596 rfl ?_
      refine b_iald dX10_judgeLeft_598 ly_598 g14 ?_
      refine b_aload_n dX10_judgeLeft_599 rfl ?_
      refine b_getR dX10_judgeLeft_600 fk_X10_133 ly_582 gg_582_25 ?_
      refine b_iload dX10_judgeLeft_603 rfl ?_
      refine b_iald dX10_judgeLeft_605 ly_599 g14 ?_
      refine b_aload_n dX10_judgeLeft_606 rfl ?_
      refine b_getR dX10_judgeLeft_607 fk_X10_136 ly_582 gg_582_26 ?_
      refine b_iload dX10_judgeLeft_610 rfl ?_
      refine b_iald dX10_judgeLeft_612 ly_600 g14 ?_
      refine b_cVv (as := [vI x1, vI (m4 598 x4), vI (m4 599 x4), vI (m4 600 x4)]) (st := []) dX10_judgeLeft_613 mf_X10_setRing qs128 lk_X10_482 ly_582 rfl (p_X10_setRing (f := 1) (Nat.le_refl _) _ _ _ _ _ h) (by omega) rfl rfl (Nat.le_of_ble_eq_true rfl) (by decide) rfl (fun _ => rfl) (fun r6 m6 h => ?_) (fun _ h => h)
      refine b_goto 707 dX10_judgeLeft_616 (by decide) ?_
      exact b_vret dX10_judgeLeft_707 rfl h
  have h := ifF c22 h
  refine b_tswOut 627 dX10_judgeLeft_100 g2 (by omega) (by decide) ?_
  refine b_aload_n dX10_judgeLeft_627 rfl ?_
  refine b_aload_n dX10_judgeLeft_628 rfl ?_
  refine b_getR dX10_judgeLeft_629 fk_X10_130 ly_582 gg_582_24 ?_
  refine b_iload dX10_judgeLeft_632 rfl ?_
  obtain ⟨g16, h⟩ := h
  refine b_iald dX10_judgeLeft_634 ly_598 g16 ?_
  refine b_aload_n dX10_judgeLeft_635 rfl ?_
  refine b_getR dX10_judgeLeft_636 fk_X10_133 ly_582 gg_582_25 ?_
  refine b_iload dX10_judgeLeft_639 rfl ?_
  refine b_iald dX10_judgeLeft_641 ly_599 g16 ?_
  refine b_aload_n dX10_judgeLeft_642 rfl ?_
  refine b_getR dX10_judgeLeft_643 fk_X10_136 ly_582 gg_582_26 ?_
  refine b_iload dX10_judgeLeft_646 rfl ?_
  refine b_iald dX10_judgeLeft_648 ly_600 g16 ?_
  refine b_aload_n dX10_judgeLeft_649 rfl ?_
  refine b_getR dX10_judgeLeft_650 fk_X10_130 ly_582 gg_582_24 ?_
  refine b_iload_n dX10_judgeLeft_653 rfl ?_
  obtain ⟨g17, h⟩ := h
  refine b_iald dX10_judgeLeft_654 ly_598 g17 ?_
  refine b_aload_n dX10_judgeLeft_655 rfl ?_
  refine b_getR dX10_judgeLeft_656 fk_X10_133 ly_582 gg_582_25 ?_
  refine b_iload_n dX10_judgeLeft_659 rfl ?_
  refine b_iald dX10_judgeLeft_660 ly_599 g17 ?_
  refine b_aload_n dX10_judgeLeft_661 rfl ?_
  refine b_getR dX10_judgeLeft_662 fk_X10_136 ly_582 gg_582_26 ?_
  refine b_iload_n dX10_judgeLeft_665 rfl ?_
  refine b_iald dX10_judgeLeft_666 ly_600 g17 ?_
  refine b_cVi (as := [vI (m 598 x4), vI (m 599 x4), vI (m 600 x4), vI (m 598 x2), vI (m 599 x2), vI (m 600 x2)]) (st := []) dX10_judgeLeft_667 mf_X10_goes qs145 lk_X10_502 ly_582 rfl (p_X10_goes (f := 3) (Nat.le_refl _) _ _ _ _ _ _ _ h) (by omega) rfl rfl (Nat.le_of_ble_eq_true rfl) (by decide) rfl (fun _ => rfl) (fun r7 m7 h => ?_) (fun _ h => h)
  obtain ⟨g18, h⟩ := h
  refine b_if_eq 702 dX10_judgeLeft_670 g18 (by decide) (fun c24 => ?_) (fun c24 => ?_)
  · have h := ifT c24 h
    refine b_aload_n dX10_judgeLeft_702 rfl ?_
    refine b_iload_n dX10_judgeLeft_703 rfl ?_
    refine b_cVv (as := [vI x1]) (st := []) dX10_judgeLeft_704 mf_X10_wrong qs146 lk_X10_486 ly_582 rfl (p_X10_wrong (f := 2) (Nat.le_refl _) _ _ h) (by omega) rfl rfl (Nat.le_of_ble_eq_true rfl) (by decide) rfl (fun _ => rfl) (fun r8 m8 h => ?_) (fun _ h => h)
    exact b_vret dX10_judgeLeft_707 rfl h
  · have h := ifF c24 h
    refine b_aload_n dX10_judgeLeft_673 rfl ?_
    refine b_iload_n dX10_judgeLeft_674 rfl ?_
    refine b_aload_n dX10_judgeLeft_675 rfl ?_
    refine b_getR dX10_judgeLeft_676 fk_X10_130 ly_582 gg_582_24 ?_
    refine b_iload dX10_judgeLeft_679 rfl ?_
    refine b_iald dX10_judgeLeft_681 ly_598 g16 ?_
    refine b_aload_n dX10_judgeLeft_682 rfl ?_
    refine b_getR dX10_judgeLeft_683 fk_X10_133 ly_582 gg_582_25 ?_
    refine b_iload dX10_judgeLeft_686 rfl ?_
    refine b_iald dX10_judgeLeft_688 ly_599 g16 ?_
    refine b_aload_n dX10_judgeLeft_689 rfl ?_
    refine b_getR dX10_judgeLeft_690 fk_X10_136 ly_582 gg_582_26 ?_
    refine b_iload dX10_judgeLeft_693 rfl ?_
    refine b_iald dX10_judgeLeft_695 ly_600 g16 ?_
    refine b_cVv (as := [vI x1, vI (m7 598 x4), vI (m7 599 x4), vI (m7 600 x4)]) (st := []) dX10_judgeLeft_696 mf_X10_setRing qs128 lk_X10_482 ly_582 rfl (p_X10_setRing (f := 1) (Nat.le_refl _) _ _ _ _ _ h) (by omega) rfl rfl (Nat.le_of_ble_eq_true rfl) (by decide) rfl (fun _ => rfl) (fun r9 m9 h => ?_) (fun _ h => h)
    refine b_goto 707 dX10_judgeLeft_699 (by decide) ?_
    exact b_vret dX10_judgeLeft_707 rfl h
theorem pl_X10_judgeLeft_76 {f : Nat} {Q : Int → MM → Prop} {T : MM → Prop} {rec : Nat → List Int → MM → (Int → MM → Prop) → (MM → Prop) → Prop} {fr : Nat} (hrec : HR_X10_judge rec fr) (hf : 24 ≤ f ∧ fr + 1 ≤ f) : ∀ (x1 : Int) (x2 : Int) (x3 : Int) (x4 : Int) (m : MM), P_X10_judgeLeft_76 rec Q T x1 x2 x3 x4 m → B f M_X10_judgeLeft 76 [vR 582, vI x1, vI x2, vI x3, vI x4] [] m Q T := by
  intro x1 x2 x3 x4 m h
  have h : (RI x4) ∧ (if x4 < 0 then P_X10_judgeLeft_94 rec Q T x1 x2 x3 x4 m else (0 ≤ x4 ∧ x4 < 12000) ∧ (RI (m 598 x4)) ∧ (if (m 598 x4) = (-9) then Q 0 m else P_X10_judgeLeft_94 rec Q T x1 x2 x3 x4 m)) := h
  refine b_iload dX10_judgeLeft_76 rfl ?_
  obtain ⟨g1, h⟩ := h
  refine b_if_lt 94 dX10_judgeLeft_78 g1 (by decide) (fun c1 => ?_) (fun c1 => ?_)
  · have h := ifT c1 h
    exact pl_X10_judgeLeft_94 hrec hf _ _ _ _ _ h
  · have h := ifF c1 h
    refine b_aload_n dX10_judgeLeft_81 rfl ?_
    refine b_getR dX10_judgeLeft_82 fk_X10_130 ly_582 gg_582_24 ?_
    refine b_iload dX10_judgeLeft_85 rfl ?_
    obtain ⟨g2, h⟩ := h
    refine b_iald dX10_judgeLeft_87 ly_598 g2 ?_
    refine b_bipush dX10_judgeLeft_88 (by decide) ?_
    obtain ⟨g3, h⟩ := h
    refine b_icmp_ne 94 dX10_judgeLeft_90 g3 (by decide) (by decide) (fun c2 => ?_) (fun c2 => ?_)
    · have h := ifF c2 h
      exact pl_X10_judgeLeft_94 hrec hf _ _ _ _ _ h
    · have h := ifT (Decidable.of_not_not c2) h
      exact b_vret dX10_judgeLeft_93 rfl h
theorem pl_X10_judgeLeft_42 {f : Nat} {Q : Int → MM → Prop} {T : MM → Prop} {rec : Nat → List Int → MM → (Int → MM → Prop) → (MM → Prop) → Prop} {fr : Nat} (hrec : HR_X10_judge rec fr) (hf : 24 ≤ f ∧ fr + 1 ≤ f) : ∀ (x1 : Int) (x2 : Int) (x3 : Int) (x4 : Int) (m : MM), P_X10_judgeLeft_42 rec Q T x1 x2 x3 x4 m → B f M_X10_judgeLeft 42 [vR 582, vI x1, vI x2, vI x3, vI x4] [] m Q T := by
  intro x1 x2 x3 x4 m h
  have h : (0 ≤ x1 ∧ x1 < 12000) ∧ ∀ m1 : MM, m1 = up m 598 x1 (-9) → (0 ≤ x2 ∧ x2 < 12000) ∧ (RI (m1 598 x2)) ∧ (if (m1 598 x2) = (-9) then Q 0 m1 else (RI x3) ∧ (if x3 < 0 then P_X10_judgeLeft_76 rec Q T x1 x2 x3 x4 m1 else (0 ≤ x3 ∧ x3 < 12000) ∧ (RI (m1 598 x3)) ∧ (if (m1 598 x3) = (-9) then Q 0 m1 else P_X10_judgeLeft_76 rec Q T x1 x2 x3 x4 m1))) := h
  refine b_aload_n dX10_judgeLeft_42 rfl ?_
  refine b_getR dX10_judgeLeft_43 fk_X10_130 ly_582 gg_582_24 ?_
  refine b_iload_n dX10_judgeLeft_46 rfl ?_
  refine b_bipush dX10_judgeLeft_47 (by decide) ?_
  obtain ⟨g1, h⟩ := h
  refine b_iast dX10_judgeLeft_49 ly_598 g1 (fun m1 em1 => ?_)
  have h := h m1 em1
  refine b_aload_n dX10_judgeLeft_50 rfl ?_
  refine b_getR dX10_judgeLeft_51 fk_X10_130 ly_582 gg_582_24 ?_
  refine b_iload_n dX10_judgeLeft_54 rfl ?_
  obtain ⟨g2, h⟩ := h
  refine b_iald dX10_judgeLeft_55 ly_598 g2 ?_
  refine b_bipush dX10_judgeLeft_56 (by decide) ?_
  obtain ⟨g3, h⟩ := h
  refine b_icmp_eq 93 dX10_judgeLeft_58 g3 (by decide) (by decide) (fun c1 => ?_) (fun c1 => ?_)
  · have h := ifT c1 h
    exact b_vret dX10_judgeLeft_93 rfl h
  · have h := ifF c1 h
    refine b_iload_n dX10_judgeLeft_61 rfl ?_
    obtain ⟨g4, h⟩ := h
    refine b_if_lt 76 dX10_judgeLeft_62 g4 (by decide) (fun c2 => ?_) (fun c2 => ?_)
    · have h := ifT c2 h
      exact pl_X10_judgeLeft_76 hrec hf _ _ _ _ _ h
    · have h := ifF c2 h
      refine b_aload_n dX10_judgeLeft_65 rfl ?_
      refine b_getR dX10_judgeLeft_66 fk_X10_130 ly_582 gg_582_24 ?_
      refine b_iload_n dX10_judgeLeft_69 rfl ?_
      obtain ⟨g5, h⟩ := h
      refine b_iald dX10_judgeLeft_70 ly_598 g5 ?_
      refine b_bipush dX10_judgeLeft_71 (by decide) ?_
      obtain ⟨g6, h⟩ := h
      refine b_icmp_eq 93 dX10_judgeLeft_73 g6 (by decide) (by decide) (fun c3 => ?_) (fun c3 => ?_)
      · have h := ifT c3 h
        exact b_vret dX10_judgeLeft_93 rfl h
      · have h := ifF c3 h
        exact pl_X10_judgeLeft_76 hrec hf _ _ _ _ _ h
theorem pl_X10_judgeLeft_31 {f : Nat} {Q : Int → MM → Prop} {T : MM → Prop} {rec : Nat → List Int → MM → (Int → MM → Prop) → (MM → Prop) → Prop} {fr : Nat} (hrec : HR_X10_judge rec fr) (hf : 24 ≤ f ∧ fr + 1 ≤ f) : ∀ (x1 : Int) (x2 : Int) (x3 : Int) (x4 : Int) (m : MM), P_X10_judgeLeft_31 rec Q T x1 x2 x3 x4 m → B f M_X10_judgeLeft 31 [vR 582, vI x1, vI x2, vI x3, vI x4] [] m Q T := by
  intro x1 x2 x3 x4 m h
  have h : (RI x4) ∧ (if x4 < 0 then P_X10_judgeLeft_42 rec Q T x1 x2 x3 x4 m else R_X10_judgeRing 20 0 [x4] m (fun r1 m1 => P_X10_judgeLeft_42 rec Q T x1 x2 x3 x4 m1) T) := h
  refine b_iload dX10_judgeLeft_31 rfl ?_
  obtain ⟨g1, h⟩ := h
  refine b_if_lt 42 dX10_judgeLeft_33 g1 (by decide) (fun c1 => ?_) (fun c1 => ?_)
  · have h := ifT c1 h
    exact pl_X10_judgeLeft_42 hrec hf _ _ _ _ _ h
  · have h := ifF c1 h
    refine b_aload_n dX10_judgeLeft_36 rfl ?_
    refine b_iload dX10_judgeLeft_37 rfl ?_
    refine b_cVv (as := [vI x4]) (st := []) dX10_judgeLeft_39 mf_X10_judgeRing qs127 lk_X10_479 ly_582 rfl ((pr_X10_judgeRing 20 23 (Nat.le_refl _)).1 _ _ _ _ h) (by omega) rfl rfl (Nat.le_of_ble_eq_true rfl) (by decide) rfl (fun _ => rfl) (fun r1 m1 h => ?_) (fun _ h => h)
    exact pl_X10_judgeLeft_42 hrec hf _ _ _ _ _ h
theorem w_X10_judgeLeft {f : Nat} {Q : Int → MM → Prop} {T : MM → Prop} {rec : Nat → List Int → MM → (Int → MM → Prop) → (MM → Prop) → Prop} {fr : Nat} (hrec : HR_X10_judge rec fr) (hf : 24 ≤ f ∧ fr + 1 ≤ f) (x1 : Int) (m : MM) (h : W_X10_judgeLeft rec x1 m Q T) : CC f M_X10_judgeLeft [vR 582, vI x1] m Q T := by
  refine CC.of (plainFor_of_name (by decide)) (Nat.le_of_ble_eq_true rfl) (ls := [vR 582, vI x1, vU, vU, vU]) rfl ?_
  have h : (0 ≤ x1 ∧ x1 < 12000) ∧ (RI (m 592 x1)) ∧ (if (m 592 x1) < 0 then P_X10_judgeLeft_31 rec Q T x1 (m 591 x1) (m 592 x1) (m 593 x1) m else rec 0 [(m 592 x1)] m (fun r1 m1 => P_X10_judgeLeft_31 rec Q T x1 (m 591 x1) (m 592 x1) (m 593 x1) m1) T) := h
  refine b_aload_n dX10_judgeLeft_0 rfl ?_
  refine b_getR dX10_judgeLeft_1 fk_X10_109 ly_582 gg_582_17 ?_
  refine b_iload_n dX10_judgeLeft_4 rfl ?_
  obtain ⟨g1, h⟩ := h
  refine b_iald dX10_judgeLeft_5 ly_591 g1 ?_
  refine b_istore_n (ls' := [vR 582, vI x1, vI (m 591 x1), vU, vU]) dX10_judgeLeft_6 (Nat.le_of_ble_eq_true rfl) rfl ?_
  refine b_aload_n dX10_judgeLeft_7 rfl ?_
  refine b_getR dX10_judgeLeft_8 fk_X10_112 ly_582 gg_582_18 ?_
  refine b_iload_n dX10_judgeLeft_11 rfl ?_
  refine b_iald dX10_judgeLeft_12 ly_592 g1 ?_
  refine b_istore_n (ls' := [vR 582, vI x1, vI (m 591 x1), vI (m 592 x1), vU]) dX10_judgeLeft_13 (Nat.le_of_ble_eq_true rfl) rfl ?_
  refine b_aload_n dX10_judgeLeft_14 rfl ?_
  refine b_getR dX10_judgeLeft_15 fk_X10_115 ly_582 gg_582_19 ?_
  refine b_iload_n dX10_judgeLeft_18 rfl ?_
  refine b_iald dX10_judgeLeft_19 ly_593 g1 ?_
  refine b_istore (ls' := [vR 582, vI x1, vI (m 591 x1), vI (m 592 x1), vI (m 593 x1)]) dX10_judgeLeft_20 (Nat.le_of_ble_eq_true rfl) rfl ?_
  refine b_iload_n dX10_judgeLeft_22 rfl ?_
  obtain ⟨g2, h⟩ := h
  refine b_if_lt 31 dX10_judgeLeft_23 g2 (by decide) (fun c1 => ?_) (fun c1 => ?_)
  · have h := ifT c1 h
    exact pl_X10_judgeLeft_31 hrec hf _ _ _ _ _ h
  · have h := ifF c1 h
    refine b_aload_n dX10_judgeLeft_26 rfl ?_
    refine b_iload_n dX10_judgeLeft_27 rfl ?_
    refine b_cVv (as := [vI (m 592 x1)]) (st := []) dX10_judgeLeft_28 mf_X10_judge qs134 lk_X10_476 ly_582 rfl (hrec.1 _ _ _ _ h) (by omega) rfl rfl (Nat.le_of_ble_eq_true rfl) (by decide) rfl (fun _ => rfl) (fun r1 m1 h => ?_) (fun _ h => h)
    exact pl_X10_judgeLeft_31 hrec hf _ _ _ _ _ h
theorem pl_X10_judgeMatrix_208 {f : Nat} {Q : Int → MM → Prop} {T : MM → Prop} {rec : Nat → List Int → MM → (Int → MM → Prop) → (MM → Prop) → Prop} {fr : Nat} (hrec : HR_X10_judge rec fr) (hf : 24 ≤ f ∧ fr + 1 ≤ f) {K55 : Int → Int → Int → Int → Int → Int → Int → Int → MM → Prop} {K72 : Int → Int → Int → Int → Int → Int → Int → Int → Int → Int → MM → Prop} (hK55 : ∀ (x1 : Int) (x2 : Int) (x3 : Int) (x4 : Int) (x5 : Int) (x7 : Int) (x8 : Int) (x9 : Int) (m : MM), K55 x1 x2 x3 x4 x5 x7 x8 x9 m → B f M_X10_judgeMatrix 55 [vR 582, vI x1, vI x2, vI x3, vI x4, vI x5, vU, vI x7, vI x8, vI x9, vU, vU, vU] [] m Q T) (hK72 : ∀ (x1 : Int) (x2 : Int) (x3 : Int) (x4 : Int) (x5 : Int) (x7 : Int) (x8 : Int) (x9 : Int) (x10 : Int) (x11 : Int) (m : MM), K72 x1 x2 x3 x4 x5 x7 x8 x9 x10 x11 m → B f M_X10_judgeMatrix 72 [vR 582, vI x1, vI x2, vI x3, vI x4, vI x5, vU, vI x7, vI x8, vI x9, vI x10, vI x11, vU] [] m Q T) : ∀ (x1 : Int) (x2 : Int) (x3 : Int) (x4 : Int) (x5 : Int) (x7 : Int) (x8 : Int) (x9 : Int) (x10 : Int) (x11 : Int) (m : MM), P_X10_judgeMatrix_208 rec Q T K55 K72 x1 x2 x3 x4 x5 x7 x8 x9 x10 x11 m → B f M_X10_judgeMatrix 208 [vR 582, vI x1, vI x2, vI x3, vI x4, vI x5, vU, vI x7, vI x8, vI x9, vI x10, vI x11, vU] [] m Q T := by
  intro x1 x2 x3 x4 x5 x7 x8 x9 x10 x11 m h
  have h : (0 ≤ x11 ∧ x11 < 12000) ∧ K72 x1 x2 x3 x4 x5 x7 x8 x9 x10 (m 594 x11) m := h
  refine b_aload_n dX10_judgeMatrix_208 rfl ?_
  refine b_getR dX10_judgeMatrix_209 fk_X10_118 ly_582 gg_582_20 ?_
  refine b_iload dX10_judgeMatrix_212 rfl ?_
  obtain ⟨g1, h⟩ := h
  refine b_iald dX10_judgeMatrix_214 ly_594 g1 ?_
  refine b_istore (ls' := [vR 582, vI x1, vI x2, vI x3, vI x4, vI x5, vU, vI x7, vI x8, vI x9, vI x10, vI (m 594 x11), vU]) dX10_judgeMatrix_215 (Nat.le_of_ble_eq_true rfl) rfl ?_
  refine b_goto 72 dX10_judgeMatrix_217 (by decide) ?_
  exact hK72 _ _ _ _ _ _ _ _ _ _ _ h
theorem pl_X10_judgeMatrix_185 {f : Nat} {Q : Int → MM → Prop} {T : MM → Prop} {rec : Nat → List Int → MM → (Int → MM → Prop) → (MM → Prop) → Prop} {fr : Nat} (hrec : HR_X10_judge rec fr) (hf : 24 ≤ f ∧ fr + 1 ≤ f) {K55 : Int → Int → Int → Int → Int → Int → Int → Int → MM → Prop} {K72 : Int → Int → Int → Int → Int → Int → Int → Int → Int → Int → MM → Prop} (hK55 : ∀ (x1 : Int) (x2 : Int) (x3 : Int) (x4 : Int) (x5 : Int) (x7 : Int) (x8 : Int) (x9 : Int) (m : MM), K55 x1 x2 x3 x4 x5 x7 x8 x9 m → B f M_X10_judgeMatrix 55 [vR 582, vI x1, vI x2, vI x3, vI x4, vI x5, vU, vI x7, vI x8, vI x9, vU, vU, vU] [] m Q T) (hK72 : ∀ (x1 : Int) (x2 : Int) (x3 : Int) (x4 : Int) (x5 : Int) (x7 : Int) (x8 : Int) (x9 : Int) (x10 : Int) (x11 : Int) (m : MM), K72 x1 x2 x3 x4 x5 x7 x8 x9 x10 x11 m → B f M_X10_judgeMatrix 72 [vR 582, vI x1, vI x2, vI x3, vI x4, vI x5, vU, vI x7, vI x8, vI x9, vI x10, vI x11, vU] [] m Q T) : ∀ (x1 : Int) (x2 : Int) (x3 : Int) (x4 : Int) (x7 : Int) (x8 : Int) (x9 : Int) (x10 : Int) (x11 : Int) (m : MM), P_X10_judgeMatrix_185 rec Q T K55 K72 x1 x2 x3 x4 x7 x8 x9 x10 x11 m → B f M_X10_judgeMatrix 185 [vR 582, vI x1, vI x2, vI x3, vI x4, vU, vU, vI x7, vI x8, vI x9, vI x10, vI x11, vU] [] m Q T := by
  intro x1 x2 x3 x4 x7 x8 x9 x10 x11 m h
  have h : (if (0 : Int) = 0 then P_X10_judgeMatrix_208 rec Q T K55 K72 x1 x2 x3 x4 0 x7 x8 x9 x10 x11 m else P_X10_judgeMatrix_208 rec Q T K55 K72 x1 x2 x3 x4 0 (m 582 65) (m 582 66) x9 x10 x11 m) := h
  refine b_iconst dX10_judgeMatrix_185 ?_
  refine b_istore (ls' := [vR 582, vI x1, vI x2, vI x3, vI x4, vI 0, vU, vI x7, vI x8, vI x9, vI x10, vI x11, vU]) dX10_judgeMatrix_186 (Nat.le_of_ble_eq_true rfl) rfl ?_
  refine b_iload dX10_judgeMatrix_188 rfl ?_
  refine b_if_ne 196 dX10_judgeMatrix_190 (by decide) (by decide) (fun c1 => ?_) (fun c1 => ?_)
  · have h := ifF c1 h
    refine b_aload_n dX10_judgeMatrix_196 rfl ?_
    refine b_getI dX10_judgeMatrix_197 fk_X10_442 ly_582 ?_
    refine b_istore (ls' := [vR 582, vI x1, vI x2, vI x3, vI x4, vI 0, vU, vI (m 582 65), vI x8, vI x9, vI x10, vI x11, vU]) dX10_judgeMatrix_200 (Nat.le_of_ble_eq_true rfl) rfl ?_
    refine b_aload_n dX10_judgeMatrix_202 rfl ?_
    refine b_getI dX10_judgeMatrix_203 fk_X10_450 ly_582 ?_
    refine b_istore (ls' := [vR 582, vI x1, vI x2, vI x3, vI x4, vI 0, vU, vI (m 582 65), vI (m 582 66), vI x9, vI x10, vI x11, vU]) dX10_judgeMatrix_206 (Nat.le_of_ble_eq_true rfl) rfl ?_
    exact pl_X10_judgeMatrix_208 hrec hf hK55 hK72 _ _ _ _ _ _ _ _ _ _ _ h
  · have h := ifT (Decidable.of_not_not c1) h
    refine b_goto 208 dX10_judgeMatrix_193 (by decide) ?_
    exact pl_X10_judgeMatrix_208 hrec hf hK55 hK72 _ _ _ _ _ _ _ _ _ _ _ h
theorem pl_X10_judgeMatrix_220 {f : Nat} {Q : Int → MM → Prop} {T : MM → Prop} {rec : Nat → List Int → MM → (Int → MM → Prop) → (MM → Prop) → Prop} {fr : Nat} (hrec : HR_X10_judge rec fr) (hf : 24 ≤ f ∧ fr + 1 ≤ f) {K55 : Int → Int → Int → Int → Int → Int → Int → Int → MM → Prop} (hK55 : ∀ (x1 : Int) (x2 : Int) (x3 : Int) (x4 : Int) (x5 : Int) (x7 : Int) (x8 : Int) (x9 : Int) (m : MM), K55 x1 x2 x3 x4 x5 x7 x8 x9 m → B f M_X10_judgeMatrix 55 [vR 582, vI x1, vI x2, vI x3, vI x4, vI x5, vU, vI x7, vI x8, vI x9, vU, vU, vU] [] m Q T) : ∀ (x1 : Int) (x2 : Int) (x3 : Int) (x4 : Int) (x5 : Int) (x7 : Int) (x8 : Int) (x9 : Int) (x10 : Int) (m : MM), P_X10_judgeMatrix_220 rec Q T K55 x1 x2 x3 x4 x5 x7 x8 x9 x10 m → B f M_X10_judgeMatrix 220 [vR 582, vI x1, vI x2, vI x3, vI x4, vI x5, vU, vI x7, vI x8, vI x9, vI x10, vU, vU] [] m Q T := by
  intro x1 x2 x3 x4 x5 x7 x8 x9 x10 m h
  have h : ((RI x3) ∧ (if x3 = 0 then True else ((RI x10) ∧ (RI x2)))) ∧ (0 ≤ x9 ∧ x9 < 12000) ∧ K55 x1 x2 (if x3 = 0 then 0 else (if x10 = x2 then 1 else 0 : Int) : Int) x4 x5 x7 x8 (m 594 x9) m := h
  refine b_iload_n dX10_judgeMatrix_220 rfl ?_
  obtain ⟨hs, h⟩ := h
  have K : B f M_X10_judgeMatrix 235 [vR 582, vI x1, vI x2, vI x3, vI x4, vI x5, vU, vI x7, vI x8, vI x9, vI x10, vU, vU] [vI (if x3 = 0 then 0 else (if x10 = x2 then 1 else 0 : Int) : Int)] m Q T := by
    clear hs
    refine b_istore_n (ls' := [vR 582, vI x1, vI x2, vI (if x3 = 0 then 0 else (if x10 = x2 then 1 else 0 : Int) : Int), vI x4, vI x5, vU, vI x7, vI x8, vI x9, vI x10, vU, vU]) dX10_judgeMatrix_235 (Nat.le_of_ble_eq_true rfl) rfl ?_
    refine b_aload_n dX10_judgeMatrix_236 rfl ?_
    refine b_getR dX10_judgeMatrix_237 fk_X10_118 ly_582 gg_582_20 ?_
    refine b_iload dX10_judgeMatrix_240 rfl ?_
    obtain ⟨g4, h⟩ := h
    refine b_iald dX10_judgeMatrix_242 ly_594 g4 ?_
    refine b_istore (ls' := [vR 582, vI x1, vI x2, vI (if x3 = 0 then 0 else (if x10 = x2 then 1 else 0 : Int) : Int), vI x4, vI x5, vU, vI x7, vI x8, vI (m 594 x9), vI x10, vU, vU]) dX10_judgeMatrix_243 (Nat.le_of_ble_eq_true rfl) rfl ?_
    refine b_goto 55 dX10_judgeMatrix_245 (by decide) ?_
    refine b_fgt [true, true, true, true, true, true, false, true, true, true, false, false, false] (ls' := [vR 582, vI x1, vI x2, vI (if x3 = 0 then 0 else (if x10 = x2 then 1 else 0 : Int) : Int), vI x4, vI x5, vU, vI x7, vI x8, vI (m 594 x9), vU, vU, vU]) rfl rfl ?_
    exact hK55 _ _ _ _ _ _ _ _ _ h
  obtain ⟨g1, hs⟩ := hs
  refine b_if_eq 234 dX10_judgeMatrix_221 g1 (by decide) (fun c1 => ?_) (fun c1 => ?_)
  ·
    refine b_iconst dX10_judgeMatrix_234 ?_
    exact Eq.mp (congrArg (fun z => B f M_X10_judgeMatrix 235 [vR 582, vI x1, vI x2, vI x3, vI x4, vI x5, vU, vI x7, vI x8, vI x9, vI x10, vU, vU] (vI z :: []) m Q T) (show (if x3 = 0 then 0 else (if x10 = x2 then 1 else 0 : Int) : Int) = 0 by rw [if_pos c1])) K
  ·
    have hs := ifF c1 hs
    obtain ⟨g2, g3⟩ := hs
    refine b_iload dX10_judgeMatrix_224 rfl ?_
    refine b_iload_n dX10_judgeMatrix_226 rfl ?_
    refine b_icmp_ne 234 dX10_judgeMatrix_227 g2 g3 (by decide) (fun c2 => ?_) (fun c2 => ?_)
    ·
      refine b_iconst dX10_judgeMatrix_234 ?_
      exact Eq.mp (congrArg (fun z => B f M_X10_judgeMatrix 235 [vR 582, vI x1, vI x2, vI x3, vI x4, vI x5, vU, vI x7, vI x8, vI x9, vI x10, vU, vU] (vI z :: []) m Q T) (show (if x3 = 0 then 0 else (if x10 = x2 then 1 else 0 : Int) : Int) = 0 by rw [if_neg c1, if_neg c2])) K
    ·
      have c2 := Decidable.of_not_not c2
      refine b_iconst dX10_judgeMatrix_230 ?_
      refine b_goto 235 dX10_judgeMatrix_231 (by decide) ?_
      exact Eq.mp (congrArg (fun z => B f M_X10_judgeMatrix 235 [vR 582, vI x1, vI x2, vI x3, vI x4, vI x5, vU, vI x7, vI x8, vI x9, vI x10, vU, vU] (vI z :: []) m Q T) (show (if x3 = 0 then 0 else (if x10 = x2 then 1 else 0 : Int) : Int) = 1 by rw [if_neg c1, if_pos c2])) K
theorem pl_X10_judgeMatrix_72 {f : Nat} {Q : Int → MM → Prop} {T : MM → Prop} {rec : Nat → List Int → MM → (Int → MM → Prop) → (MM → Prop) → Prop} {fr : Nat} (hrec : HR_X10_judge rec fr) (hf : 24 ≤ f ∧ fr + 1 ≤ f) {K55 : Int → Int → Int → Int → Int → Int → Int → Int → MM → Prop} (hK55 : ∀ (x1 : Int) (x2 : Int) (x3 : Int) (x4 : Int) (x5 : Int) (x7 : Int) (x8 : Int) (x9 : Int) (m : MM), K55 x1 x2 x3 x4 x5 x7 x8 x9 m → B f M_X10_judgeMatrix 55 [vR 582, vI x1, vI x2, vI x3, vI x4, vI x5, vU, vI x7, vI x8, vI x9, vU, vU, vU] [] m Q T) : ∀ (n : Nat) (x1 : Int) (x2 : Int) (x3 : Int) (x4 : Int) (x5 : Int) (x7 : Int) (x8 : Int) (x9 : Int) (x10 : Int) (x11 : Int) (m : MM), P_X10_judgeMatrix_72 rec Q T K55 n x1 x2 x3 x4 x5 x7 x8 x9 x10 x11 m → B f M_X10_judgeMatrix 72 [vR 582, vI x1, vI x2, vI x3, vI x4, vI x5, vU, vI x7, vI x8, vI x9, vI x10, vI x11, vU] [] m Q T := by
  intro n
  induction n with
  | zero => intro x1 x2 x3 x4 x5 x7 x8 x9 x10 x11 m h; exact h.elim
  | succ n ih =>
    intro x1 x2 x3 x4 x5 x7 x8 x9 x10 x11 m h
    have h : (RI x11) ∧ (if x11 < 0 then P_X10_judgeMatrix_220 rec Q T K55 x1 x2 x3 x4 x5 x7 x8 x9 x10 m else (0 ≤ x11 ∧ x11 < 12000) ∧ rec 0 [(m 591 x11)] m (fun r1 m1 => ((RI x4) ∧ (if x4 = 0 then True else ((0 ≤ (m 591 x11) ∧ (m 591 x11) < 12000) ∧ (RI (m1 598 (m 591 x11)))))) ∧ (RI (if x4 = 0 then 0 else (if (m1 598 (m 591 x11)) = (-9) then 0 else 1 : Int) : Int)) ∧ (if (if x4 = 0 then 0 else (if (m1 598 (m 591 x11)) = (-9) then 0 else 1 : Int) : Int) = 0 then P_X10_judgeMatrix_208 rec Q T K55 (fun z0 z1 z2 z3 z4 z5 z6 z7 z8 z9 z10 => P_X10_judgeMatrix_72 rec Q T K55 n z0 z1 z2 z3 z4 z5 z6 z7 z8 z9 z10) x1 x2 x3 (if x4 = 0 then 0 else (if (m1 598 (m 591 x11)) = (-9) then 0 else 1 : Int) : Int) x5 x7 x8 x9 (x10 + 1) x11 m1 else (RI x5) ∧ (if x5 = 0 then P_X10_judgeMatrix_185 rec Q T K55 (fun z0 z1 z2 z3 z4 z5 z6 z7 z8 z9 z10 => P_X10_judgeMatrix_72 rec Q T K55 n z0 z1 z2 z3 z4 z5 z6 z7 z8 z9 z10) x1 x2 x3 (if x4 = 0 then 0 else (if (m1 598 (m 591 x11)) = (-9) then 0 else 1 : Int) : Int) x7 x8 x9 (x10 + 1) x11 m1 else (0 ≤ (m 591 x11) ∧ (m 591 x11) < 12000) ∧ (RI (m1 598 (m 591 x11))) ∧ (if (m1 598 (m 591 x11)) = (-2) then P_X10_judgeMatrix_185 rec Q T K55 (fun z0 z1 z2 z3 z4 z5 z6 z7 z8 z9 z10 => P_X10_judgeMatrix_72 rec Q T K55 n z0 z1 z2 z3 z4 z5 z6 z7 z8 z9 z10) x1 x2 x3 (if x4 = 0 then 0 else (if (m1 598 (m 591 x11)) = (-9) then 0 else 1 : Int) : Int) x7 x8 x9 (x10 + 1) x11 m1 else (RI (m1 600 (m 591 x11))) ∧ (if (m1 600 (m 591 x11)) = 0 then P_X10_joins x7 x8 0 (m1 598 (m 591 x11)) (m1 599 (m 591 x11)) 0 m1 (fun r2 m2 => ((RI r2)) ∧ (RI (if r2 = 0 then 0 else 1 : Int)) ∧ (if (if r2 = 0 then 0 else 1 : Int) = 0 then P_X10_judgeMatrix_208 rec Q T K55 (fun z0 z1 z2 z3 z4 z5 z6 z7 z8 z9 z10 => P_X10_judgeMatrix_72 rec Q T K55 n z0 z1 z2 z3 z4 z5 z6 z7 z8 z9 z10) x1 x2 x3 (if x4 = 0 then 0 else (if (m1 598 (m 591 x11)) = (-9) then 0 else 1 : Int) : Int) (if r2 = 0 then 0 else 1 : Int) x7 x8 x9 (x10 + 1) x11 m2 else P_X10_judgeMatrix_208 rec Q T K55 (fun z0 z1 z2 z3 z4 z5 z6 z7 z8 z9 z10 => P_X10_judgeMatrix_72 rec Q T K55 n z0 z1 z2 z3 z4 z5 z6 z7 z8 z9 z10) x1 x2 x3 (if x4 = 0 then 0 else (if (m1 598 (m 591 x11)) = (-9) then 0 else 1 : Int) : Int) (if r2 = 0 then 0 else 1 : Int) (m2 582 65) (m2 582 66) x9 (x10 + 1) x11 m2)) else P_X10_judgeMatrix_185 rec Q T K55 (fun z0 z1 z2 z3 z4 z5 z6 z7 z8 z9 z10 => P_X10_judgeMatrix_72 rec Q T K55 n z0 z1 z2 z3 z4 z5 z6 z7 z8 z9 z10) x1 x2 x3 (if x4 = 0 then 0 else (if (m1 598 (m 591 x11)) = (-9) then 0 else 1 : Int) : Int) x7 x8 x9 (x10 + 1) x11 m1))))) T) := h
    refine b_iload dX10_judgeMatrix_72 rfl ?_
    obtain ⟨g1, h⟩ := h
    refine b_if_lt 220 dX10_judgeMatrix_74 g1 (by decide) (fun c1 => ?_) (fun c1 => ?_)
    · have h := ifT c1 h
      refine b_fgt [true, true, true, true, true, true, false, true, true, true, true, false, false] (ls' := [vR 582, vI x1, vI x2, vI x3, vI x4, vI x5, vU, vI x7, vI x8, vI x9, vI x10, vU, vU]) rfl rfl ?_
      exact pl_X10_judgeMatrix_220 hrec hf hK55 _ _ _ _ _ _ _ _ _ _ h
    · have h := ifF c1 h
      refine b_aload_n dX10_judgeMatrix_77 rfl ?_
      refine b_getR dX10_judgeMatrix_78 fk_X10_109 ly_582 gg_582_17 ?_
      refine b_iload dX10_judgeMatrix_81 rfl ?_
      obtain ⟨g2, h⟩ := h
      refine b_iald dX10_judgeMatrix_83 ly_591 g2 ?_
      refine b_istore (ls' := [vR 582, vI x1, vI x2, vI x3, vI x4, vI x5, vU, vI x7, vI x8, vI x9, vI x10, vI x11, vI (m 591 x11)]) dX10_judgeMatrix_84 (Nat.le_of_ble_eq_true rfl) rfl ?_
      refine b_aload_n dX10_judgeMatrix_86 rfl ?_
      refine b_iload dX10_judgeMatrix_87 rfl ?_
      refine b_cVv (as := [vI (m 591 x11)]) (st := []) dX10_judgeMatrix_89 mf_X10_judge qs134 lk_X10_476 ly_582 rfl (hrec.1 _ _ _ _ h) (by omega) rfl rfl (Nat.le_of_ble_eq_true rfl) (by decide) rfl (fun _ => rfl) (fun r1 m1 h => ?_) (fun _ h => h)
      refine b_iinc (ls' := [vR 582, vI x1, vI x2, vI x3, vI x4, vI x5, vU, vI x7, vI x8, vI x9, vI (x10 + 1), vI x11, vI (m 591 x11)]) dX10_judgeMatrix_92 rfl rfl ?_
      refine b_iload dX10_judgeMatrix_95 rfl ?_
      obtain ⟨hs, h⟩ := h
      have K : B f M_X10_judgeMatrix 117 [vR 582, vI x1, vI x2, vI x3, vI x4, vI x5, vU, vI x7, vI x8, vI x9, vI (x10 + 1), vI x11, vI (m 591 x11)] [vI (if x4 = 0 then 0 else (if (m1 598 (m 591 x11)) = (-9) then 0 else 1 : Int) : Int)] m1 Q T := by
        clear hs
        refine b_istore (ls' := [vR 582, vI x1, vI x2, vI x3, vI (if x4 = 0 then 0 else (if (m1 598 (m 591 x11)) = (-9) then 0 else 1 : Int) : Int), vI x5, vU, vI x7, vI x8, vI x9, vI (x10 + 1), vI x11, vI (m 591 x11)]) dX10_judgeMatrix_117 (Nat.le_of_ble_eq_true rfl) rfl ?_
        refine b_iload dX10_judgeMatrix_119 rfl ?_
        obtain ⟨g6, h⟩ := h
        refine b_if_ne 127 dX10_judgeMatrix_121 g6 (by decide) (fun c2 => ?_) (fun c2 => ?_)
        · have h := ifF c2 h
          refine b_iload dX10_judgeMatrix_127 rfl ?_
          obtain ⟨g7, h⟩ := h
          refine b_if_eq 185 dX10_judgeMatrix_129 g7 (by decide) (fun c3 => ?_) (fun c3 => ?_)
          · have h := ifT c3 h
            refine b_fgt [true, true, true, true, true, false, false, true, true, true, true, true, false] (ls' := [vR 582, vI x1, vI x2, vI x3, vI (if x4 = 0 then 0 else (if (m1 598 (m 591 x11)) = (-9) then 0 else 1 : Int) : Int), vU, vU, vI x7, vI x8, vI x9, vI (x10 + 1), vI x11, vU]) rfl rfl ?_
            exact pl_X10_judgeMatrix_185 hrec hf hK55 (fun _ _ _ _ _ _ _ _ _ _ _ h => ih _ _ _ _ _ _ _ _ _ _ _ h) _ _ _ _ _ _ _ _ _ _ h
          · have h := ifF c3 h
            refine b_aload_n dX10_judgeMatrix_132 rfl ?_
            refine b_getR dX10_judgeMatrix_133 fk_X10_130 ly_582 gg_582_24 ?_
            refine b_iload dX10_judgeMatrix_136 rfl ?_
            obtain ⟨g8, h⟩ := h
            refine b_iald dX10_judgeMatrix_138 ly_598 g8 ?_
            refine b_bipush dX10_judgeMatrix_139 (by decide) ?_
            obtain ⟨g9, h⟩ := h
            refine b_icmp_eq 185 dX10_judgeMatrix_141 g9 (by decide) (by decide) (fun c4 => ?_) (fun c4 => ?_)
            · have h := ifT c4 h
              refine b_fgt [true, true, true, true, true, false, false, true, true, true, true, true, false] (ls' := [vR 582, vI x1, vI x2, vI x3, vI (if x4 = 0 then 0 else (if (m1 598 (m 591 x11)) = (-9) then 0 else 1 : Int) : Int), vU, vU, vI x7, vI x8, vI x9, vI (x10 + 1), vI x11, vU]) rfl rfl ?_
              exact pl_X10_judgeMatrix_185 hrec hf hK55 (fun _ _ _ _ _ _ _ _ _ _ _ h => ih _ _ _ _ _ _ _ _ _ _ _ h) _ _ _ _ _ _ _ _ _ _ h
            · have h := ifF c4 h
              refine b_aload_n dX10_judgeMatrix_144 rfl ?_
              refine b_getR dX10_judgeMatrix_145 fk_X10_136 ly_582 gg_582_26 ?_
              refine b_iload dX10_judgeMatrix_148 rfl ?_
              refine b_iald dX10_judgeMatrix_150 ly_600 g8 ?_
              obtain ⟨g10, h⟩ := h
              refine b_if_ne 185 dX10_judgeMatrix_151 g10 (by decide) (fun c5 => ?_) (fun c5 => ?_)
              · have h := ifF c5 h
                refine b_fgt [true, true, true, true, true, false, false, true, true, true, true, true, false] (ls' := [vR 582, vI x1, vI x2, vI x3, vI (if x4 = 0 then 0 else (if (m1 598 (m 591 x11)) = (-9) then 0 else 1 : Int) : Int), vU, vU, vI x7, vI x8, vI x9, vI (x10 + 1), vI x11, vU]) rfl rfl ?_
                exact pl_X10_judgeMatrix_185 hrec hf hK55 (fun _ _ _ _ _ _ _ _ _ _ _ h => ih _ _ _ _ _ _ _ _ _ _ _ h) _ _ _ _ _ _ _ _ _ _ h
              · have h := ifT (Decidable.of_not_not c5) h
                refine b_aload_n dX10_judgeMatrix_154 rfl ?_
                refine b_iload dX10_judgeMatrix_155 rfl ?_
                refine b_iload dX10_judgeMatrix_157 rfl ?_
                refine b_iconst dX10_judgeMatrix_159 ?_
                refine b_aload_n dX10_judgeMatrix_160 rfl ?_
                refine b_getR dX10_judgeMatrix_161 fk_X10_130 ly_582 gg_582_24 ?_
                refine b_iload dX10_judgeMatrix_164 rfl ?_
                refine b_iald dX10_judgeMatrix_166 ly_598 g8 ?_
                refine b_aload_n dX10_judgeMatrix_167 rfl ?_
                refine b_getR dX10_judgeMatrix_168 fk_X10_133 ly_582 gg_582_25 ?_
                refine b_iload dX10_judgeMatrix_171 rfl ?_
                refine b_iald dX10_judgeMatrix_173 ly_599 g8 ?_
                refine b_iconst dX10_judgeMatrix_174 ?_
                refine b_cVi (as := [vI x7, vI x8, vI 0, vI (m1 598 (m 591 x11)), vI (m1 599 (m 591 x11)), vI 0]) (st := []) dX10_judgeMatrix_175 mf_X10_joins qs143 lk_X10_456 ly_582 rfl (p_X10_joins (f := 2) (Nat.le_refl _) _ _ _ _ _ _ _ h) (by omega) rfl rfl (Nat.le_of_ble_eq_true rfl) (by decide) rfl (fun _ => rfl) (fun r2 m2 h => ?_) (fun _ h => h)
                obtain ⟨hs, h⟩ := h
                have K : B f M_X10_judgeMatrix 186 [vR 582, vI x1, vI x2, vI x3, vI (if x4 = 0 then 0 else (if (m1 598 (m 591 x11)) = (-9) then 0 else 1 : Int) : Int), vI x5, vU, vI x7, vI x8, vI x9, vI (x10 + 1), vI x11, vI (m 591 x11)] [vI (if r2 = 0 then 0 else 1 : Int)] m2 Q T := by
                  clear hs
                  refine b_istore (ls' := [vR 582, vI x1, vI x2, vI x3, vI (if x4 = 0 then 0 else (if (m1 598 (m 591 x11)) = (-9) then 0 else 1 : Int) : Int), vI (if r2 = 0 then 0 else 1 : Int), vU, vI x7, vI x8, vI x9, vI (x10 + 1), vI x11, vI (m 591 x11)]) dX10_judgeMatrix_186 (Nat.le_of_ble_eq_true rfl) rfl ?_
                  refine b_iload dX10_judgeMatrix_188 rfl ?_
                  obtain ⟨g12, h⟩ := h
                  refine b_if_ne 196 dX10_judgeMatrix_190 g12 (by decide) (fun c6 => ?_) (fun c6 => ?_)
                  · have h := ifF c6 h
                    refine b_aload_n dX10_judgeMatrix_196 rfl ?_
                    refine b_getI dX10_judgeMatrix_197 fk_X10_442 ly_582 ?_
                    refine b_istore (ls' := [vR 582, vI x1, vI x2, vI x3, vI (if x4 = 0 then 0 else (if (m1 598 (m 591 x11)) = (-9) then 0 else 1 : Int) : Int), vI (if r2 = 0 then 0 else 1 : Int), vU, vI (m2 582 65), vI x8, vI x9, vI (x10 + 1), vI x11, vI (m 591 x11)]) dX10_judgeMatrix_200 (Nat.le_of_ble_eq_true rfl) rfl ?_
                    refine b_aload_n dX10_judgeMatrix_202 rfl ?_
                    refine b_getI dX10_judgeMatrix_203 fk_X10_450 ly_582 ?_
                    refine b_istore (ls' := [vR 582, vI x1, vI x2, vI x3, vI (if x4 = 0 then 0 else (if (m1 598 (m 591 x11)) = (-9) then 0 else 1 : Int) : Int), vI (if r2 = 0 then 0 else 1 : Int), vU, vI (m2 582 65), vI (m2 582 66), vI x9, vI (x10 + 1), vI x11, vI (m 591 x11)]) dX10_judgeMatrix_206 (Nat.le_of_ble_eq_true rfl) rfl ?_
                    refine b_fgt [true, true, true, true, true, true, false, true, true, true, true, true, false] (ls' := [vR 582, vI x1, vI x2, vI x3, vI (if x4 = 0 then 0 else (if (m1 598 (m 591 x11)) = (-9) then 0 else 1 : Int) : Int), vI (if r2 = 0 then 0 else 1 : Int), vU, vI (m2 582 65), vI (m2 582 66), vI x9, vI (x10 + 1), vI x11, vU]) rfl rfl ?_
                    exact pl_X10_judgeMatrix_208 hrec hf hK55 (fun _ _ _ _ _ _ _ _ _ _ _ h => ih _ _ _ _ _ _ _ _ _ _ _ h) _ _ _ _ _ _ _ _ _ _ _ h
                  · have h := ifT (Decidable.of_not_not c6) h
                    refine b_goto 208 dX10_judgeMatrix_193 (by decide) ?_
                    refine b_fgt [true, true, true, true, true, true, false, true, true, true, true, true, false] (ls' := [vR 582, vI x1, vI x2, vI x3, vI (if x4 = 0 then 0 else (if (m1 598 (m 591 x11)) = (-9) then 0 else 1 : Int) : Int), vI (if r2 = 0 then 0 else 1 : Int), vU, vI x7, vI x8, vI x9, vI (x10 + 1), vI x11, vU]) rfl rfl ?_
                    exact pl_X10_judgeMatrix_208 hrec hf hK55 (fun _ _ _ _ _ _ _ _ _ _ _ h => ih _ _ _ _ _ _ _ _ _ _ _ h) _ _ _ _ _ _ _ _ _ _ _ h
                have g11 := hs
                refine b_if_eq 185 dX10_judgeMatrix_178 g11 (by decide) (fun c7 => ?_) (fun c7 => ?_)
                ·
                  refine b_iconst dX10_judgeMatrix_185 ?_
                  exact Eq.mp (congrArg (fun z => B f M_X10_judgeMatrix 186 [vR 582, vI x1, vI x2, vI x3, vI (if x4 = 0 then 0 else (if (m1 598 (m 591 x11)) = (-9) then 0 else 1 : Int) : Int), vI x5, vU, vI x7, vI x8, vI x9, vI (x10 + 1), vI x11, vI (m 591 x11)] (vI z :: []) m2 Q T) (show (if r2 = 0 then 0 else 1 : Int) = 0 by rw [if_pos c7])) K
                ·
                  refine b_iconst dX10_judgeMatrix_181 ?_
                  refine b_goto 186 dX10_judgeMatrix_182 (by decide) ?_
                  exact Eq.mp (congrArg (fun z => B f M_X10_judgeMatrix 186 [vR 582, vI x1, vI x2, vI x3, vI (if x4 = 0 then 0 else (if (m1 598 (m 591 x11)) = (-9) then 0 else 1 : Int) : Int), vI x5, vU, vI x7, vI x8, vI x9, vI (x10 + 1), vI x11, vI (m 591 x11)] (vI z :: []) m2 Q T) (show (if r2 = 0 then 0 else 1 : Int) = 1 by rw [if_neg c7])) K
        · have h := ifT (Decidable.of_not_not c2) h
          refine b_goto 208 dX10_judgeMatrix_124 (by decide) ?_
          refine b_fgt [true, true, true, true, true, true, false, true, true, true, true, true, false] (ls' := [vR 582, vI x1, vI x2, vI x3, vI (if x4 = 0 then 0 else (if (m1 598 (m 591 x11)) = (-9) then 0 else 1 : Int) : Int), vI x5, vU, vI x7, vI x8, vI x9, vI (x10 + 1), vI x11, vU]) rfl rfl ?_
          exact pl_X10_judgeMatrix_208 hrec hf hK55 (fun _ _ _ _ _ _ _ _ _ _ _ h => ih _ _ _ _ _ _ _ _ _ _ _ h) _ _ _ _ _ _ _ _ _ _ _ h
      obtain ⟨g3, hs⟩ := hs
      refine b_if_eq 116 dX10_judgeMatrix_97 g3 (by decide) (fun c8 => ?_) (fun c8 => ?_)
      ·
        refine b_iconst dX10_judgeMatrix_116 ?_
        exact Eq.mp (congrArg (fun z => B f M_X10_judgeMatrix 117 [vR 582, vI x1, vI x2, vI x3, vI x4, vI x5, vU, vI x7, vI x8, vI x9, vI (x10 + 1), vI x11, vI (m 591 x11)] (vI z :: []) m1 Q T) (show (if x4 = 0 then 0 else (if (m1 598 (m 591 x11)) = (-9) then 0 else 1 : Int) : Int) = 0 by rw [if_pos c8])) K
      ·
        have hs := ifF c8 hs
        obtain ⟨g4, g5⟩ := hs
        refine b_aload_n dX10_judgeMatrix_100 rfl ?_
        refine b_getR dX10_judgeMatrix_101 fk_X10_130 ly_582 gg_582_24 ?_
        refine b_iload dX10_judgeMatrix_104 rfl ?_
        refine b_iald dX10_judgeMatrix_106 ly_598 g4 ?_
        refine b_bipush dX10_judgeMatrix_107 (by decide) ?_
        refine b_icmp_eq 116 dX10_judgeMatrix_109 g5 (by decide) (by decide) (fun c9 => ?_) (fun c9 => ?_)
        ·
          refine b_iconst dX10_judgeMatrix_116 ?_
          exact Eq.mp (congrArg (fun z => B f M_X10_judgeMatrix 117 [vR 582, vI x1, vI x2, vI x3, vI x4, vI x5, vU, vI x7, vI x8, vI x9, vI (x10 + 1), vI x11, vI (m 591 x11)] (vI z :: []) m1 Q T) (show (if x4 = 0 then 0 else (if (m1 598 (m 591 x11)) = (-9) then 0 else 1 : Int) : Int) = 0 by rw [if_neg c8, if_pos c9])) K
        ·
          refine b_iconst dX10_judgeMatrix_112 ?_
          refine b_goto 117 dX10_judgeMatrix_113 (by decide) ?_
          exact Eq.mp (congrArg (fun z => B f M_X10_judgeMatrix 117 [vR 582, vI x1, vI x2, vI x3, vI x4, vI x5, vU, vI x7, vI x8, vI x9, vI (x10 + 1), vI x11, vI (m 591 x11)] (vI z :: []) m1 Q T) (show (if x4 = 0 then 0 else (if (m1 598 (m 591 x11)) = (-9) then 0 else 1 : Int) : Int) = 1 by rw [if_neg c8, if_neg c9])) K
theorem pl_X10_judgeMatrix_281 {f : Nat} {Q : Int → MM → Prop} {T : MM → Prop} {rec : Nat → List Int → MM → (Int → MM → Prop) → (MM → Prop) → Prop} {fr : Nat} (hrec : HR_X10_judge rec fr) (hf : 24 ≤ f ∧ fr + 1 ≤ f) : ∀ (x1 : Int) (m : MM), P_X10_judgeMatrix_281 rec Q T x1 m → B f M_X10_judgeMatrix 281 [vR 582, vI x1, vU, vU, vU, vU, vU, vU, vU, vU, vU, vU, vU] [] m Q T := by
  intro x1 m h
  have h : P_X10_wrong x1 m (fun r1 m1 => Q 0 m1) := h
  refine b_aload_n dX10_judgeMatrix_281 rfl ?_
  refine b_iload_n dX10_judgeMatrix_282 rfl ?_
  refine b_cVv (as := [vI x1]) (st := []) dX10_judgeMatrix_283 mf_X10_wrong qs146 lk_X10_486 ly_582 rfl (p_X10_wrong (f := 2) (Nat.le_refl _) _ _ h) (by omega) rfl rfl (Nat.le_of_ble_eq_true rfl) (by decide) rfl (fun _ => rfl) (fun r1 m1 h => ?_) (fun _ h => h)
  exact b_vret dX10_judgeMatrix_286 rfl h
theorem pl_X10_judgeMatrix_248 {f : Nat} {Q : Int → MM → Prop} {T : MM → Prop} {rec : Nat → List Int → MM → (Int → MM → Prop) → (MM → Prop) → Prop} {fr : Nat} (hrec : HR_X10_judge rec fr) (hf : 24 ≤ f ∧ fr + 1 ≤ f) : ∀ (x1 : Int) (x2 : Int) (x3 : Int) (x4 : Int) (x5 : Int) (x7 : Int) (x8 : Int) (m : MM), P_X10_judgeMatrix_248 rec Q T x1 x2 x3 x4 x5 x7 x8 m → B f M_X10_judgeMatrix 248 [vR 582, vI x1, vI x2, vI x3, vI x4, vI x5, vU, vI x7, vI x8, vU, vU, vU, vU] [] m Q T := by
  intro x1 x2 x3 x4 x5 x7 x8 m h
  have h : (RI x4) ∧ (if x4 = 0 then Q 0 m else (RI x3) ∧ (if x3 = 0 then P_X10_judgeMatrix_281 rec Q T x1 m else (RI x2) ∧ (if 3 < x2 then P_X10_judgeMatrix_281 rec Q T x1 m else (RI x5) ∧ (if x5 = 0 then P_X10_judgeMatrix_281 rec Q T x1 m else P_X10_setRing x1 x7 x8 x2 m (fun r1 m1 => Q 0 m1))))) := h
  refine b_iload dX10_judgeMatrix_248 rfl ?_
  obtain ⟨g1, h⟩ := h
  refine b_if_ne 254 dX10_judgeMatrix_250 g1 (by decide) (fun c1 => ?_) (fun c1 => ?_)
  · have h := ifF c1 h
    refine b_iload_n dX10_judgeMatrix_254 rfl ?_
    obtain ⟨g2, h⟩ := h
    refine b_if_eq 281 dX10_judgeMatrix_255 g2 (by decide) (fun c2 => ?_) (fun c2 => ?_)
    · have h := ifT c2 h
      refine b_fgt [true, true, false, false, false, false, false, false, false, false, false, false, false] (ls' := [vR 582, vI x1, vU, vU, vU, vU, vU, vU, vU, vU, vU, vU, vU]) rfl rfl ?_
      exact pl_X10_judgeMatrix_281 hrec hf _ _ h
    · have h := ifF c2 h
      refine b_iload_n dX10_judgeMatrix_258 rfl ?_
      refine b_iconst dX10_judgeMatrix_259 ?_
      obtain ⟨g3, h⟩ := h
      refine b_icmp_gt 281 dX10_judgeMatrix_260 g3 (by decide) (by decide) (fun c3 => ?_) (fun c3 => ?_)
      · have h := ifT c3 h
        refine b_fgt [true, true, false, false, false, false, false, false, false, false, false, false, false] (ls' := [vR 582, vI x1, vU, vU, vU, vU, vU, vU, vU, vU, vU, vU, vU]) rfl rfl ?_
        exact pl_X10_judgeMatrix_281 hrec hf _ _ h
      · have h := ifF c3 h
        refine b_iload dX10_judgeMatrix_263 rfl ?_
        obtain ⟨g4, h⟩ := h
        refine b_if_eq 281 dX10_judgeMatrix_265 g4 (by decide) (fun c4 => ?_) (fun c4 => ?_)
        · have h := ifT c4 h
          refine b_fgt [true, true, false, false, false, false, false, false, false, false, false, false, false] (ls' := [vR 582, vI x1, vU, vU, vU, vU, vU, vU, vU, vU, vU, vU, vU]) rfl rfl ?_
          exact pl_X10_judgeMatrix_281 hrec hf _ _ h
        · have h := ifF c4 h
          refine b_aload_n dX10_judgeMatrix_268 rfl ?_
          refine b_iload_n dX10_judgeMatrix_269 rfl ?_
          refine b_iload dX10_judgeMatrix_270 rfl ?_
          refine b_iload dX10_judgeMatrix_272 rfl ?_
          refine b_iload_n dX10_judgeMatrix_274 rfl ?_
          refine b_cVv (as := [vI x1, vI x7, vI x8, vI x2]) (st := []) dX10_judgeMatrix_275 mf_X10_setRing qs128 lk_X10_482 ly_582 rfl (p_X10_setRing (f := 1) (Nat.le_refl _) _ _ _ _ _ h) (by omega) rfl rfl (Nat.le_of_ble_eq_true rfl) (by decide) rfl (fun _ => rfl) (fun r1 m1 h => ?_) (fun _ h => h)
          refine b_goto 286 dX10_judgeMatrix_278 (by decide) ?_
          exact b_vret dX10_judgeMatrix_286 rfl h
  · have h := ifT (Decidable.of_not_not c1) h
    exact b_vret dX10_judgeMatrix_253 rfl h
theorem pl_X10_judgeMatrix_55 {f : Nat} {Q : Int → MM → Prop} {T : MM → Prop} {rec : Nat → List Int → MM → (Int → MM → Prop) → (MM → Prop) → Prop} {fr : Nat} (hrec : HR_X10_judge rec fr) (hf : 24 ≤ f ∧ fr + 1 ≤ f) : ∀ (n : Nat) (x1 : Int) (x2 : Int) (x3 : Int) (x4 : Int) (x5 : Int) (x7 : Int) (x8 : Int) (x9 : Int) (m : MM), P_X10_judgeMatrix_55 rec Q T n x1 x2 x3 x4 x5 x7 x8 x9 m → B f M_X10_judgeMatrix 55 [vR 582, vI x1, vI x2, vI x3, vI x4, vI x5, vU, vI x7, vI x8, vI x9, vU, vU, vU] [] m Q T := by
  intro n
  induction n with
  | zero => intro x1 x2 x3 x4 x5 x7 x8 x9 m h; exact h.elim
  | succ n ih =>
    intro x1 x2 x3 x4 x5 x7 x8 x9 m h
    have h : (RI x9) ∧ (if x9 < 0 then P_X10_judgeMatrix_248 rec Q T x1 x2 x3 x4 x5 x7 x8 m else (0 ≤ x9 ∧ x9 < 12000) ∧ ∃ nn, P_X10_judgeMatrix_72 rec Q T (fun z0 z1 z2 z3 z4 z5 z6 z7 z8 => P_X10_judgeMatrix_55 rec Q T n z0 z1 z2 z3 z4 z5 z6 z7 z8) nn x1 x2 x3 x4 x5 x7 x8 x9 0 (m 591 x9) m) := h
    refine b_iload dX10_judgeMatrix_55 rfl ?_
    obtain ⟨g1, h⟩ := h
    refine b_if_lt 248 dX10_judgeMatrix_57 g1 (by decide) (fun c1 => ?_) (fun c1 => ?_)
    · have h := ifT c1 h
      refine b_fgt [true, true, true, true, true, true, false, true, true, false, false, false, false] (ls' := [vR 582, vI x1, vI x2, vI x3, vI x4, vI x5, vU, vI x7, vI x8, vU, vU, vU, vU]) rfl rfl ?_
      exact pl_X10_judgeMatrix_248 hrec hf _ _ _ _ _ _ _ _ h
    · have h := ifF c1 h
      refine b_iconst dX10_judgeMatrix_60 ?_
      refine b_istore (ls' := [vR 582, vI x1, vI x2, vI x3, vI x4, vI x5, vU, vI x7, vI x8, vI x9, vI 0, vU, vU]) dX10_judgeMatrix_61 (Nat.le_of_ble_eq_true rfl) rfl ?_
      refine b_aload_n dX10_judgeMatrix_63 rfl ?_
      refine b_getR dX10_judgeMatrix_64 fk_X10_109 ly_582 gg_582_17 ?_
      refine b_iload dX10_judgeMatrix_67 rfl ?_
      obtain ⟨g2, h⟩ := h
      refine b_iald dX10_judgeMatrix_69 ly_591 g2 ?_
      refine b_istore (ls' := [vR 582, vI x1, vI x2, vI x3, vI x4, vI x5, vU, vI x7, vI x8, vI x9, vI 0, vI (m 591 x9), vU]) dX10_judgeMatrix_70 (Nat.le_of_ble_eq_true rfl) rfl ?_
      obtain ⟨nn, h⟩ := h
      exact pl_X10_judgeMatrix_72 hrec hf (fun _ _ _ _ _ _ _ _ _ h => ih _ _ _ _ _ _ _ _ _ h) nn _ _ _ _ _ _ _ _ _ _ _ h
theorem pl_X10_judgeMatrix_47 {f : Nat} {Q : Int → MM → Prop} {T : MM → Prop} {rec : Nat → List Int → MM → (Int → MM → Prop) → (MM → Prop) → Prop} {fr : Nat} (hrec : HR_X10_judge rec fr) (hf : 24 ≤ f ∧ fr + 1 ≤ f) : ∀ (x1 : Int) (x2 : Int) (x3 : Int) (x4 : Int) (x5 : Int) (x7 : Int) (x8 : Int) (m : MM), P_X10_judgeMatrix_47 rec Q T x1 x2 x3 x4 x5 x7 x8 m → B f M_X10_judgeMatrix 47 [vR 582, vI x1, vI x2, vI x3, vI x4, vI x5, vU, vI x7, vI x8, vU, vU, vU, vU] [] m Q T := by
  intro x1 x2 x3 x4 x5 x7 x8 m h
  have h : (0 ≤ x1 ∧ x1 < 12000) ∧ ∃ nn, P_X10_judgeMatrix_55 rec Q T nn x1 x2 x3 x4 x5 x7 x8 (m 591 x1) m := h
  refine b_aload_n dX10_judgeMatrix_47 rfl ?_
  refine b_getR dX10_judgeMatrix_48 fk_X10_109 ly_582 gg_582_17 ?_
  refine b_iload_n dX10_judgeMatrix_51 rfl ?_
  obtain ⟨g1, h⟩ := h
  refine b_iald dX10_judgeMatrix_52 ly_591 g1 ?_
  refine b_istore (ls' := [vR 582, vI x1, vI x2, vI x3, vI x4, vI x5, vU, vI x7, vI x8, vI (m 591 x1), vU, vU, vU]) dX10_judgeMatrix_53 (Nat.le_of_ble_eq_true rfl) rfl ?_
  obtain ⟨nn, h⟩ := h
  exact pl_X10_judgeMatrix_55 hrec hf nn _ _ _ _ _ _ _ _ _ h
theorem pl_X10_judgeMatrix_27 {f : Nat} {Q : Int → MM → Prop} {T : MM → Prop} {rec : Nat → List Int → MM → (Int → MM → Prop) → (MM → Prop) → Prop} {fr : Nat} (hrec : HR_X10_judge rec fr) (hf : 24 ≤ f ∧ fr + 1 ≤ f) : ∀ (n : Nat) (x1 : Int) (x2 : Int) (x3 : Int) (x4 : Int) (x5 : Int) (x7 : Int) (x8 : Int) (x9 : Int) (m : MM), P_X10_judgeMatrix_27 rec Q T n x1 x2 x3 x4 x5 x7 x8 x9 m → B f M_X10_judgeMatrix 27 [vR 582, vI x1, vI x2, vI x3, vI x4, vI x5, vU, vI x7, vI x8, vI x9, vU, vU, vU] [] m Q T := by
  intro n
  induction n with
  | zero => intro x1 x2 x3 x4 x5 x7 x8 x9 m h; exact h.elim
  | succ n ih =>
    intro x1 x2 x3 x4 x5 x7 x8 x9 m h
    have h : (RI x9) ∧ (if x9 < 0 then P_X10_judgeMatrix_47 rec Q T x1 x2 x3 x4 x5 x7 x8 m else (0 ≤ x9 ∧ x9 < 12000) ∧ P_X10_judgeMatrix_27 rec Q T n x1 (x2 + 1) x3 x4 x5 x7 x8 (m 594 x9) m) := h
    refine b_iload dX10_judgeMatrix_27 rfl ?_
    obtain ⟨g1, h⟩ := h
    refine b_if_lt 47 dX10_judgeMatrix_29 g1 (by decide) (fun c1 => ?_) (fun c1 => ?_)
    · have h := ifT c1 h
      refine b_fgt [true, true, true, true, true, true, false, true, true, false, false, false, false] (ls' := [vR 582, vI x1, vI x2, vI x3, vI x4, vI x5, vU, vI x7, vI x8, vU, vU, vU, vU]) rfl rfl ?_
      exact pl_X10_judgeMatrix_47 hrec hf _ _ _ _ _ _ _ _ h
    · have h := ifF c1 h
      refine b_iinc (ls' := [vR 582, vI x1, vI (x2 + 1), vI x3, vI x4, vI x5, vU, vI x7, vI x8, vI x9, vU, vU, vU]) dX10_judgeMatrix_32 rfl rfl ?_
      refine b_aload_n dX10_judgeMatrix_35 rfl ?_
      refine b_getR dX10_judgeMatrix_36 fk_X10_118 ly_582 gg_582_20 ?_
      refine b_iload dX10_judgeMatrix_39 rfl ?_
      obtain ⟨g2, h⟩ := h
      refine b_iald dX10_judgeMatrix_41 ly_594 g2 ?_
      refine b_istore (ls' := [vR 582, vI x1, vI (x2 + 1), vI x3, vI x4, vI x5, vU, vI x7, vI x8, vI (m 594 x9), vU, vU, vU]) dX10_judgeMatrix_42 (Nat.le_of_ble_eq_true rfl) rfl ?_
      refine b_goto 27 dX10_judgeMatrix_44 (by decide) ?_
      exact ih _ _ _ _ _ _ _ _ _ h
theorem w_X10_judgeMatrix {f : Nat} {Q : Int → MM → Prop} {T : MM → Prop} {rec : Nat → List Int → MM → (Int → MM → Prop) → (MM → Prop) → Prop} {fr : Nat} (hrec : HR_X10_judge rec fr) (hf : 24 ≤ f ∧ fr + 1 ≤ f) (x1 : Int) (m : MM) (h : W_X10_judgeMatrix rec x1 m Q T) : CC f M_X10_judgeMatrix [vR 582, vI x1] m Q T := by
  refine CC.of (plainFor_of_name (by decide)) (Nat.le_of_ble_eq_true rfl) (ls := [vR 582, vI x1, vU, vU, vU, vU, vU, vU, vU, vU, vU, vU, vU]) rfl ?_
  have h : (0 ≤ x1 ∧ x1 < 12000) ∧ ∃ nn, P_X10_judgeMatrix_27 rec Q T nn x1 0 1 1 1 0 0 (m 591 x1) m := h
  refine b_iconst dX10_judgeMatrix_0 ?_
  refine b_istore_n (ls' := [vR 582, vI x1, vI 0, vU, vU, vU, vU, vU, vU, vU, vU, vU, vU]) dX10_judgeMatrix_1 (Nat.le_of_ble_eq_true rfl) rfl ?_
  refine b_iconst dX10_judgeMatrix_2 ?_
  refine b_istore_n (ls' := [vR 582, vI x1, vI 0, vI 1, vU, vU, vU, vU, vU, vU, vU, vU, vU]) dX10_judgeMatrix_3 (Nat.le_of_ble_eq_true rfl) rfl ?_
  refine b_iconst dX10_judgeMatrix_4 ?_
  refine b_istore (ls' := [vR 582, vI x1, vI 0, vI 1, vI 1, vU, vU, vU, vU, vU, vU, vU, vU]) dX10_judgeMatrix_5 (Nat.le_of_ble_eq_true rfl) rfl ?_
  refine b_iconst dX10_judgeMatrix_7 ?_
  refine b_istore (ls' := [vR 582, vI x1, vI 0, vI 1, vI 1, vI 1, vU, vU, vU, vU, vU, vU, vU]) dX10_judgeMatrix_8 (Nat.le_of_ble_eq_true rfl) rfl ?_
  refine b_iconst dX10_judgeMatrix_10 ?_
  refine b_istore (ls' := [vR 582, vI x1, vI 0, vI 1, vI 1, vI 1, vI (-1), vU, vU, vU, vU, vU, vU]) dX10_judgeMatrix_11 (Nat.le_of_ble_eq_true rfl) rfl ?_
  refine b_iconst dX10_judgeMatrix_13 ?_
  refine b_istore (ls' := [vR 582, vI x1, vI 0, vI 1, vI 1, vI 1, vI (-1), vI 0, vU, vU, vU, vU, vU]) dX10_judgeMatrix_14 (Nat.le_of_ble_eq_true rfl) rfl ?_
  refine b_iconst dX10_judgeMatrix_16 ?_
  refine b_istore (ls' := [vR 582, vI x1, vI 0, vI 1, vI 1, vI 1, vI (-1), vI 0, vI 0, vU, vU, vU, vU]) dX10_judgeMatrix_17 (Nat.le_of_ble_eq_true rfl) rfl ?_
  refine b_aload_n dX10_judgeMatrix_19 rfl ?_
  refine b_getR dX10_judgeMatrix_20 fk_X10_109 ly_582 gg_582_17 ?_
  refine b_iload_n dX10_judgeMatrix_23 rfl ?_
  obtain ⟨g1, h⟩ := h
  refine b_iald dX10_judgeMatrix_24 ly_591 g1 ?_
  refine b_istore (ls' := [vR 582, vI x1, vI 0, vI 1, vI 1, vI 1, vI (-1), vI 0, vI 0, vI (m 591 x1), vU, vU, vU]) dX10_judgeMatrix_25 (Nat.le_of_ble_eq_true rfl) rfl ?_
  refine b_fgt [true, true, true, true, true, true, false, true, true, true, false, false, false] (ls' := [vR 582, vI x1, vI 0, vI 1, vI 1, vI 1, vU, vI 0, vI 0, vI (m 591 x1), vU, vU, vU]) rfl rfl ?_
  obtain ⟨nn, h⟩ := h
  exact pl_X10_judgeMatrix_27 hrec hf nn _ _ _ _ _ _ _ _ _ h
theorem pl_X10_judgePart_159 {f : Nat} {Q : Int → MM → Prop} {T : MM → Prop} {rec : Nat → List Int → MM → (Int → MM → Prop) → (MM → Prop) → Prop} {fr : Nat} (hrec : HR_X10_judge rec fr) (hf : 24 ≤ f ∧ fr + 1 ≤ f) : ∀ (x1 : Int) (m : MM), P_X10_judgePart_159 rec Q T x1 m → B f M_X10_judgePart 159 [vR 582, vI x1] [] m Q T := by
  intro x1 m h
  have h : (0 ≤ x1 ∧ x1 < 12000) ∧ P_X10_note 3 (m 595 x1) m (fun r1 m1 => Q 0 m1) := h
  refine b_aload_n dX10_judgePart_159 rfl ?_
  refine b_iconst dX10_judgePart_160 ?_
  refine b_aload_n dX10_judgePart_161 rfl ?_
  refine b_getR dX10_judgePart_162 fk_X10_121 ly_582 gg_582_21 ?_
  refine b_iload_n dX10_judgePart_165 rfl ?_
  obtain ⟨g1, h⟩ := h
  refine b_iald dX10_judgePart_166 ly_595 g1 ?_
  refine b_cVv (as := [vI 3, vI (m 595 x1)]) (st := []) dX10_judgePart_167 mf_X10_note qs129 lk_X10_472 ly_582 rfl (p_X10_note (f := 1) (Nat.le_refl _) _ _ _ h) (by omega) rfl rfl (Nat.le_of_ble_eq_true rfl) (by decide) rfl (fun _ => rfl) (fun r1 m1 h => ?_) (fun _ h => h)
  refine b_goto 537 dX10_judgePart_170 (by decide) ?_
  exact b_vret dX10_judgePart_537 rfl h
theorem pl_X10_judgePart_395 {f : Nat} {Q : Int → MM → Prop} {T : MM → Prop} {rec : Nat → List Int → MM → (Int → MM → Prop) → (MM → Prop) → Prop} {fr : Nat} (hrec : HR_X10_judge rec fr) (hf : 24 ≤ f ∧ fr + 1 ≤ f) : ∀ (x1 : Int) (m : MM), P_X10_judgePart_395 rec Q T x1 m → B f M_X10_judgePart 395 [vR 582, vI x1] [] m Q T := by
  intro x1 m h
  have h : P_X10_wrong x1 m (fun r1 m1 => Q 0 m1) := h
  refine b_aload_n dX10_judgePart_395 rfl ?_
  refine b_iload_n dX10_judgePart_396 rfl ?_
  refine b_cVv (as := [vI x1]) (st := []) dX10_judgePart_397 mf_X10_wrong qs146 lk_X10_486 ly_582 rfl (p_X10_wrong (f := 2) (Nat.le_refl _) _ _ h) (by omega) rfl rfl (Nat.le_of_ble_eq_true rfl) (by decide) rfl (fun _ => rfl) (fun r1 m1 h => ?_) (fun _ h => h)
  refine b_goto 537 dX10_judgePart_400 (by decide) ?_
  exact b_vret dX10_judgePart_537 rfl h
theorem w_X10_judgePart {f : Nat} {Q : Int → MM → Prop} {T : MM → Prop} {rec : Nat → List Int → MM → (Int → MM → Prop) → (MM → Prop) → Prop} {fr : Nat} (hrec : HR_X10_judge rec fr) (hf : 24 ≤ f ∧ fr + 1 ≤ f) (x1 : Int) (m : MM) (h : W_X10_judgePart rec x1 m Q T) : CC f M_X10_judgePart [vR 582, vI x1] m Q T := by
  refine CC.of (plainFor_of_name (by decide)) (Nat.le_of_ble_eq_true rfl) (ls := [vR 582, vI x1]) rfl ?_
  have h : (0 ≤ x1 ∧ x1 < 12000) ∧ ∀ m1 : MM, m1 = up m 598 x1 (-9) → ((RI (m1 590 x1))) ∧ ∀ m2 : MM, m2 = up m1 597 x1 (if (m1 590 x1) = 4 then (-1) else (m1 597 x1) : Int) → (RI (m2 590 x1)) ∧ (if (m2 590 x1) = 0 then P_X10_setRing x1 0 0 0 m2 (fun r1 m3 => Q 0 m3) else (if (m2 590 x1) = 1 then P_X10_setRing x1 0 1 0 m2 (fun r2 m4 => Q 0 m4) else (if (m2 590 x1) = 2 then P_X10_setRing x1 0 2 0 m2 (fun r3 m5 => Q 0 m5) else (if (m2 590 x1) = 3 then ∀ m6 : MM, m6 = up m2 598 x1 (-9) → (RI (m6 582 61)) ∧ (if 0 ≤ (m6 582 61) then P_X10_judgePart_159 rec Q T x1 m6 else (RI (m6 582 34)) ∧ (RL (m6 605 x1)) ∧ (RL (m6 582 34)) ∧ (if (m6 605 x1) < (m6 582 34) then ∀ m7 : MM, m7 = up m6 597 x1 (m6 605 x1) → (0 ≤ (m7 597 x1) ∧ (m7 597 x1) < 200) ∧ P_X10_setRing x1 (m7 626 (m7 597 x1)) (m7 627 (m7 597 x1)) (m7 628 (m7 597 x1)) m7 (fun r4 m8 => Q 0 m8) else P_X10_judgePart_159 rec Q T x1 m6)) else (if (m2 590 x1) = 4 then P_X10_judgeName x1 m2 (fun r5 m9 => Q 0 m9) else (if (m2 590 x1) = 5 then rec 2 [x1] m2 (fun r6 m10 => Q 0 m10) T else (if (m2 590 x1) = 6 then rec 1 [x1] m2 (fun r7 m11 => Q 0 m11) T else (if (m2 590 x1) = 7 then rec 4 [x1] m2 (fun r8 m12 => Q 0 m12) T else (if (m2 590 x1) = 8 then rec 0 [(m2 591 x1)] m2 (fun r9 m13 => rec 0 [(m13 592 x1)] m13 (fun r10 m14 => rec 0 [(m14 593 x1)] m14 (fun r11 m15 => (0 ≤ (m15 591 x1) ∧ (m15 591 x1) < 12000) ∧ (RI (m15 598 (m15 591 x1))) ∧ (if (m15 598 (m15 591 x1)) = (-9) then Q 0 m15 else (0 ≤ (m15 592 x1) ∧ (m15 592 x1) < 12000) ∧ (RI (m15 598 (m15 592 x1))) ∧ (if (m15 598 (m15 592 x1)) = (-9) then Q 0 m15 else (0 ≤ (m15 593 x1) ∧ (m15 593 x1) < 12000) ∧ (RI (m15 598 (m15 593 x1))) ∧ (if (m15 598 (m15 593 x1)) = (-9) then Q 0 m15 else (if (m15 598 (m15 591 x1)) = (-2) then P_X10_joinsParts (m15 592 x1) (m15 593 x1) m15 (fun r12 m16 => (RI r12) ∧ (if r12 = 0 then P_X10_judgePart_395 rec Q T x1 m16 else P_X10_setRing x1 (m16 582 65) (m16 582 66) (m16 582 67) m16 (fun r13 m17 => Q 0 m17))) else P_X10_judgePart_395 rec Q T x1 m15))))) T) T) T else (if (m2 590 x1) = 9 then rec 0 [(m2 591 x1)] m2 (fun r14 m18 => (0 ≤ (m18 591 x1) ∧ (m18 591 x1) < 12000) ∧ (RI (m18 598 (m18 591 x1))) ∧ (if (m18 598 (m18 591 x1)) = (-2) then P_X10_setRing x1 (-2) 0 0 m18 (fun r16 m20 => Q 0 m20) else (if (m18 598 (m18 591 x1)) = (-9) then Q 0 m18 else P_X10_wrong x1 m18 (fun r15 m19 => Q 0 m19)))) T else rec 0 [(m2 591 x1)] m2 (fun r17 m21 => (0 ≤ (m21 591 x1) ∧ (m21 591 x1) < 12000) ∧ (RI (m21 598 (m21 591 x1))) ∧ (if (m21 598 (m21 591 x1)) = (-2) then P_X10_wrong x1 m21 (fun r19 m23 => Q 0 m23) else P_X10_setRing x1 (m21 598 (m21 591 x1)) (m21 599 (m21 591 x1)) (m21 600 (m21 591 x1)) m21 (fun r18 m22 => Q 0 m22))) T)))))))))) := h
  refine b_aload_n dX10_judgePart_0 rfl ?_
  refine b_getR dX10_judgePart_1 fk_X10_130 ly_582 gg_582_24 ?_
  refine b_iload_n dX10_judgePart_4 rfl ?_
  refine b_bipush dX10_judgePart_5 (by decide) ?_
  obtain ⟨g1, h⟩ := h
  refine b_iast dX10_judgePart_7 ly_598 g1 (fun m1 em1 => ?_)
  have h := h m1 em1
  refine b_aload_n dX10_judgePart_8 rfl ?_
  refine b_getR dX10_judgePart_9 fk_X10_127 ly_582 gg_582_23 ?_
  refine b_iload_n dX10_judgePart_12 rfl ?_
  refine b_aload_n dX10_judgePart_13 rfl ?_
  refine b_getR dX10_judgePart_14 fk_X10_106 ly_582 gg_582_16 ?_
  refine b_iload_n dX10_judgePart_17 rfl ?_
  refine b_iald dX10_judgePart_18 ly_590 g1 ?_
  refine b_iconst dX10_judgePart_19 ?_
  obtain ⟨hs, h⟩ := h
  have K : B f M_X10_judgePart 33 [vR 582, vI x1] [vI (if (m1 590 x1) = 4 then (-1) else (m1 597 x1) : Int), vI x1, vR 597] m1 Q T := by
    clear hs
    refine b_iast dX10_judgePart_33 ly_597 g1 (fun m2 em2 => ?_)
    have h := h m2 em2
    refine b_aload_n dX10_judgePart_34 rfl ?_
    refine b_getR dX10_judgePart_35 fk_X10_106 ly_582 gg_582_16 ?_
    refine b_iload_n dX10_judgePart_38 rfl ?_
    refine b_iald dX10_judgePart_39 ly_590 g1 ?_
    obtain ⟨g3, h⟩ := h
    by_cases c1 : (m2 590 x1) = 0
    · have h := ifT c1 h
      refine b_tswIn 96 dX10_judgePart_40 g3 (by omega) (by omega) (by rw [c1]; rfl) (by decide) ?_
      refine b_aload_n dX10_judgePart_96 rfl ?_
      refine b_iload_n dX10_judgePart_97 rfl ?_
      refine b_iconst dX10_judgePart_98 ?_
      refine b_iconst dX10_judgePart_99 ?_
      refine b_iconst dX10_judgePart_100 ?_
      refine b_cVv (as := [vI x1, vI 0, vI 0, vI 0]) (st := []) dX10_judgePart_101 mf_X10_setRing qs128 lk_X10_482 ly_582 rfl (p_X10_setRing (f := 1) (Nat.le_refl _) _ _ _ _ _ h) (by omega) rfl rfl (Nat.le_of_ble_eq_true rfl) (by decide) rfl (fun _ => rfl) (fun r1 m3 h => ?_) (fun _ h => h)
      refine b_goto 537 dX10_judgePart_104 (by decide) ?_
      exact b_vret dX10_judgePart_537 rfl h
    have h := ifF c1 h
    by_cases c2 : (m2 590 x1) = 1
    · have h := ifT c2 h
      refine b_tswIn 107 dX10_judgePart_40 g3 (by omega) (by omega) (by rw [c2]; rfl) (by decide) ?_
      refine b_aload_n dX10_judgePart_107 rfl ?_
      refine b_iload_n dX10_judgePart_108 rfl ?_
      refine b_iconst dX10_judgePart_109 ?_
      refine b_iconst dX10_judgePart_110 ?_
      refine b_iconst dX10_judgePart_111 ?_
      refine b_cVv (as := [vI x1, vI 0, vI 1, vI 0]) (st := []) dX10_judgePart_112 mf_X10_setRing qs128 lk_X10_482 ly_582 rfl (p_X10_setRing (f := 1) (Nat.le_refl _) _ _ _ _ _ h) (by omega) rfl rfl (Nat.le_of_ble_eq_true rfl) (by decide) rfl (fun _ => rfl) (fun r2 m4 h => ?_) (fun _ h => h)
      refine b_goto 537 dX10_judgePart_115 (by decide) ?_
      exact b_vret dX10_judgePart_537 rfl h
    have h := ifF c2 h
    by_cases c3 : (m2 590 x1) = 2
    · have h := ifT c3 h
      refine b_tswIn 118 dX10_judgePart_40 g3 (by omega) (by omega) (by rw [c3]; rfl) (by decide) ?_
      refine b_aload_n dX10_judgePart_118 rfl ?_
      refine b_iload_n dX10_judgePart_119 rfl ?_
      refine b_iconst dX10_judgePart_120 ?_
      refine b_iconst dX10_judgePart_121 ?_
      refine b_iconst dX10_judgePart_122 ?_
      refine b_cVv (as := [vI x1, vI 0, vI 2, vI 0]) (st := []) dX10_judgePart_123 mf_X10_setRing qs128 lk_X10_482 ly_582 rfl (p_X10_setRing (f := 1) (Nat.le_refl _) _ _ _ _ _ h) (by omega) rfl rfl (Nat.le_of_ble_eq_true rfl) (by decide) rfl (fun _ => rfl) (fun r3 m5 h => ?_) (fun _ h => h)
      refine b_goto 537 dX10_judgePart_126 (by decide) ?_
      exact b_vret dX10_judgePart_537 rfl h
    have h := ifF c3 h
    by_cases c4 : (m2 590 x1) = 3
    · have h := ifT c4 h
      refine b_tswIn 129 dX10_judgePart_40 g3 (by omega) (by omega) (by rw [c4]; rfl) (by decide) ?_
      refine b_aload_n dX10_judgePart_129 rfl ?_
      refine b_getR dX10_judgePart_130 fk_X10_130 ly_582 gg_582_24 ?_
      refine b_iload_n dX10_judgePart_133 rfl ?_
      refine b_bipush dX10_judgePart_134 (by decide) ?_
      refine b_iast dX10_judgePart_136 ly_598 g1 (fun m6 em6 => ?_)
      have h := h m6 em6
      refine b_aload_n dX10_judgePart_137 rfl ?_
      refine b_getI dX10_judgePart_138 fk_X10_231 ly_582 ?_
      obtain ⟨g4, h⟩ := h
      refine b_if_ge 159 dX10_judgePart_141 g4 (by decide) (fun c5 => ?_) (fun c5 => ?_)
      · have h := ifT c5 h
        exact pl_X10_judgePart_159 hrec hf _ _ h
      · have h := ifF c5 h
        refine b_aload_n dX10_judgePart_144 rfl ?_
        refine b_getR dX10_judgePart_145 fk_X10_152 ly_582 gg_582_31 ?_
        refine b_iload_n dX10_judgePart_148 rfl ?_
        refine b_lald dX10_judgePart_149 ly_605 g1 ?_
        refine b_aload_n dX10_judgePart_150 rfl ?_
        refine b_getI dX10_judgePart_151 fk_X10_523 ly_582 ?_
        obtain ⟨g5, h⟩ := h
        refine b_i2l dX10_judgePart_154 g5 ?_
        obtain ⟨g6, h⟩ := h
        obtain ⟨g7, h⟩ := h
        refine b_lc_lt 173 dX10_judgePart_155 dX10_judgePart_156 g6 g7 (by decide) (fun c6 => ?_) (fun c6 => ?_)
        · have h := ifT c6 h
          refine b_aload_n dX10_judgePart_173 rfl ?_
          refine b_getR dX10_judgePart_174 fk_X10_127 ly_582 gg_582_23 ?_
          refine b_iload_n dX10_judgePart_177 rfl ?_
          refine b_aload_n dX10_judgePart_178 rfl ?_
          refine b_getR dX10_judgePart_179 fk_X10_152 ly_582 gg_582_31 ?_
          refine b_iload_n dX10_judgePart_182 rfl ?_
          refine b_lald dX10_judgePart_183 ly_605 g1 ?_
          refine b_l2i dX10_judgePart_184 ?_
          refine b_iast dX10_judgePart_185 ly_597 g1 (fun m7 em7 => ?_)
          have h := h m7 em7
          refine b_aload_n dX10_judgePart_186 rfl ?_
          refine b_iload_n dX10_judgePart_187 rfl ?_
          refine b_aload_n dX10_judgePart_188 rfl ?_
          refine b_getR dX10_judgePart_189 fk_X10_215 ly_582 gg_582_55 ?_
          refine b_aload_n dX10_judgePart_192 rfl ?_
          refine b_getR dX10_judgePart_193 fk_X10_127 ly_582 gg_582_23 ?_
          refine b_iload_n dX10_judgePart_196 rfl ?_
          refine b_iald dX10_judgePart_197 ly_597 g1 ?_
          obtain ⟨g8, h⟩ := h
          refine b_iald dX10_judgePart_198 ly_626 g8 ?_
          refine b_aload_n dX10_judgePart_199 rfl ?_
          refine b_getR dX10_judgePart_200 fk_X10_218 ly_582 gg_582_56 ?_
          refine b_aload_n dX10_judgePart_203 rfl ?_
          refine b_getR dX10_judgePart_204 fk_X10_127 ly_582 gg_582_23 ?_
          refine b_iload_n dX10_judgePart_207 rfl ?_
          refine b_iald dX10_judgePart_208 ly_597 g1 ?_
          refine b_iald dX10_judgePart_209 ly_627 g8 ?_
          refine b_aload_n dX10_judgePart_210 rfl ?_
          refine b_getR dX10_judgePart_211 fk_X10_221 ly_582 gg_582_57 ?_
          refine b_aload_n dX10_judgePart_214 rfl ?_
          refine b_getR dX10_judgePart_215 fk_X10_127 ly_582 gg_582_23 ?_
          refine b_iload_n dX10_judgePart_218 rfl ?_
          refine b_iald dX10_judgePart_219 ly_597 g1 ?_
          refine b_iald dX10_judgePart_220 ly_628 g8 ?_
          refine b_cVv (as := [vI x1, vI (m7 626 (m7 597 x1)), vI (m7 627 (m7 597 x1)), vI (m7 628 (m7 597 x1))]) (st := []) dX10_judgePart_221 mf_X10_setRing qs128 lk_X10_482 ly_582 rfl (p_X10_setRing (f := 1) (Nat.le_refl _) _ _ _ _ _ h) (by omega) rfl rfl (Nat.le_of_ble_eq_true rfl) (by decide) rfl (fun _ => rfl) (fun r4 m8 h => ?_) (fun _ h => h)
          refine b_goto 537 dX10_judgePart_224 (by decide) ?_
          exact b_vret dX10_judgePart_537 rfl h
        · have h := ifF c6 h
          exact pl_X10_judgePart_159 hrec hf _ _ h
    have h := ifF c4 h
    by_cases c7 : (m2 590 x1) = 4
    · have h := ifT c7 h
      refine b_tswIn 227 dX10_judgePart_40 g3 (by omega) (by omega) (by rw [c7]; rfl) (by decide) ?_
      refine b_aload_n dX10_judgePart_227 rfl ?_
      refine b_iload_n dX10_judgePart_228 rfl ?_
      refine b_cVv (as := [vI x1]) (st := []) dX10_judgePart_229 mf_X10_judgeName qs136 lk_X10_526 ly_582 rfl (p_X10_judgeName (f := 2) (Nat.le_refl _) _ _ h) (by omega) rfl rfl (Nat.le_of_ble_eq_true rfl) (by decide) rfl (fun _ => rfl) (fun r5 m9 h => ?_) (fun _ h => h)
      refine b_goto 537 dX10_judgePart_232 (by decide) ?_
      exact b_vret dX10_judgePart_537 rfl h
    have h := ifF c7 h
    by_cases c8 : (m2 590 x1) = 5
    · have h := ifT c8 h
      refine b_tswIn 235 dX10_judgePart_40 g3 (by omega) (by omega) (by rw [c8]; rfl) (by decide) ?_
      refine b_aload_n dX10_judgePart_235 rfl ?_
      refine b_iload_n dX10_judgePart_236 rfl ?_
      refine b_cVv (as := [vI x1]) (st := []) dX10_judgePart_237 mf_X10_judgeCall qs139 lk_X10_529 ly_582 rfl (hrec.2.2.1 _ _ _ _ h) (by omega) rfl rfl (Nat.le_of_ble_eq_true rfl) (by decide) rfl (fun _ => rfl) (fun r6 m10 h => ?_) (fun _ h => h)
      refine b_goto 537 dX10_judgePart_240 (by decide) ?_
      exact b_vret dX10_judgePart_537 rfl h
    have h := ifF c8 h
    by_cases c9 : (m2 590 x1) = 6
    · have h := ifT c9 h
      refine b_tswIn 243 dX10_judgePart_40 g3 (by omega) (by omega) (by rw [c9]; rfl) (by decide) ?_
      refine b_aload_n dX10_judgePart_243 rfl ?_
      refine b_iload_n dX10_judgePart_244 rfl ?_
      refine b_cVv (as := [vI x1]) (st := []) dX10_judgePart_245 mf_X10_judgeBuilt qs147 lk_X10_532 ly_582 rfl (hrec.2.1 _ _ _ _ h) (by omega) rfl rfl (Nat.le_of_ble_eq_true rfl) (by decide) rfl (fun _ => rfl) (fun r7 m11 h => ?_) (fun _ h => h)
      refine b_goto 537 dX10_judgePart_248 (by decide) ?_
      exact b_vret dX10_judgePart_537 rfl h
    have h := ifF c9 h
    by_cases c10 : (m2 590 x1) = 7
    · have h := ifT c10 h
      refine b_tswIn 251 dX10_judgePart_40 g3 (by omega) (by omega) (by rw [c10]; rfl) (by decide) ?_
      refine b_aload_n dX10_judgePart_251 rfl ?_
      refine b_iload_n dX10_judgePart_252 rfl ?_
      refine b_cVv (as := [vI x1]) (st := []) dX10_judgePart_253 mf_X10_judgeMatrix qs151 lk_X10_535 ly_582 rfl (hrec.2.2.2.2.1 _ _ _ _ h) (by omega) rfl rfl (Nat.le_of_ble_eq_true rfl) (by decide) rfl (fun _ => rfl) (fun r8 m12 h => ?_) (fun _ h => h)
      refine b_goto 537 dX10_judgePart_256 (by decide) ?_
      exact b_vret dX10_judgePart_537 rfl h
    have h := ifF c10 h
    by_cases c11 : (m2 590 x1) = 8
    · have h := ifT c11 h
      refine b_tswIn 259 dX10_judgePart_40 g3 (by omega) (by omega) (by rw [c11]; rfl) (by decide) ?_
      refine b_aload_n dX10_judgePart_259 rfl ?_
      refine b_aload_n dX10_judgePart_260 rfl ?_
      refine b_getR dX10_judgePart_261 fk_X10_109 ly_582 gg_582_17 ?_
      refine b_iload_n dX10_judgePart_264 rfl ?_
      refine b_iald dX10_judgePart_265 ly_591 g1 ?_
      refine b_cVv (as := [vI (m2 591 x1)]) (st := []) dX10_judgePart_266 mf_X10_judge qs134 lk_X10_476 ly_582 rfl (hrec.1 _ _ _ _ h) (by omega) rfl rfl (Nat.le_of_ble_eq_true rfl) (by decide) rfl (fun _ => rfl) (fun r9 m13 h => ?_) (fun _ h => h)
      refine b_aload_n dX10_judgePart_269 rfl ?_
      refine b_aload_n dX10_judgePart_270 rfl ?_
      refine b_getR dX10_judgePart_271 fk_X10_112 ly_582 gg_582_18 ?_
      refine b_iload_n dX10_judgePart_274 rfl ?_
      refine b_iald dX10_judgePart_275 ly_592 g1 ?_
      refine b_cVv (as := [vI (m13 592 x1)]) (st := []) dX10_judgePart_276 mf_X10_judge qs134 lk_X10_476 ly_582 rfl (hrec.1 _ _ _ _ h) (by omega) rfl rfl (Nat.le_of_ble_eq_true rfl) (by decide) rfl (fun _ => rfl) (fun r10 m14 h => ?_) (fun _ h => h)
      refine b_aload_n dX10_judgePart_279 rfl ?_
      refine b_aload_n dX10_judgePart_280 rfl ?_
      refine b_getR dX10_judgePart_281 fk_X10_115 ly_582 gg_582_19 ?_
      refine b_iload_n dX10_judgePart_284 rfl ?_
      refine b_iald dX10_judgePart_285 ly_593 g1 ?_
      refine b_cVv (as := [vI (m14 593 x1)]) (st := []) dX10_judgePart_286 mf_X10_judge qs134 lk_X10_476 ly_582 rfl (hrec.1 _ _ _ _ h) (by omega) rfl rfl (Nat.le_of_ble_eq_true rfl) (by decide) rfl (fun _ => rfl) (fun r11 m15 h => ?_) (fun _ h => h)
      refine b_aload_n dX10_judgePart_289 rfl ?_
      refine b_getR dX10_judgePart_290 fk_X10_130 ly_582 gg_582_24 ?_
      refine b_aload_n dX10_judgePart_293 rfl ?_
      refine b_getR dX10_judgePart_294 fk_X10_109 ly_582 gg_582_17 ?_
      refine b_iload_n dX10_judgePart_297 rfl ?_
      refine b_iald dX10_judgePart_298 ly_591 g1 ?_
      obtain ⟨g9, h⟩ := h
      refine b_iald dX10_judgePart_299 ly_598 g9 ?_
      refine b_bipush dX10_judgePart_300 (by decide) ?_
      obtain ⟨g10, h⟩ := h
      refine b_icmp_eq 537 dX10_judgePart_302 g10 (by decide) (by decide) (fun c12 => ?_) (fun c12 => ?_)
      · have h := ifT c12 h
        exact b_vret dX10_judgePart_537 rfl h
      · have h := ifF c12 h
        refine b_aload_n dX10_judgePart_305 rfl ?_
        refine b_getR dX10_judgePart_306 fk_X10_130 ly_582 gg_582_24 ?_
        refine b_aload_n dX10_judgePart_309 rfl ?_
        refine b_getR dX10_judgePart_310 fk_X10_112 ly_582 gg_582_18 ?_
        refine b_iload_n dX10_judgePart_313 rfl ?_
        refine b_iald dX10_judgePart_314 ly_592 g1 ?_
        obtain ⟨g11, h⟩ := h
        refine b_iald dX10_judgePart_315 ly_598 g11 ?_
        refine b_bipush dX10_judgePart_316 (by decide) ?_
        obtain ⟨g12, h⟩ := h
        refine b_icmp_eq 537 dX10_judgePart_318 g12 (by decide) (by decide) (fun c13 => ?_) (fun c13 => ?_)
        · have h := ifT c13 h
          exact b_vret dX10_judgePart_537 rfl h
        · have h := ifF c13 h
          refine b_aload_n dX10_judgePart_321 rfl ?_
          refine b_getR dX10_judgePart_322 fk_X10_130 ly_582 gg_582_24 ?_
          refine b_aload_n dX10_judgePart_325 rfl ?_
          refine b_getR dX10_judgePart_326 fk_X10_115 ly_582 gg_582_19 ?_
          refine b_iload_n dX10_judgePart_329 rfl ?_
          refine b_iald dX10_judgePart_330 ly_593 g1 ?_
          obtain ⟨g13, h⟩ := h
          refine b_iald dX10_judgePart_331 ly_598 g13 ?_
          refine b_bipush dX10_judgePart_332 (by decide) ?_
          obtain ⟨g14, h⟩ := h
          refine b_icmp_ne 340 dX10_judgePart_334 g14 (by decide) (by decide) (fun c14 => ?_) (fun c14 => ?_)
          · have h := ifF c14 h
            refine b_aload_n dX10_judgePart_340 rfl ?_
            refine b_getR dX10_judgePart_341 fk_X10_130 ly_582 gg_582_24 ?_
            refine b_aload_n dX10_judgePart_344 rfl ?_
            refine b_getR dX10_judgePart_345 fk_X10_109 ly_582 gg_582_17 ?_
            refine b_iload_n dX10_judgePart_348 rfl ?_
            refine b_iald dX10_judgePart_349 ly_591 g1 ?_
            refine b_iald dX10_judgePart_350 ly_598 g9 ?_
            refine b_bipush dX10_judgePart_351 (by decide) ?_
            refine b_icmp_ne 395 dX10_judgePart_353 g10 (by decide) (by decide) (fun c15 => ?_) (fun c15 => ?_)
            · have h := ifF c15 h
              exact pl_X10_judgePart_395 hrec hf _ _ h
            · have h := ifT (Decidable.of_not_not c15) h
              refine b_aload_n dX10_judgePart_356 rfl ?_
              refine b_aload_n dX10_judgePart_357 rfl ?_
              refine b_getR dX10_judgePart_358 fk_X10_112 ly_582 gg_582_18 ?_
              refine b_iload_n dX10_judgePart_361 rfl ?_
              refine b_iald dX10_judgePart_362 ly_592 g1 ?_
              refine b_aload_n dX10_judgePart_363 rfl ?_
              refine b_getR dX10_judgePart_364 fk_X10_115 ly_582 gg_582_19 ?_
              refine b_iload_n dX10_judgePart_367 rfl ?_
              refine b_iald dX10_judgePart_368 ly_593 g1 ?_
              refine b_cVi (as := [vI (m15 592 x1), vI (m15 593 x1)]) (st := []) dX10_judgePart_369 mf_X10_joinsParts qs148 lk_X10_489 ly_582 rfl (p_X10_joinsParts (f := 3) (Nat.le_refl _) _ _ _ h) (by omega) rfl rfl (Nat.le_of_ble_eq_true rfl) (by decide) rfl (fun _ => rfl) (fun r12 m16 h => ?_) (fun _ h => h)
              obtain ⟨g15, h⟩ := h
              refine b_if_eq 395 dX10_judgePart_372 g15 (by decide) (fun c16 => ?_) (fun c16 => ?_)
              · have h := ifT c16 h
                exact pl_X10_judgePart_395 hrec hf _ _ h
              · have h := ifF c16 h
                refine b_aload_n dX10_judgePart_375 rfl ?_
                refine b_iload_n dX10_judgePart_376 rfl ?_
                refine b_aload_n dX10_judgePart_377 rfl ?_
                refine b_getI dX10_judgePart_378 fk_X10_442 ly_582 ?_
                refine b_aload_n dX10_judgePart_381 rfl ?_
                refine b_getI dX10_judgePart_382 fk_X10_450 ly_582 ?_
                refine b_aload_n dX10_judgePart_385 rfl ?_
                refine b_getI dX10_judgePart_386 fk_X10_453 ly_582 ?_
                refine b_cVv (as := [vI x1, vI (m16 582 65), vI (m16 582 66), vI (m16 582 67)]) (st := []) dX10_judgePart_389 mf_X10_setRing qs128 lk_X10_482 ly_582 rfl (p_X10_setRing (f := 1) (Nat.le_refl _) _ _ _ _ _ h) (by omega) rfl rfl (Nat.le_of_ble_eq_true rfl) (by decide) rfl (fun _ => rfl) (fun r13 m17 h => ?_) (fun _ h => h)
                refine b_goto 537 dX10_judgePart_392 (by decide) ?_
                exact b_vret dX10_judgePart_537 rfl h
          · have h := ifT (Decidable.of_not_not c14) h
            refine b_goto 537 dX10_judgePart_337 (by decide) ?_
            exact b_vret dX10_judgePart_537 rfl h
    have h := ifF c11 h
    by_cases c17 : (m2 590 x1) = 9
    · have h := ifT c17 h
      refine b_tswIn 403 dX10_judgePart_40 g3 (by omega) (by omega) (by rw [c17]; rfl) (by decide) ?_
      refine b_aload_n dX10_judgePart_403 rfl ?_
      refine b_aload_n dX10_judgePart_404 rfl ?_
      refine b_getR dX10_judgePart_405 fk_X10_109 ly_582 gg_582_17 ?_
      refine b_iload_n dX10_judgePart_408 rfl ?_
      refine b_iald dX10_judgePart_409 ly_591 g1 ?_
      refine b_cVv (as := [vI (m2 591 x1)]) (st := []) dX10_judgePart_410 mf_X10_judge qs134 lk_X10_476 ly_582 rfl (hrec.1 _ _ _ _ h) (by omega) rfl rfl (Nat.le_of_ble_eq_true rfl) (by decide) rfl (fun _ => rfl) (fun r14 m18 h => ?_) (fun _ h => h)
      refine b_aload_n dX10_judgePart_413 rfl ?_
      refine b_getR dX10_judgePart_414 fk_X10_130 ly_582 gg_582_24 ?_
      refine b_aload_n dX10_judgePart_417 rfl ?_
      refine b_getR dX10_judgePart_418 fk_X10_109 ly_582 gg_582_17 ?_
      refine b_iload_n dX10_judgePart_421 rfl ?_
      refine b_iald dX10_judgePart_422 ly_591 g1 ?_
      obtain ⟨g16, h⟩ := h
      refine b_iald dX10_judgePart_423 ly_598 g16 ?_
      refine b_bipush dX10_judgePart_424 (by decide) ?_
      obtain ⟨g17, h⟩ := h
      refine b_icmp_ne 441 dX10_judgePart_426 g17 (by decide) (by decide) (fun c18 => ?_) (fun c18 => ?_)
      · have h := ifF c18 h
        refine b_aload_n dX10_judgePart_441 rfl ?_
        refine b_getR dX10_judgePart_442 fk_X10_130 ly_582 gg_582_24 ?_
        refine b_aload_n dX10_judgePart_445 rfl ?_
        refine b_getR dX10_judgePart_446 fk_X10_109 ly_582 gg_582_17 ?_
        refine b_iload_n dX10_judgePart_449 rfl ?_
        refine b_iald dX10_judgePart_450 ly_591 g1 ?_
        refine b_iald dX10_judgePart_451 ly_598 g16 ?_
        refine b_bipush dX10_judgePart_452 (by decide) ?_
        refine b_icmp_eq 537 dX10_judgePart_454 g17 (by decide) (by decide) (fun c19 => ?_) (fun c19 => ?_)
        · have h := ifT c19 h
          exact b_vret dX10_judgePart_537 rfl h
        · have h := ifF c19 h
          refine b_aload_n dX10_judgePart_457 rfl ?_
          refine b_iload_n dX10_judgePart_458 rfl ?_
          refine b_cVv (as := [vI x1]) (st := []) dX10_judgePart_459 mf_X10_wrong qs146 lk_X10_486 ly_582 rfl (p_X10_wrong (f := 2) (Nat.le_refl _) _ _ h) (by omega) rfl rfl (Nat.le_of_ble_eq_true rfl) (by decide) rfl (fun _ => rfl) (fun r15 m19 h => ?_) (fun _ h => h)
          refine b_goto 537 dX10_judgePart_462 (by decide) ?_
          exact b_vret dX10_judgePart_537 rfl h
      · have h := ifT (Decidable.of_not_not c18) h
        refine b_aload_n dX10_judgePart_429 rfl ?_
        refine b_iload_n dX10_judgePart_430 rfl ?_
        refine b_bipush dX10_judgePart_431 (by decide) ?_
        refine b_iconst dX10_judgePart_433 ?_
        refine b_iconst dX10_judgePart_434 ?_
        refine b_cVv (as := [vI x1, vI (-2), vI 0, vI 0]) (st := []) dX10_judgePart_435 mf_X10_setRing qs128 lk_X10_482 ly_582 rfl (p_X10_setRing (f := 1) (Nat.le_refl _) _ _ _ _ _ h) (by omega) rfl rfl (Nat.le_of_ble_eq_true rfl) (by decide) rfl (fun _ => rfl) (fun r16 m20 h => ?_) (fun _ h => h)
        refine b_goto 537 dX10_judgePart_438 (by decide) ?_
        exact b_vret dX10_judgePart_537 rfl h
    have h := ifF c17 h
    refine b_tswOut 465 dX10_judgePart_40 g3 (by omega) (by decide) ?_
    refine b_aload_n dX10_judgePart_465 rfl ?_
    refine b_aload_n dX10_judgePart_466 rfl ?_
    refine b_getR dX10_judgePart_467 fk_X10_109 ly_582 gg_582_17 ?_
    refine b_iload_n dX10_judgePart_470 rfl ?_
    refine b_iald dX10_judgePart_471 ly_591 g1 ?_
    refine b_cVv (as := [vI (m2 591 x1)]) (st := []) dX10_judgePart_472 mf_X10_judge qs134 lk_X10_476 ly_582 rfl (hrec.1 _ _ _ _ h) (by omega) rfl rfl (Nat.le_of_ble_eq_true rfl) (by decide) rfl (fun _ => rfl) (fun r17 m21 h => ?_) (fun _ h => h)
    refine b_aload_n dX10_judgePart_475 rfl ?_
    refine b_getR dX10_judgePart_476 fk_X10_130 ly_582 gg_582_24 ?_
    refine b_aload_n dX10_judgePart_479 rfl ?_
    refine b_getR dX10_judgePart_480 fk_X10_109 ly_582 gg_582_17 ?_
    refine b_iload_n dX10_judgePart_483 rfl ?_
    refine b_iald dX10_judgePart_484 ly_591 g1 ?_
    obtain ⟨g18, h⟩ := h
    refine b_iald dX10_judgePart_485 ly_598 g18 ?_
    refine b_bipush dX10_judgePart_486 (by decide) ?_
    obtain ⟨g19, h⟩ := h
    refine b_icmp_ne 499 dX10_judgePart_488 g19 (by decide) (by decide) (fun c20 => ?_) (fun c20 => ?_)
    · have h := ifF c20 h
      refine b_aload_n dX10_judgePart_499 rfl ?_
      refine b_iload_n dX10_judgePart_500 rfl ?_
      refine b_aload_n dX10_judgePart_501 rfl ?_
      refine b_getR dX10_judgePart_502 fk_X10_130 ly_582 gg_582_24 ?_
      refine b_aload_n dX10_judgePart_505 rfl ?_
      refine b_getR dX10_judgePart_506 fk_X10_109 ly_582 gg_582_17 ?_
      refine b_iload_n dX10_judgePart_509 rfl ?_
      refine b_iald dX10_judgePart_510 ly_591 g1 ?_
      refine b_iald dX10_judgePart_511 ly_598 g18 ?_
      refine b_aload_n dX10_judgePart_512 rfl ?_
      refine b_getR dX10_judgePart_513 fk_X10_133 ly_582 gg_582_25 ?_
      refine b_aload_n dX10_judgePart_516 rfl ?_
      refine b_getR dX10_judgePart_517 fk_X10_109 ly_582 gg_582_17 ?_
      refine b_iload_n dX10_judgePart_520 rfl ?_
      refine b_iald dX10_judgePart_521 ly_591 g1 ?_
      refine b_iald dX10_judgePart_522 ly_599 g18 ?_
      refine b_aload_n dX10_judgePart_523 rfl ?_
      refine b_getR dX10_judgePart_524 fk_X10_136 ly_582 gg_582_26 ?_
      refine b_aload_n dX10_judgePart_527 rfl ?_
      refine b_getR dX10_judgePart_528 fk_X10_109 ly_582 gg_582_17 ?_
      refine b_iload_n dX10_judgePart_531 rfl ?_
      refine b_iald dX10_judgePart_532 ly_591 g1 ?_
      refine b_iald dX10_judgePart_533 ly_600 g18 ?_
      refine b_cVv (as := [vI x1, vI (m21 598 (m21 591 x1)), vI (m21 599 (m21 591 x1)), vI (m21 600 (m21 591 x1))]) (st := []) dX10_judgePart_534 mf_X10_setRing qs128 lk_X10_482 ly_582 rfl (p_X10_setRing (f := 1) (Nat.le_refl _) _ _ _ _ _ h) (by omega) rfl rfl (Nat.le_of_ble_eq_true rfl) (by decide) rfl (fun _ => rfl) (fun r18 m22 h => ?_) (fun _ h => h)
      exact b_vret dX10_judgePart_537 rfl h
    · have h := ifT (Decidable.of_not_not c20) h
      refine b_aload_n dX10_judgePart_491 rfl ?_
      refine b_iload_n dX10_judgePart_492 rfl ?_
      refine b_cVv (as := [vI x1]) (st := []) dX10_judgePart_493 mf_X10_wrong qs146 lk_X10_486 ly_582 rfl (p_X10_wrong (f := 2) (Nat.le_refl _) _ _ h) (by omega) rfl rfl (Nat.le_of_ble_eq_true rfl) (by decide) rfl (fun _ => rfl) (fun r19 m23 h => ?_) (fun _ h => h)
      refine b_goto 537 dX10_judgePart_496 (by decide) ?_
      exact b_vret dX10_judgePart_537 rfl h
  have g2 := hs
  refine b_icmp_ne 27 dX10_judgePart_20 g2 (by decide) (by decide) (fun c21 => ?_) (fun c21 => ?_)
  ·
    refine b_aload_n dX10_judgePart_27 rfl ?_
    refine b_getR dX10_judgePart_28 fk_X10_127 ly_582 gg_582_23 ?_
    refine b_iload_n dX10_judgePart_31 rfl ?_
    refine b_iald dX10_judgePart_32 ly_597 g1 ?_
    exact Eq.mp (congrArg (fun z => B f M_X10_judgePart 33 [vR 582, vI x1] (vI z :: [vI x1, vR 597]) m1 Q T) (show (if (m1 590 x1) = 4 then (-1) else (m1 597 x1) : Int) = (m1 597 x1) by rw [if_neg c21])) K
  ·
    have c21 := Decidable.of_not_not c21
    refine b_iconst dX10_judgePart_23 ?_
    refine b_goto 33 dX10_judgePart_24 (by decide) ?_
    exact Eq.mp (congrArg (fun z => B f M_X10_judgePart 33 [vR 582, vI x1] (vI z :: [vI x1, vR 597]) m1 Q T) (show (if (m1 590 x1) = 4 then (-1) else (m1 597 x1) : Int) = (-1) by rw [if_pos c21])) K
def R_X10_judge : Nat → Nat → List Int → MM → (Int → MM → Prop) → (MM → Prop) → Prop
  | 0, _, _, _, _, _ => False
  | d + 1, i, as, m, Q, T => match i, as with
    | 0, [x1] => W_X10_judge (R_X10_judge d) x1 m Q T
    | 1, [x1] => W_X10_judgeBuilt (R_X10_judge d) x1 m Q T
    | 2, [x1] => W_X10_judgeCall (R_X10_judge d) x1 m Q T
    | 3, [x1] => W_X10_judgeLeft (R_X10_judge d) x1 m Q T
    | 4, [x1] => W_X10_judgeMatrix (R_X10_judge d) x1 m Q T
    | 5, [x1] => W_X10_judgePart (R_X10_judge d) x1 m Q T
    | _, _ => False
theorem pr_X10_judge : ∀ d f : Nat, 24 + d ≤ f → HR_X10_judge (R_X10_judge d) f := by
  intro d
  induction d with
  | zero => intro f hf; exact ⟨fun _ _ _ _ h => h.elim, fun _ _ _ _ h => h.elim, fun _ _ _ _ h => h.elim, fun _ _ _ _ h => h.elim, fun _ _ _ _ h => h.elim, fun _ _ _ _ h => h.elim, trivial⟩
  | succ d ih =>
    intro f hf
    have hr := ih (f - 1) (by omega)
    exact ⟨fun x1 m _ _ h => w_X10_judge hr (show 24 ≤ f ∧ f - 1 + 1 ≤ f by omega) x1 m h, fun x1 m _ _ h => w_X10_judgeBuilt hr (show 24 ≤ f ∧ f - 1 + 1 ≤ f by omega) x1 m h, fun x1 m _ _ h => w_X10_judgeCall hr (show 24 ≤ f ∧ f - 1 + 1 ≤ f by omega) x1 m h, fun x1 m _ _ h => w_X10_judgeLeft hr (show 24 ≤ f ∧ f - 1 + 1 ≤ f by omega) x1 m h, fun x1 m _ _ h => w_X10_judgeMatrix hr (show 24 ≤ f ∧ f - 1 + 1 ≤ f by omega) x1 m h, fun x1 m _ _ h => w_X10_judgePart hr (show 24 ≤ f ∧ f - 1 + 1 ≤ f by omega) x1 m h, trivial⟩
theorem dX10_makeReady_0 : decode cX10_makeReady 0 = .ok (.aload_n 0, 1) := by decide +kernel
theorem dX10_makeReady_1 : decode cX10_makeReady 1 = .ok (.getfield 231, 3) := by decide +kernel
theorem dX10_makeReady_4 : decode cX10_makeReady 4 = .ok (.ifCond .lt 15, 3) := by decide +kernel
theorem dX10_makeReady_7 : decode cX10_makeReady 7 = .ok (.aload_n 0, 1) := by decide +kernel
theorem dX10_makeReady_8 : decode cX10_makeReady 8 = .ok (.getfield 170, 3) := by decide +kernel
theorem dX10_makeReady_11 : decode cX10_makeReady 11 = .ok (.aload_n 0, 1) := by decide +kernel
theorem dX10_makeReady_12 : decode cX10_makeReady 12 = .ok (.getfield 231, 3) := by decide +kernel
theorem dX10_makeReady_15 : decode cX10_makeReady 15 = .ok (.iaload, 1) := by decide +kernel
theorem dX10_makeReady_16 : decode cX10_makeReady 16 = .ok (.ifCond .ne 4, 3) := by decide +kernel
theorem dX10_makeReady_19 : decode cX10_makeReady 19 = .ok (.return_, 1) := by decide +kernel
theorem dX10_makeReady_20 : decode cX10_makeReady 20 = .ok (.aload_n 0, 1) := by decide +kernel
theorem dX10_makeReady_21 : decode cX10_makeReady 21 = .ok (.getfield 191, 3) := by decide +kernel
theorem dX10_makeReady_24 : decode cX10_makeReady 24 = .ok (.aload_n 0, 1) := by decide +kernel
theorem dX10_makeReady_25 : decode cX10_makeReady 25 = .ok (.getfield 231, 3) := by decide +kernel
theorem dX10_makeReady_28 : decode cX10_makeReady 28 = .ok (.iaload, 1) := by decide +kernel
theorem dX10_makeReady_29 : decode cX10_makeReady 29 = .ok (.aload_n 0, 1) := by decide +kernel
theorem dX10_makeReady_30 : decode cX10_makeReady 30 = .ok (.getfield 234, 3) := by decide +kernel
theorem dX10_makeReady_33 : decode cX10_makeReady 33 = .ok (.if_icmp .ne 36, 3) := by decide +kernel
theorem dX10_makeReady_36 : decode cX10_makeReady 36 = .ok (.aload_n 0, 1) := by decide +kernel
theorem dX10_makeReady_37 : decode cX10_makeReady 37 = .ok (.getfield 194, 3) := by decide +kernel
theorem dX10_makeReady_40 : decode cX10_makeReady 40 = .ok (.aload_n 0, 1) := by decide +kernel
theorem dX10_makeReady_41 : decode cX10_makeReady 41 = .ok (.getfield 231, 3) := by decide +kernel
theorem dX10_makeReady_44 : decode cX10_makeReady 44 = .ok (.iaload, 1) := by decide +kernel
theorem dX10_makeReady_45 : decode cX10_makeReady 45 = .ok (.aload_n 0, 1) := by decide +kernel
theorem dX10_makeReady_46 : decode cX10_makeReady 46 = .ok (.getfield 509, 3) := by decide +kernel
theorem dX10_makeReady_49 : decode cX10_makeReady 49 = .ok (.if_icmp .ne 20, 3) := by decide +kernel
theorem dX10_makeReady_52 : decode cX10_makeReady 52 = .ok (.aload_n 0, 1) := by decide +kernel
theorem dX10_makeReady_53 : decode cX10_makeReady 53 = .ok (.getfield 197, 3) := by decide +kernel
theorem dX10_makeReady_56 : decode cX10_makeReady 56 = .ok (.aload_n 0, 1) := by decide +kernel
theorem dX10_makeReady_57 : decode cX10_makeReady 57 = .ok (.getfield 231, 3) := by decide +kernel
theorem dX10_makeReady_60 : decode cX10_makeReady 60 = .ok (.iaload, 1) := by decide +kernel
theorem dX10_makeReady_61 : decode cX10_makeReady 61 = .ok (.aload_n 0, 1) := by decide +kernel
theorem dX10_makeReady_62 : decode cX10_makeReady 62 = .ok (.getfield 512, 3) := by decide +kernel
theorem dX10_makeReady_65 : decode cX10_makeReady 65 = .ok (.if_icmp .ne 4, 3) := by decide +kernel
theorem dX10_makeReady_68 : decode cX10_makeReady 68 = .ok (.return_, 1) := by decide +kernel
theorem dX10_makeReady_69 : decode cX10_makeReady 69 = .ok (.aload_n 0, 1) := by decide +kernel
theorem dX10_makeReady_70 : decode cX10_makeReady 70 = .ok (.getfield 191, 3) := by decide +kernel
theorem dX10_makeReady_73 : decode cX10_makeReady 73 = .ok (.aload_n 0, 1) := by decide +kernel
theorem dX10_makeReady_74 : decode cX10_makeReady 74 = .ok (.getfield 231, 3) := by decide +kernel
theorem dX10_makeReady_77 : decode cX10_makeReady 77 = .ok (.aload_n 0, 1) := by decide +kernel
theorem dX10_makeReady_78 : decode cX10_makeReady 78 = .ok (.getfield 234, 3) := by decide +kernel
theorem dX10_makeReady_81 : decode cX10_makeReady 81 = .ok (.iastore, 1) := by decide +kernel
theorem dX10_makeReady_82 : decode cX10_makeReady 82 = .ok (.aload_n 0, 1) := by decide +kernel
theorem dX10_makeReady_83 : decode cX10_makeReady 83 = .ok (.getfield 194, 3) := by decide +kernel
theorem dX10_makeReady_86 : decode cX10_makeReady 86 = .ok (.aload_n 0, 1) := by decide +kernel
theorem dX10_makeReady_87 : decode cX10_makeReady 87 = .ok (.getfield 231, 3) := by decide +kernel
theorem dX10_makeReady_90 : decode cX10_makeReady 90 = .ok (.aload_n 0, 1) := by decide +kernel
theorem dX10_makeReady_91 : decode cX10_makeReady 91 = .ok (.getfield 509, 3) := by decide +kernel
theorem dX10_makeReady_94 : decode cX10_makeReady 94 = .ok (.iastore, 1) := by decide +kernel
theorem dX10_makeReady_95 : decode cX10_makeReady 95 = .ok (.aload_n 0, 1) := by decide +kernel
theorem dX10_makeReady_96 : decode cX10_makeReady 96 = .ok (.getfield 197, 3) := by decide +kernel
theorem dX10_makeReady_99 : decode cX10_makeReady 99 = .ok (.aload_n 0, 1) := by decide +kernel
theorem dX10_makeReady_100 : decode cX10_makeReady 100 = .ok (.getfield 231, 3) := by decide +kernel
theorem dX10_makeReady_103 : decode cX10_makeReady 103 = .ok (.aload_n 0, 1) := by decide +kernel
theorem dX10_makeReady_104 : decode cX10_makeReady 104 = .ok (.getfield 512, 3) := by decide +kernel
theorem dX10_makeReady_107 : decode cX10_makeReady 107 = .ok (.iastore, 1) := by decide +kernel
theorem dX10_makeReady_108 : decode cX10_makeReady 108 = .ok (.aload_n 0, 1) := by decide +kernel
theorem dX10_makeReady_109 : decode cX10_makeReady 109 = .ok (.aload_n 0, 1) := by decide +kernel
theorem dX10_makeReady_110 : decode cX10_makeReady 110 = .ok (.getfield 167, 3) := by decide +kernel
theorem dX10_makeReady_113 : decode cX10_makeReady 113 = .ok (.aload_n 0, 1) := by decide +kernel
theorem dX10_makeReady_114 : decode cX10_makeReady 114 = .ok (.getfield 231, 3) := by decide +kernel
theorem dX10_makeReady_117 : decode cX10_makeReady 117 = .ok (.iaload, 1) := by decide +kernel
theorem dX10_makeReady_118 : decode cX10_makeReady 118 = .ok (.invokevirtual 476, 3) := by decide +kernel
theorem dX10_makeReady_121 : decode cX10_makeReady 121 = .ok (.return_, 1) := by decide +kernel
/-! AlgebraHouseModel.makeReady()V -/
def P_X10_makeReady_69 (Q : Int → MM → Prop) (m : MM) : Prop := (0 ≤ (m 582 61) ∧ (m 582 61) < 21) ∧ ∀ m1 : MM, m1 = up m 618 (m 582 61) (m 582 62) → (0 ≤ (m1 582 61) ∧ (m1 582 61) < 21) ∧ ∀ m2 : MM, m2 = up m1 619 (m1 582 61) (m1 582 63) → (0 ≤ (m2 582 61) ∧ (m2 582 61) < 21) ∧ ∀ m3 : MM, m3 = up m2 620 (m2 582 61) (m2 582 64) → (0 ≤ (m3 582 61) ∧ (m3 582 61) < 21) ∧ R_X10_judge 300 0 [(m3 610 (m3 582 61))] m3 (fun r1 m4 => Q 0 m4) (fun _ => False)
def P_X10_makeReady (m : MM) (Q : Int → MM → Prop) : Prop := (RI (m 582 61)) ∧ (if (m 582 61) < 0 then Q 0 m else (0 ≤ (m 582 61) ∧ (m 582 61) < 21) ∧ (RI (m 611 (m 582 61))) ∧ (if (m 611 (m 582 61)) = 0 then Q 0 m else (RI (m 618 (m 582 61))) ∧ (RI (m 582 62)) ∧ (if (m 618 (m 582 61)) = (m 582 62) then (RI (m 619 (m 582 61))) ∧ (RI (m 582 63)) ∧ (if (m 619 (m 582 61)) = (m 582 63) then (RI (m 620 (m 582 61))) ∧ (RI (m 582 64)) ∧ (if (m 620 (m 582 61)) = (m 582 64) then Q 0 m else P_X10_makeReady_69 Q m) else P_X10_makeReady_69 Q m) else P_X10_makeReady_69 Q m)))
theorem pl_X10_makeReady_69 {f : Nat} {Q : Int → MM → Prop} {T : MM → Prop} (hf : 325 ≤ f) : ∀ (m : MM), P_X10_makeReady_69 Q m → B f M_X10_makeReady 69 [vR 582] [] m Q T := by
  intro m h
  have h : (0 ≤ (m 582 61) ∧ (m 582 61) < 21) ∧ ∀ m1 : MM, m1 = up m 618 (m 582 61) (m 582 62) → (0 ≤ (m1 582 61) ∧ (m1 582 61) < 21) ∧ ∀ m2 : MM, m2 = up m1 619 (m1 582 61) (m1 582 63) → (0 ≤ (m2 582 61) ∧ (m2 582 61) < 21) ∧ ∀ m3 : MM, m3 = up m2 620 (m2 582 61) (m2 582 64) → (0 ≤ (m3 582 61) ∧ (m3 582 61) < 21) ∧ R_X10_judge 300 0 [(m3 610 (m3 582 61))] m3 (fun r1 m4 => Q 0 m4) (fun _ => False) := h
  refine b_aload_n dX10_makeReady_69 rfl ?_
  refine b_getR dX10_makeReady_70 fk_X10_191 ly_582 gg_582_47 ?_
  refine b_aload_n dX10_makeReady_73 rfl ?_
  refine b_getI dX10_makeReady_74 fk_X10_231 ly_582 ?_
  refine b_aload_n dX10_makeReady_77 rfl ?_
  refine b_getI dX10_makeReady_78 fk_X10_234 ly_582 ?_
  obtain ⟨g1, h⟩ := h
  refine b_iast dX10_makeReady_81 ly_618 g1 (fun m1 em1 => ?_)
  have h := h m1 em1
  refine b_aload_n dX10_makeReady_82 rfl ?_
  refine b_getR dX10_makeReady_83 fk_X10_194 ly_582 gg_582_48 ?_
  refine b_aload_n dX10_makeReady_86 rfl ?_
  refine b_getI dX10_makeReady_87 fk_X10_231 ly_582 ?_
  refine b_aload_n dX10_makeReady_90 rfl ?_
  refine b_getI dX10_makeReady_91 fk_X10_509 ly_582 ?_
  obtain ⟨g2, h⟩ := h
  refine b_iast dX10_makeReady_94 ly_619 g2 (fun m2 em2 => ?_)
  have h := h m2 em2
  refine b_aload_n dX10_makeReady_95 rfl ?_
  refine b_getR dX10_makeReady_96 fk_X10_197 ly_582 gg_582_49 ?_
  refine b_aload_n dX10_makeReady_99 rfl ?_
  refine b_getI dX10_makeReady_100 fk_X10_231 ly_582 ?_
  refine b_aload_n dX10_makeReady_103 rfl ?_
  refine b_getI dX10_makeReady_104 fk_X10_512 ly_582 ?_
  obtain ⟨g3, h⟩ := h
  refine b_iast dX10_makeReady_107 ly_620 g3 (fun m3 em3 => ?_)
  have h := h m3 em3
  refine b_aload_n dX10_makeReady_108 rfl ?_
  refine b_aload_n dX10_makeReady_109 rfl ?_
  refine b_getR dX10_makeReady_110 fk_X10_167 ly_582 gg_582_39 ?_
  refine b_aload_n dX10_makeReady_113 rfl ?_
  refine b_getI dX10_makeReady_114 fk_X10_231 ly_582 ?_
  obtain ⟨g4, h⟩ := h
  refine b_iald dX10_makeReady_117 ly_610 g4 ?_
  refine b_cVv (as := [vI (m3 610 (m3 582 61))]) (st := []) dX10_makeReady_118 mf_X10_judge qs134 lk_X10_476 ly_582 rfl ((pr_X10_judge 300 324 (Nat.le_refl _)).1 _ _ _ _ h) (by omega) rfl rfl (Nat.le_of_ble_eq_true rfl) (by decide) rfl (fun _ => rfl) (fun r1 m4 h => ?_) (fun _ h => h.elim)
  exact b_vret dX10_makeReady_121 rfl h
theorem p_X10_makeReady {f : Nat} {Q : Int → MM → Prop} {T : MM → Prop} (hf : 325 ≤ f) (m : MM) (h : P_X10_makeReady m Q) : CC f M_X10_makeReady [vR 582] m Q T := by
  refine CC.of (plainFor_of_name (by decide)) (Nat.le_of_ble_eq_true rfl) (ls := [vR 582]) rfl ?_
  have h : (RI (m 582 61)) ∧ (if (m 582 61) < 0 then Q 0 m else (0 ≤ (m 582 61) ∧ (m 582 61) < 21) ∧ (RI (m 611 (m 582 61))) ∧ (if (m 611 (m 582 61)) = 0 then Q 0 m else (RI (m 618 (m 582 61))) ∧ (RI (m 582 62)) ∧ (if (m 618 (m 582 61)) = (m 582 62) then (RI (m 619 (m 582 61))) ∧ (RI (m 582 63)) ∧ (if (m 619 (m 582 61)) = (m 582 63) then (RI (m 620 (m 582 61))) ∧ (RI (m 582 64)) ∧ (if (m 620 (m 582 61)) = (m 582 64) then Q 0 m else P_X10_makeReady_69 Q m) else P_X10_makeReady_69 Q m) else P_X10_makeReady_69 Q m))) := h
  refine b_aload_n dX10_makeReady_0 rfl ?_
  refine b_getI dX10_makeReady_1 fk_X10_231 ly_582 ?_
  obtain ⟨g1, h⟩ := h
  refine b_if_lt 19 dX10_makeReady_4 g1 (by decide) (fun c1 => ?_) (fun c1 => ?_)
  · have h := ifT c1 h
    exact b_vret dX10_makeReady_19 rfl h
  · have h := ifF c1 h
    refine b_aload_n dX10_makeReady_7 rfl ?_
    refine b_getR dX10_makeReady_8 fk_X10_170 ly_582 gg_582_40 ?_
    refine b_aload_n dX10_makeReady_11 rfl ?_
    refine b_getI dX10_makeReady_12 fk_X10_231 ly_582 ?_
    obtain ⟨g2, h⟩ := h
    refine b_iald dX10_makeReady_15 ly_611 g2 ?_
    obtain ⟨g3, h⟩ := h
    refine b_if_ne 20 dX10_makeReady_16 g3 (by decide) (fun c2 => ?_) (fun c2 => ?_)
    · have h := ifF c2 h
      refine b_aload_n dX10_makeReady_20 rfl ?_
      refine b_getR dX10_makeReady_21 fk_X10_191 ly_582 gg_582_47 ?_
      refine b_aload_n dX10_makeReady_24 rfl ?_
      refine b_getI dX10_makeReady_25 fk_X10_231 ly_582 ?_
      refine b_iald dX10_makeReady_28 ly_618 g2 ?_
      refine b_aload_n dX10_makeReady_29 rfl ?_
      refine b_getI dX10_makeReady_30 fk_X10_234 ly_582 ?_
      obtain ⟨g4, h⟩ := h
      obtain ⟨g5, h⟩ := h
      refine b_icmp_ne 69 dX10_makeReady_33 g4 g5 (by decide) (fun c3 => ?_) (fun c3 => ?_)
      · have h := ifF c3 h
        exact pl_X10_makeReady_69 hf _ h
      · have h := ifT (Decidable.of_not_not c3) h
        refine b_aload_n dX10_makeReady_36 rfl ?_
        refine b_getR dX10_makeReady_37 fk_X10_194 ly_582 gg_582_48 ?_
        refine b_aload_n dX10_makeReady_40 rfl ?_
        refine b_getI dX10_makeReady_41 fk_X10_231 ly_582 ?_
        refine b_iald dX10_makeReady_44 ly_619 g2 ?_
        refine b_aload_n dX10_makeReady_45 rfl ?_
        refine b_getI dX10_makeReady_46 fk_X10_509 ly_582 ?_
        obtain ⟨g6, h⟩ := h
        obtain ⟨g7, h⟩ := h
        refine b_icmp_ne 69 dX10_makeReady_49 g6 g7 (by decide) (fun c4 => ?_) (fun c4 => ?_)
        · have h := ifF c4 h
          exact pl_X10_makeReady_69 hf _ h
        · have h := ifT (Decidable.of_not_not c4) h
          refine b_aload_n dX10_makeReady_52 rfl ?_
          refine b_getR dX10_makeReady_53 fk_X10_197 ly_582 gg_582_49 ?_
          refine b_aload_n dX10_makeReady_56 rfl ?_
          refine b_getI dX10_makeReady_57 fk_X10_231 ly_582 ?_
          refine b_iald dX10_makeReady_60 ly_620 g2 ?_
          refine b_aload_n dX10_makeReady_61 rfl ?_
          refine b_getI dX10_makeReady_62 fk_X10_512 ly_582 ?_
          obtain ⟨g8, h⟩ := h
          obtain ⟨g9, h⟩ := h
          refine b_icmp_ne 69 dX10_makeReady_65 g8 g9 (by decide) (fun c5 => ?_) (fun c5 => ?_)
          · have h := ifF c5 h
            exact pl_X10_makeReady_69 hf _ h
          · have h := ifT (Decidable.of_not_not c5) h
            exact b_vret dX10_makeReady_68 rfl h
    · have h := ifT (Decidable.of_not_not c2) h
      exact b_vret dX10_makeReady_19 rfl h
