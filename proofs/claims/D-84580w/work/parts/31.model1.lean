set_option maxRecDepth 100000
theorem dX10_instance_0 : decode cX10_instance 0 = .ok (.iconst 3, 1) := by decide +kernel
theorem dX10_instance_1 : decode cX10_instance 1 = .ok (.iload_n 1, 1) := by decide +kernel
theorem dX10_instance_2 : decode cX10_instance 2 = .ok (.imul, 1) := by decide +kernel
theorem dX10_instance_3 : decode cX10_instance 3 = .ok (.iload_n 2, 1) := by decide +kernel
theorem dX10_instance_4 : decode cX10_instance 4 = .ok (.iadd, 1) := by decide +kernel
theorem dX10_instance_5 : decode cX10_instance 5 = .ok (.istore 6, 2) := by decide +kernel
theorem dX10_instance_7 : decode cX10_instance 7 = .ok (.aload_n 0, 1) := by decide +kernel
theorem dX10_instance_8 : decode cX10_instance 8 = .ok (.iload_n 2, 1) := by decide +kernel
theorem dX10_instance_9 : decode cX10_instance 9 = .ok (.ifCond .ge 12, 3) := by decide +kernel
theorem dX10_instance_12 : decode cX10_instance 12 = .ok (.aload_n 0, 1) := by decide +kernel
theorem dX10_instance_13 : decode cX10_instance 13 = .ok (.getfield 173, 3) := by decide +kernel
theorem dX10_instance_16 : decode cX10_instance 16 = .ok (.iload_n 1, 1) := by decide +kernel
theorem dX10_instance_17 : decode cX10_instance 17 = .ok (.iaload, 1) := by decide +kernel
theorem dX10_instance_18 : decode cX10_instance 18 = .ok (.goto 10, 3) := by decide +kernel
theorem dX10_instance_21 : decode cX10_instance 21 = .ok (.aload_n 0, 1) := by decide +kernel
theorem dX10_instance_22 : decode cX10_instance 22 = .ok (.getfield 182, 3) := by decide +kernel
theorem dX10_instance_25 : decode cX10_instance 25 = .ok (.iload 6, 2) := by decide +kernel
theorem dX10_instance_27 : decode cX10_instance 27 = .ok (.iaload, 1) := by decide +kernel
theorem dX10_instance_28 : decode cX10_instance 28 = .ok (.putfield 542, 3) := by decide +kernel
theorem dX10_instance_31 : decode cX10_instance 31 = .ok (.aload_n 0, 1) := by decide +kernel
theorem dX10_instance_32 : decode cX10_instance 32 = .ok (.iload_n 2, 1) := by decide +kernel
theorem dX10_instance_33 : decode cX10_instance 33 = .ok (.ifCond .ge 12, 3) := by decide +kernel
theorem dX10_instance_36 : decode cX10_instance 36 = .ok (.aload_n 0, 1) := by decide +kernel
theorem dX10_instance_37 : decode cX10_instance 37 = .ok (.getfield 176, 3) := by decide +kernel
theorem dX10_instance_40 : decode cX10_instance 40 = .ok (.iload_n 1, 1) := by decide +kernel
theorem dX10_instance_41 : decode cX10_instance 41 = .ok (.iaload, 1) := by decide +kernel
theorem dX10_instance_42 : decode cX10_instance 42 = .ok (.goto 10, 3) := by decide +kernel
theorem dX10_instance_45 : decode cX10_instance 45 = .ok (.aload_n 0, 1) := by decide +kernel
theorem dX10_instance_46 : decode cX10_instance 46 = .ok (.getfield 185, 3) := by decide +kernel
theorem dX10_instance_49 : decode cX10_instance 49 = .ok (.iload 6, 2) := by decide +kernel
theorem dX10_instance_51 : decode cX10_instance 51 = .ok (.iaload, 1) := by decide +kernel
theorem dX10_instance_52 : decode cX10_instance 52 = .ok (.putfield 545, 3) := by decide +kernel
theorem dX10_instance_55 : decode cX10_instance 55 = .ok (.aload_n 0, 1) := by decide +kernel
theorem dX10_instance_56 : decode cX10_instance 56 = .ok (.iload_n 2, 1) := by decide +kernel
theorem dX10_instance_57 : decode cX10_instance 57 = .ok (.ifCond .ge 12, 3) := by decide +kernel
theorem dX10_instance_60 : decode cX10_instance 60 = .ok (.aload_n 0, 1) := by decide +kernel
theorem dX10_instance_61 : decode cX10_instance 61 = .ok (.getfield 179, 3) := by decide +kernel
theorem dX10_instance_64 : decode cX10_instance 64 = .ok (.iload_n 1, 1) := by decide +kernel
theorem dX10_instance_65 : decode cX10_instance 65 = .ok (.iaload, 1) := by decide +kernel
theorem dX10_instance_66 : decode cX10_instance 66 = .ok (.goto 10, 3) := by decide +kernel
theorem dX10_instance_69 : decode cX10_instance 69 = .ok (.aload_n 0, 1) := by decide +kernel
theorem dX10_instance_70 : decode cX10_instance 70 = .ok (.getfield 188, 3) := by decide +kernel
theorem dX10_instance_73 : decode cX10_instance 73 = .ok (.iload 6, 2) := by decide +kernel
theorem dX10_instance_75 : decode cX10_instance 75 = .ok (.iaload, 1) := by decide +kernel
theorem dX10_instance_76 : decode cX10_instance 76 = .ok (.putfield 548, 3) := by decide +kernel
theorem dX10_instance_79 : decode cX10_instance 79 = .ok (.iload_n 2, 1) := by decide +kernel
theorem dX10_instance_80 : decode cX10_instance 80 = .ok (.ifCond .ge 12, 3) := by decide +kernel
theorem dX10_instance_83 : decode cX10_instance 83 = .ok (.aload_n 0, 1) := by decide +kernel
theorem dX10_instance_84 : decode cX10_instance 84 = .ok (.getfield 200, 3) := by decide +kernel
theorem dX10_instance_87 : decode cX10_instance 87 = .ok (.iload_n 1, 1) := by decide +kernel
theorem dX10_instance_88 : decode cX10_instance 88 = .ok (.baload, 1) := by decide +kernel
theorem dX10_instance_89 : decode cX10_instance 89 = .ok (.goto 10, 3) := by decide +kernel
theorem dX10_instance_92 : decode cX10_instance 92 = .ok (.aload_n 0, 1) := by decide +kernel
theorem dX10_instance_93 : decode cX10_instance 93 = .ok (.getfield 203, 3) := by decide +kernel
theorem dX10_instance_96 : decode cX10_instance 96 = .ok (.iload 6, 2) := by decide +kernel
theorem dX10_instance_98 : decode cX10_instance 98 = .ok (.baload, 1) := by decide +kernel
theorem dX10_instance_99 : decode cX10_instance 99 = .ok (.istore 7, 2) := by decide +kernel
theorem dX10_instance_101 : decode cX10_instance 101 = .ok (.iload 7, 2) := by decide +kernel
theorem dX10_instance_103 : decode cX10_instance 103 = .ok (.ifCond .ne 18, 3) := by decide +kernel
theorem dX10_instance_106 : decode cX10_instance 106 = .ok (.aload_n 0, 1) := by decide +kernel
theorem dX10_instance_107 : decode cX10_instance 107 = .ok (.getfield 542, 3) := by decide +kernel
theorem dX10_instance_110 : decode cX10_instance 110 = .ok (.bipush (-9), 2) := by decide +kernel
theorem dX10_instance_112 : decode cX10_instance 112 = .ok (.if_icmp .eq 7, 3) := by decide +kernel
theorem dX10_instance_115 : decode cX10_instance 115 = .ok (.iconst 1, 1) := by decide +kernel
theorem dX10_instance_116 : decode cX10_instance 116 = .ok (.goto 4, 3) := by decide +kernel
theorem dX10_instance_119 : decode cX10_instance 119 = .ok (.iconst 0, 1) := by decide +kernel
theorem dX10_instance_120 : decode cX10_instance 120 = .ok (.ireturn, 1) := by decide +kernel
theorem dX10_instance_121 : decode cX10_instance 121 = .ok (.aload_n 0, 1) := by decide +kernel
theorem dX10_instance_122 : decode cX10_instance 122 = .ok (.getfield 545, 3) := by decide +kernel
theorem dX10_instance_125 : decode cX10_instance 125 = .ok (.iload 4, 2) := by decide +kernel
theorem dX10_instance_127 : decode cX10_instance 127 = .ok (.iadd, 1) := by decide +kernel
theorem dX10_instance_128 : decode cX10_instance 128 = .ok (.iconst 2, 1) := by decide +kernel
theorem dX10_instance_129 : decode cX10_instance 129 = .ok (.if_icmp .gt 26, 3) := by decide +kernel
theorem dX10_instance_132 : decode cX10_instance 132 = .ok (.iload 5, 2) := by decide +kernel
theorem dX10_instance_134 : decode cX10_instance 134 = .ok (.ifCond .eq 17, 3) := by decide +kernel
theorem dX10_instance_137 : decode cX10_instance 137 = .ok (.aload_n 0, 1) := by decide +kernel
theorem dX10_instance_138 : decode cX10_instance 138 = .ok (.getfield 545, 3) := by decide +kernel
theorem dX10_instance_141 : decode cX10_instance 141 = .ok (.ifCond .ne 14, 3) := by decide +kernel
theorem dX10_instance_144 : decode cX10_instance 144 = .ok (.aload_n 0, 1) := by decide +kernel
theorem dX10_instance_145 : decode cX10_instance 145 = .ok (.getfield 548, 3) := by decide +kernel
theorem dX10_instance_148 : decode cX10_instance 148 = .ok (.ifCond .ne 7, 3) := by decide +kernel
theorem dX10_instance_151 : decode cX10_instance 151 = .ok (.iconst 1, 1) := by decide +kernel
theorem dX10_instance_152 : decode cX10_instance 152 = .ok (.goto 4, 3) := by decide +kernel
theorem dX10_instance_155 : decode cX10_instance 155 = .ok (.iconst 0, 1) := by decide +kernel
theorem dX10_instance_156 : decode cX10_instance 156 = .ok (.istore 8, 2) := by decide +kernel
theorem dX10_instance_158 : decode cX10_instance 158 = .ok (.aload_n 0, 1) := by decide +kernel
theorem dX10_instance_159 : decode cX10_instance 159 = .ok (.iload_n 3, 1) := by decide +kernel
theorem dX10_instance_160 : decode cX10_instance 160 = .ok (.putfield 542, 3) := by decide +kernel
theorem dX10_instance_163 : decode cX10_instance 163 = .ok (.aload_n 0, 1) := by decide +kernel
theorem dX10_instance_164 : decode cX10_instance 164 = .ok (.dup, 1) := by decide +kernel
theorem dX10_instance_165 : decode cX10_instance 165 = .ok (.getfield 545, 3) := by decide +kernel
theorem dX10_instance_168 : decode cX10_instance 168 = .ok (.iload 4, 2) := by decide +kernel
theorem dX10_instance_170 : decode cX10_instance 170 = .ok (.iadd, 1) := by decide +kernel
theorem dX10_instance_171 : decode cX10_instance 171 = .ok (.putfield 545, 3) := by decide +kernel
theorem dX10_instance_174 : decode cX10_instance 174 = .ok (.aload_n 0, 1) := by decide +kernel
theorem dX10_instance_175 : decode cX10_instance 175 = .ok (.aload_n 0, 1) := by decide +kernel
theorem dX10_instance_176 : decode cX10_instance 176 = .ok (.getfield 548, 3) := by decide +kernel
theorem dX10_instance_179 : decode cX10_instance 179 = .ok (.ifCond .le 10, 3) := by decide +kernel
theorem dX10_instance_182 : decode cX10_instance 182 = .ok (.aload_n 0, 1) := by decide +kernel
theorem dX10_instance_183 : decode cX10_instance 183 = .ok (.getfield 548, 3) := by decide +kernel
theorem dX10_instance_186 : decode cX10_instance 186 = .ok (.goto 5, 3) := by decide +kernel
theorem dX10_instance_189 : decode cX10_instance 189 = .ok (.iload 5, 2) := by decide +kernel
theorem dX10_instance_191 : decode cX10_instance 191 = .ok (.putfield 548, 3) := by decide +kernel
theorem dX10_instance_194 : decode cX10_instance 194 = .ok (.iload 8, 2) := by decide +kernel
theorem dX10_instance_196 : decode cX10_instance 196 = .ok (.ireturn, 1) := by decide +kernel
/-! AlgebraHouseModel.instance(IIIII)Z -/
def P_X10_instance (x1 : Int) (x2 : Int) (x3 : Int) (x4 : Int) (x5 : Int) (m : MM) (Q : Int → MM → Prop) : Prop := ((RI x2) ∧ (if 0 ≤ x2 then ((0 ≤ ((3 * x1) + x2) ∧ ((3 * x1) + x2) < 63)) else ((0 ≤ x1 ∧ x1 < 21)))) ∧ ∀ m1 : MM, m1 = up m 582 70 (if 0 ≤ x2 then (m 615 ((3 * x1) + x2)) else (m 612 x1) : Int) → ((RI x2) ∧ (if 0 ≤ x2 then ((0 ≤ ((3 * x1) + x2) ∧ ((3 * x1) + x2) < 63)) else ((0 ≤ x1 ∧ x1 < 21)))) ∧ ∀ m2 : MM, m2 = up m1 582 71 (if 0 ≤ x2 then (m1 616 ((3 * x1) + x2)) else (m1 613 x1) : Int) → ((RI x2) ∧ (if 0 ≤ x2 then ((0 ≤ ((3 * x1) + x2) ∧ ((3 * x1) + x2) < 63)) else ((0 ≤ x1 ∧ x1 < 21)))) ∧ ∀ m3 : MM, m3 = up m2 582 72 (if 0 ≤ x2 then (m2 617 ((3 * x1) + x2)) else (m2 614 x1) : Int) → ((RI x2) ∧ (if 0 ≤ x2 then ((0 ≤ ((3 * x1) + x2) ∧ ((3 * x1) + x2) < 63)) else ((0 ≤ x1 ∧ x1 < 21)))) ∧ (RI (if 0 ≤ x2 then (m3 622 ((3 * x1) + x2)) else (m3 621 x1) : Int)) ∧ (if (if 0 ≤ x2 then (m3 622 ((3 * x1) + x2)) else (m3 621 x1) : Int) = 0 then (RI (m3 582 70)) ∧ (if (m3 582 70) = (-9) then Q 0 m3 else Q 1 m3) else ((RI ((m3 582 71) + x4)) ∧ (if 2 < ((m3 582 71) + x4) then True else ((RI x5) ∧ (if x5 = 0 then True else ((RI (m3 582 71)) ∧ (if (m3 582 71) = 0 then ((RI (m3 582 72))) else True)))))) ∧ ∀ m4 : MM, m4 = up m3 582 70 x3 → ∀ m5 : MM, m5 = up m4 582 71 ((m4 582 71) + x4) → (RI (m5 582 72)) ∧ (if (m5 582 72) ≤ 0 then ∀ m6 : MM, m6 = up m5 582 72 x5 → ((if 2 < ((m3 582 71) + x4) then 0 else (if x5 = 0 then 1 else (if (m3 582 71) = 0 then (if (m3 582 72) = 0 then 1 else 0 : Int) else 0 : Int) : Int) : Int) = 0 ∨ (if 2 < ((m3 582 71) + x4) then 0 else (if x5 = 0 then 1 else (if (m3 582 71) = 0 then (if (m3 582 72) = 0 then 1 else 0 : Int) else 0 : Int) : Int) : Int) = 1) ∧ Q (if 2 < ((m3 582 71) + x4) then 0 else (if x5 = 0 then 1 else (if (m3 582 71) = 0 then (if (m3 582 72) = 0 then 1 else 0 : Int) else 0 : Int) : Int) : Int) m6 else ∀ m7 : MM, m7 = up m5 582 72 (m5 582 72) → ((if 2 < ((m3 582 71) + x4) then 0 else (if x5 = 0 then 1 else (if (m3 582 71) = 0 then (if (m3 582 72) = 0 then 1 else 0 : Int) else 0 : Int) : Int) : Int) = 0 ∨ (if 2 < ((m3 582 71) + x4) then 0 else (if x5 = 0 then 1 else (if (m3 582 71) = 0 then (if (m3 582 72) = 0 then 1 else 0 : Int) else 0 : Int) : Int) : Int) = 1) ∧ Q (if 2 < ((m3 582 71) + x4) then 0 else (if x5 = 0 then 1 else (if (m3 582 71) = 0 then (if (m3 582 72) = 0 then 1 else 0 : Int) else 0 : Int) : Int) : Int) m7))
theorem p_X10_instance {f : Nat} {Q : Int → MM → Prop} {T : MM → Prop} (hf : 1 ≤ f) (x1 : Int) (x2 : Int) (x3 : Int) (x4 : Int) (x5 : Int) (m : MM) (h : P_X10_instance x1 x2 x3 x4 x5 m Q) : CC f M_X10_instance [vR 582, vI x1, vI x2, vI x3, vI x4, vI x5] m Q T := by
  refine CC.of (plainFor_of_name (by decide)) (Nat.le_of_ble_eq_true rfl) (ls := [vR 582, vI x1, vI x2, vI x3, vI x4, vI x5, vU, vU, vU]) rfl ?_
  have h : ((RI x2) ∧ (if 0 ≤ x2 then ((0 ≤ ((3 * x1) + x2) ∧ ((3 * x1) + x2) < 63)) else ((0 ≤ x1 ∧ x1 < 21)))) ∧ ∀ m1 : MM, m1 = up m 582 70 (if 0 ≤ x2 then (m 615 ((3 * x1) + x2)) else (m 612 x1) : Int) → ((RI x2) ∧ (if 0 ≤ x2 then ((0 ≤ ((3 * x1) + x2) ∧ ((3 * x1) + x2) < 63)) else ((0 ≤ x1 ∧ x1 < 21)))) ∧ ∀ m2 : MM, m2 = up m1 582 71 (if 0 ≤ x2 then (m1 616 ((3 * x1) + x2)) else (m1 613 x1) : Int) → ((RI x2) ∧ (if 0 ≤ x2 then ((0 ≤ ((3 * x1) + x2) ∧ ((3 * x1) + x2) < 63)) else ((0 ≤ x1 ∧ x1 < 21)))) ∧ ∀ m3 : MM, m3 = up m2 582 72 (if 0 ≤ x2 then (m2 617 ((3 * x1) + x2)) else (m2 614 x1) : Int) → ((RI x2) ∧ (if 0 ≤ x2 then ((0 ≤ ((3 * x1) + x2) ∧ ((3 * x1) + x2) < 63)) else ((0 ≤ x1 ∧ x1 < 21)))) ∧ (RI (if 0 ≤ x2 then (m3 622 ((3 * x1) + x2)) else (m3 621 x1) : Int)) ∧ (if (if 0 ≤ x2 then (m3 622 ((3 * x1) + x2)) else (m3 621 x1) : Int) = 0 then (RI (m3 582 70)) ∧ (if (m3 582 70) = (-9) then Q 0 m3 else Q 1 m3) else ((RI ((m3 582 71) + x4)) ∧ (if 2 < ((m3 582 71) + x4) then True else ((RI x5) ∧ (if x5 = 0 then True else ((RI (m3 582 71)) ∧ (if (m3 582 71) = 0 then ((RI (m3 582 72))) else True)))))) ∧ ∀ m4 : MM, m4 = up m3 582 70 x3 → ∀ m5 : MM, m5 = up m4 582 71 ((m4 582 71) + x4) → (RI (m5 582 72)) ∧ (if (m5 582 72) ≤ 0 then ∀ m6 : MM, m6 = up m5 582 72 x5 → ((if 2 < ((m3 582 71) + x4) then 0 else (if x5 = 0 then 1 else (if (m3 582 71) = 0 then (if (m3 582 72) = 0 then 1 else 0 : Int) else 0 : Int) : Int) : Int) = 0 ∨ (if 2 < ((m3 582 71) + x4) then 0 else (if x5 = 0 then 1 else (if (m3 582 71) = 0 then (if (m3 582 72) = 0 then 1 else 0 : Int) else 0 : Int) : Int) : Int) = 1) ∧ Q (if 2 < ((m3 582 71) + x4) then 0 else (if x5 = 0 then 1 else (if (m3 582 71) = 0 then (if (m3 582 72) = 0 then 1 else 0 : Int) else 0 : Int) : Int) : Int) m6 else ∀ m7 : MM, m7 = up m5 582 72 (m5 582 72) → ((if 2 < ((m3 582 71) + x4) then 0 else (if x5 = 0 then 1 else (if (m3 582 71) = 0 then (if (m3 582 72) = 0 then 1 else 0 : Int) else 0 : Int) : Int) : Int) = 0 ∨ (if 2 < ((m3 582 71) + x4) then 0 else (if x5 = 0 then 1 else (if (m3 582 71) = 0 then (if (m3 582 72) = 0 then 1 else 0 : Int) else 0 : Int) : Int) : Int) = 1) ∧ Q (if 2 < ((m3 582 71) + x4) then 0 else (if x5 = 0 then 1 else (if (m3 582 71) = 0 then (if (m3 582 72) = 0 then 1 else 0 : Int) else 0 : Int) : Int) : Int) m7)) := h
  refine b_iconst dX10_instance_0 ?_
  refine b_iload_n dX10_instance_1 rfl ?_
  refine b_imul dX10_instance_2 ?_
  refine b_iload_n dX10_instance_3 rfl ?_
  refine b_iadd dX10_instance_4 ?_
  refine b_istore (ls' := [vR 582, vI x1, vI x2, vI x3, vI x4, vI x5, vI ((3 * x1) + x2), vU, vU]) dX10_instance_5 (Nat.le_of_ble_eq_true rfl) rfl ?_
  refine b_aload_n dX10_instance_7 rfl ?_
  refine b_iload_n dX10_instance_8 rfl ?_
  obtain ⟨hs, h⟩ := h
  have K : B f M_X10_instance 28 [vR 582, vI x1, vI x2, vI x3, vI x4, vI x5, vI ((3 * x1) + x2), vU, vU] [vI (if 0 ≤ x2 then (m 615 ((3 * x1) + x2)) else (m 612 x1) : Int), vR 582] m Q T := by
    clear hs
    refine b_putI dX10_instance_28 fk_X10_542 ly_582 (fun m1 em1 => ?_)
    have h := h m1 em1
    refine b_aload_n dX10_instance_31 rfl ?_
    refine b_iload_n dX10_instance_32 rfl ?_
    obtain ⟨hs, h⟩ := h
    have K : B f M_X10_instance 52 [vR 582, vI x1, vI x2, vI x3, vI x4, vI x5, vI ((3 * x1) + x2), vU, vU] [vI (if 0 ≤ x2 then (m1 616 ((3 * x1) + x2)) else (m1 613 x1) : Int), vR 582] m1 Q T := by
      clear hs
      refine b_putI dX10_instance_52 fk_X10_545 ly_582 (fun m2 em2 => ?_)
      have h := h m2 em2
      refine b_aload_n dX10_instance_55 rfl ?_
      refine b_iload_n dX10_instance_56 rfl ?_
      obtain ⟨hs, h⟩ := h
      have K : B f M_X10_instance 76 [vR 582, vI x1, vI x2, vI x3, vI x4, vI x5, vI ((3 * x1) + x2), vU, vU] [vI (if 0 ≤ x2 then (m2 617 ((3 * x1) + x2)) else (m2 614 x1) : Int), vR 582] m2 Q T := by
        clear hs
        refine b_putI dX10_instance_76 fk_X10_548 ly_582 (fun m3 em3 => ?_)
        have h := h m3 em3
        refine b_iload_n dX10_instance_79 rfl ?_
        obtain ⟨hs, h⟩ := h
        have K : B f M_X10_instance 99 [vR 582, vI x1, vI x2, vI x3, vI x4, vI x5, vI ((3 * x1) + x2), vU, vU] [vI (if 0 ≤ x2 then (m3 622 ((3 * x1) + x2)) else (m3 621 x1) : Int)] m3 Q T := by
          clear hs
          refine b_istore (ls' := [vR 582, vI x1, vI x2, vI x3, vI x4, vI x5, vI ((3 * x1) + x2), vI (if 0 ≤ x2 then (m3 622 ((3 * x1) + x2)) else (m3 621 x1) : Int), vU]) dX10_instance_99 (Nat.le_of_ble_eq_true rfl) rfl ?_
          refine b_iload dX10_instance_101 rfl ?_
          obtain ⟨g13, h⟩ := h
          refine b_if_ne 121 dX10_instance_103 g13 (by decide) (fun c1 => ?_) (fun c1 => ?_)
          · have h := ifF c1 h
            refine b_aload_n dX10_instance_121 rfl ?_
            refine b_getI dX10_instance_122 fk_X10_545 ly_582 ?_
            refine b_iload dX10_instance_125 rfl ?_
            refine b_iadd dX10_instance_127 ?_
            refine b_iconst dX10_instance_128 ?_
            obtain ⟨hs, h⟩ := h
            have K : B f M_X10_instance 156 [vR 582, vI x1, vI x2, vI x3, vI x4, vI x5, vI ((3 * x1) + x2), vI (if 0 ≤ x2 then (m3 622 ((3 * x1) + x2)) else (m3 621 x1) : Int), vU] [vI (if 2 < ((m3 582 71) + x4) then 0 else (if x5 = 0 then 1 else (if (m3 582 71) = 0 then (if (m3 582 72) = 0 then 1 else 0 : Int) else 0 : Int) : Int) : Int)] m3 Q T := by
              clear hs
              refine b_istore (ls' := [vR 582, vI x1, vI x2, vI x3, vI x4, vI x5, vI ((3 * x1) + x2), vI (if 0 ≤ x2 then (m3 622 ((3 * x1) + x2)) else (m3 621 x1) : Int), vI (if 2 < ((m3 582 71) + x4) then 0 else (if x5 = 0 then 1 else (if (m3 582 71) = 0 then (if (m3 582 72) = 0 then 1 else 0 : Int) else 0 : Int) : Int) : Int)]) dX10_instance_156 (Nat.le_of_ble_eq_true rfl) rfl ?_
              refine b_aload_n dX10_instance_158 rfl ?_
              refine b_iload_n dX10_instance_159 rfl ?_
              refine b_putI dX10_instance_160 fk_X10_542 ly_582 (fun m4 em4 => ?_)
              have h := h m4 em4
              refine b_aload_n dX10_instance_163 rfl ?_
              refine b_dup dX10_instance_164 rfl ?_
              refine b_getI dX10_instance_165 fk_X10_545 ly_582 ?_
              refine b_iload dX10_instance_168 rfl ?_
              refine b_iadd dX10_instance_170 ?_
              refine b_putI dX10_instance_171 fk_X10_545 ly_582 (fun m5 em5 => ?_)
              have h := h m5 em5
              refine b_aload_n dX10_instance_174 rfl ?_
              refine b_aload_n dX10_instance_175 rfl ?_
              refine b_getI dX10_instance_176 fk_X10_548 ly_582 ?_
              obtain ⟨g18, h⟩ := h
              refine b_if_le 189 dX10_instance_179 g18 (by decide) (fun c2 => ?_) (fun c2 => ?_)
              · have h := ifT c2 h
                refine b_iload dX10_instance_189 rfl ?_
                refine b_putI dX10_instance_191 fk_X10_548 ly_582 (fun m6 em6 => ?_)
                have h := h m6 em6
                refine b_iload dX10_instance_194 rfl ?_
                obtain ⟨g19, h⟩ := h
                exact b_zret dX10_instance_196 rfl g19 h
              · have h := ifF c2 h
                refine b_aload_n dX10_instance_182 rfl ?_
                refine b_getI dX10_instance_183 fk_X10_548 ly_582 ?_
                refine b_goto 191 dX10_instance_186 (by decide) ?_
                refine b_putI dX10_instance_191 fk_X10_548 ly_582 (fun m7 em7 => ?_)
                have h := h m7 em7
                refine b_iload dX10_instance_194 rfl ?_
                obtain ⟨g20, h⟩ := h
                exact b_zret dX10_instance_196 rfl g20 h
            obtain ⟨g14, hs⟩ := hs
            refine b_icmp_gt 155 dX10_instance_129 g14 (by decide) (by decide) (fun c3 => ?_) (fun c3 => ?_)
            ·
              refine b_iconst dX10_instance_155 ?_
              rw [if_pos c3] at K
              exact K
            ·
              have hs := ifF c3 hs
              obtain ⟨g15, hs⟩ := hs
              refine b_iload dX10_instance_132 rfl ?_
              refine b_if_eq 151 dX10_instance_134 g15 (by decide) (fun c4 => ?_) (fun c4 => ?_)
              ·
                refine b_iconst dX10_instance_151 ?_
                refine b_goto 156 dX10_instance_152 (by decide) ?_
                rw [if_neg c3, if_pos c4] at K
                exact K
              ·
                have hs := ifF c4 hs
                obtain ⟨g16, hs⟩ := hs
                refine b_aload_n dX10_instance_137 rfl ?_
                refine b_getI dX10_instance_138 fk_X10_545 ly_582 ?_
                refine b_if_ne 155 dX10_instance_141 g16 (by decide) (fun c5 => ?_) (fun c5 => ?_)
                ·
                  refine b_iconst dX10_instance_155 ?_
                  rw [if_neg c3, if_neg c4, if_neg c5] at K
                  exact K
                ·
                  have c5 := Decidable.of_not_not c5
                  have hs := ifT c5 hs
                  have g17 := hs
                  refine b_aload_n dX10_instance_144 rfl ?_
                  refine b_getI dX10_instance_145 fk_X10_548 ly_582 ?_
                  refine b_if_ne 155 dX10_instance_148 g17 (by decide) (fun c6 => ?_) (fun c6 => ?_)
                  ·
                    refine b_iconst dX10_instance_155 ?_
                    rw [if_neg c3, if_neg c4, if_pos c5, if_neg c6] at K
                    exact K
                  ·
                    have c6 := Decidable.of_not_not c6
                    refine b_iconst dX10_instance_151 ?_
                    refine b_goto 156 dX10_instance_152 (by decide) ?_
                    rw [if_neg c3, if_neg c4, if_pos c5, if_pos c6] at K
                    exact K
          · have h := ifT (Decidable.of_not_not c1) h
            refine b_aload_n dX10_instance_106 rfl ?_
            refine b_getI dX10_instance_107 fk_X10_542 ly_582 ?_
            refine b_bipush dX10_instance_110 (by decide) ?_
            obtain ⟨g21, h⟩ := h
            refine b_icmp_eq 119 dX10_instance_112 g21 (by decide) (by decide) (fun c7 => ?_) (fun c7 => ?_)
            · have h := ifT c7 h
              refine b_iconst dX10_instance_119 ?_
              exact b_zret dX10_instance_120 rfl (Or.inl rfl) h
            · have h := ifF c7 h
              refine b_iconst dX10_instance_115 ?_
              refine b_goto 120 dX10_instance_116 (by decide) ?_
              exact b_zret dX10_instance_120 rfl (Or.inr rfl) h
        obtain ⟨g10, hs⟩ := hs
        refine b_if_ge 92 dX10_instance_80 g10 (by decide) (fun c8 => ?_) (fun c8 => ?_)
        ·
          have hs := ifT c8 hs
          have g11 := hs
          refine b_aload_n dX10_instance_92 rfl ?_
          refine b_getR dX10_instance_93 fk_X10_203 ly_582 gg_582_51 ?_
          refine b_iload dX10_instance_96 rfl ?_
          refine b_zald dX10_instance_98 ly_622 g11 ?_
          rw [if_pos c8] at K
          exact K
        ·
          have hs := ifF c8 hs
          have g12 := hs
          refine b_aload_n dX10_instance_83 rfl ?_
          refine b_getR dX10_instance_84 fk_X10_200 ly_582 gg_582_50 ?_
          refine b_iload_n dX10_instance_87 rfl ?_
          refine b_zald dX10_instance_88 ly_621 g12 ?_
          refine b_goto 99 dX10_instance_89 (by decide) ?_
          rw [if_neg c8] at K
          exact K
      obtain ⟨g7, hs⟩ := hs
      refine b_if_ge 69 dX10_instance_57 g7 (by decide) (fun c9 => ?_) (fun c9 => ?_)
      ·
        have hs := ifT c9 hs
        have g8 := hs
        refine b_aload_n dX10_instance_69 rfl ?_
        refine b_getR dX10_instance_70 fk_X10_188 ly_582 gg_582_46 ?_
        refine b_iload dX10_instance_73 rfl ?_
        refine b_iald dX10_instance_75 ly_617 g8 ?_
        rw [if_pos c9] at K
        exact K
      ·
        have hs := ifF c9 hs
        have g9 := hs
        refine b_aload_n dX10_instance_60 rfl ?_
        refine b_getR dX10_instance_61 fk_X10_179 ly_582 gg_582_43 ?_
        refine b_iload_n dX10_instance_64 rfl ?_
        refine b_iald dX10_instance_65 ly_614 g9 ?_
        refine b_goto 76 dX10_instance_66 (by decide) ?_
        rw [if_neg c9] at K
        exact K
    obtain ⟨g4, hs⟩ := hs
    refine b_if_ge 45 dX10_instance_33 g4 (by decide) (fun c10 => ?_) (fun c10 => ?_)
    ·
      have hs := ifT c10 hs
      have g5 := hs
      refine b_aload_n dX10_instance_45 rfl ?_
      refine b_getR dX10_instance_46 fk_X10_185 ly_582 gg_582_45 ?_
      refine b_iload dX10_instance_49 rfl ?_
      refine b_iald dX10_instance_51 ly_616 g5 ?_
      rw [if_pos c10] at K
      exact K
    ·
      have hs := ifF c10 hs
      have g6 := hs
      refine b_aload_n dX10_instance_36 rfl ?_
      refine b_getR dX10_instance_37 fk_X10_176 ly_582 gg_582_42 ?_
      refine b_iload_n dX10_instance_40 rfl ?_
      refine b_iald dX10_instance_41 ly_613 g6 ?_
      refine b_goto 52 dX10_instance_42 (by decide) ?_
      rw [if_neg c10] at K
      exact K
  obtain ⟨g1, hs⟩ := hs
  refine b_if_ge 21 dX10_instance_9 g1 (by decide) (fun c11 => ?_) (fun c11 => ?_)
  ·
    have hs := ifT c11 hs
    have g2 := hs
    refine b_aload_n dX10_instance_21 rfl ?_
    refine b_getR dX10_instance_22 fk_X10_182 ly_582 gg_582_44 ?_
    refine b_iload dX10_instance_25 rfl ?_
    refine b_iald dX10_instance_27 ly_615 g2 ?_
    rw [if_pos c11] at K
    exact K
  ·
    have hs := ifF c11 hs
    have g3 := hs
    refine b_aload_n dX10_instance_12 rfl ?_
    refine b_getR dX10_instance_13 fk_X10_173 ly_582 gg_582_41 ?_
    refine b_iload_n dX10_instance_16 rfl ?_
    refine b_iald dX10_instance_17 ly_612 g3 ?_
    refine b_goto 28 dX10_instance_18 (by decide) ?_
    rw [if_neg c11] at K
    exact K
theorem dX10_canBe_0 : decode cX10_canBe 0 = .ok (.iload_n 2, 1) := by decide +kernel
theorem dX10_canBe_1 : decode cX10_canBe 1 = .ok (.bipush (-9), 2) := by decide +kernel
theorem dX10_canBe_3 : decode cX10_canBe 3 = .ok (.if_icmp .eq 9, 3) := by decide +kernel
theorem dX10_canBe_6 : decode cX10_canBe 6 = .ok (.iload_n 2, 1) := by decide +kernel
theorem dX10_canBe_7 : decode cX10_canBe 7 = .ok (.bipush (-2), 2) := by decide +kernel
theorem dX10_canBe_9 : decode cX10_canBe 9 = .ok (.if_icmp .ne 5, 3) := by decide +kernel
theorem dX10_canBe_12 : decode cX10_canBe 12 = .ok (.iconst 0, 1) := by decide +kernel
theorem dX10_canBe_13 : decode cX10_canBe 13 = .ok (.ireturn, 1) := by decide +kernel
theorem dX10_canBe_14 : decode cX10_canBe 14 = .ok (.aload_n 0, 1) := by decide +kernel
theorem dX10_canBe_15 : decode cX10_canBe 15 = .ok (.getfield 170, 3) := by decide +kernel
theorem dX10_canBe_18 : decode cX10_canBe 18 = .ok (.iload_n 1, 1) := by decide +kernel
theorem dX10_canBe_19 : decode cX10_canBe 19 = .ok (.iaload, 1) := by decide +kernel
theorem dX10_canBe_20 : decode cX10_canBe 20 = .ok (.iconst 1, 1) := by decide +kernel
theorem dX10_canBe_21 : decode cX10_canBe 21 = .ok (.if_icmp .le 8, 3) := by decide +kernel
theorem dX10_canBe_24 : decode cX10_canBe 24 = .ok (.iload 4, 2) := by decide +kernel
theorem dX10_canBe_26 : decode cX10_canBe 26 = .ok (.ifCond .gt 24, 3) := by decide +kernel
theorem dX10_canBe_29 : decode cX10_canBe 29 = .ok (.aload_n 0, 1) := by decide +kernel
theorem dX10_canBe_30 : decode cX10_canBe 30 = .ok (.getfield 170, 3) := by decide +kernel
theorem dX10_canBe_33 : decode cX10_canBe 33 = .ok (.iload_n 1, 1) := by decide +kernel
theorem dX10_canBe_34 : decode cX10_canBe 34 = .ok (.iaload, 1) := by decide +kernel
theorem dX10_canBe_35 : decode cX10_canBe 35 = .ok (.iconst 3, 1) := by decide +kernel
theorem dX10_canBe_36 : decode cX10_canBe 36 = .ok (.if_icmp .ne 16, 3) := by decide +kernel
theorem dX10_canBe_39 : decode cX10_canBe 39 = .ok (.iload_n 3, 1) := by decide +kernel
theorem dX10_canBe_40 : decode cX10_canBe 40 = .ok (.ifCond .gt 10, 3) := by decide +kernel
theorem dX10_canBe_43 : decode cX10_canBe 43 = .ok (.iload_n 2, 1) := by decide +kernel
theorem dX10_canBe_44 : decode cX10_canBe 44 = .ok (.invokestatic 493, 3) := by decide +kernel
theorem dX10_canBe_47 : decode cX10_canBe 47 = .ok (.ifCond .ne 5, 3) := by decide +kernel
theorem dX10_canBe_50 : decode cX10_canBe 50 = .ok (.iconst 0, 1) := by decide +kernel
theorem dX10_canBe_51 : decode cX10_canBe 51 = .ok (.ireturn, 1) := by decide +kernel
theorem dX10_canBe_52 : decode cX10_canBe 52 = .ok (.iconst 1, 1) := by decide +kernel
theorem dX10_canBe_53 : decode cX10_canBe 53 = .ok (.istore 5, 2) := by decide +kernel
theorem dX10_canBe_55 : decode cX10_canBe 55 = .ok (.iconst (-1), 1) := by decide +kernel
theorem dX10_canBe_56 : decode cX10_canBe 56 = .ok (.istore 6, 2) := by decide +kernel
theorem dX10_canBe_58 : decode cX10_canBe 58 = .ok (.iload 6, 2) := by decide +kernel
theorem dX10_canBe_60 : decode cX10_canBe 60 = .ok (.aload_n 0, 1) := by decide +kernel
theorem dX10_canBe_61 : decode cX10_canBe 61 = .ok (.getfield 164, 3) := by decide +kernel
theorem dX10_canBe_64 : decode cX10_canBe 64 = .ok (.iload_n 1, 1) := by decide +kernel
theorem dX10_canBe_65 : decode cX10_canBe 65 = .ok (.iaload, 1) := by decide +kernel
theorem dX10_canBe_66 : decode cX10_canBe 66 = .ok (.if_icmp .ge 35, 3) := by decide +kernel
theorem dX10_canBe_69 : decode cX10_canBe 69 = .ok (.iload 5, 2) := by decide +kernel
theorem dX10_canBe_71 : decode cX10_canBe 71 = .ok (.ifCond .eq 21, 3) := by decide +kernel
theorem dX10_canBe_74 : decode cX10_canBe 74 = .ok (.aload_n 0, 1) := by decide +kernel
theorem dX10_canBe_75 : decode cX10_canBe 75 = .ok (.iload_n 1, 1) := by decide +kernel
theorem dX10_canBe_76 : decode cX10_canBe 76 = .ok (.iload 6, 2) := by decide +kernel
theorem dX10_canBe_78 : decode cX10_canBe 78 = .ok (.iload_n 2, 1) := by decide +kernel
theorem dX10_canBe_79 : decode cX10_canBe 79 = .ok (.iload_n 3, 1) := by decide +kernel
theorem dX10_canBe_80 : decode cX10_canBe 80 = .ok (.iload 4, 2) := by decide +kernel
theorem dX10_canBe_82 : decode cX10_canBe 82 = .ok (.invokevirtual 538, 3) := by decide +kernel
theorem dX10_canBe_85 : decode cX10_canBe 85 = .ok (.ifCond .eq 7, 3) := by decide +kernel
theorem dX10_canBe_88 : decode cX10_canBe 88 = .ok (.iconst 1, 1) := by decide +kernel
theorem dX10_canBe_89 : decode cX10_canBe 89 = .ok (.goto 4, 3) := by decide +kernel
theorem dX10_canBe_92 : decode cX10_canBe 92 = .ok (.iconst 0, 1) := by decide +kernel
theorem dX10_canBe_93 : decode cX10_canBe 93 = .ok (.istore 5, 2) := by decide +kernel
theorem dX10_canBe_95 : decode cX10_canBe 95 = .ok (.iinc 6 1, 3) := by decide +kernel
theorem dX10_canBe_98 : decode cX10_canBe 98 = .ok (.goto (-40), 3) := by decide +kernel
theorem dX10_canBe_101 : decode cX10_canBe 101 = .ok (.iload 5, 2) := by decide +kernel
theorem dX10_canBe_103 : decode cX10_canBe 103 = .ok (.ireturn, 1) := by decide +kernel
/-! AlgebraHouseModel.canBe(IIII)Z -/
def P_X10_canBe_58 (Q : Int → MM → Prop) : Nat → Int → Int → Int → Int → Int → Int → MM → Prop
  | 0, _, _, _, _, _, _, _ => False
  | n + 1, x1, x2, x3, x4, x5, x6, m => (0 ≤ x1 ∧ x1 < 21) ∧ (RI x6) ∧ (RI (m 609 x1)) ∧ (if (m 609 x1) ≤ x6 then (x5 = 0 ∨ x5 = 1) ∧ Q x5 m else (RI x5) ∧ (if x5 = 0 then P_X10_canBe_58 Q n x1 x2 x3 x4 0 (x6 + 1) m else P_X10_instance x1 x6 x2 x3 x4 m (fun r1 m1 => (RI r1) ∧ (if r1 = 0 then P_X10_canBe_58 Q n x1 x2 x3 x4 0 (x6 + 1) m1 else P_X10_canBe_58 Q n x1 x2 x3 x4 1 (x6 + 1) m1))))
def P_X10_canBe_29 (Q : Int → MM → Prop) (x1 : Int) (x2 : Int) (x3 : Int) (x4 : Int) (m : MM) : Prop := (0 ≤ x1 ∧ x1 < 21) ∧ (RI (m 611 x1)) ∧ (if (m 611 x1) = 3 then (RI x3) ∧ (if 0 < x3 then Q 0 m else P_X10_isField x2 m (fun r1 m1 => (RI r1) ∧ (if r1 = 0 then Q 0 m1 else ∃ nn, P_X10_canBe_58 Q nn x1 x2 x3 x4 1 (-1) m1))) else ∃ nn, P_X10_canBe_58 Q nn x1 x2 x3 x4 1 (-1) m)
def P_X10_canBe (x1 : Int) (x2 : Int) (x3 : Int) (x4 : Int) (m : MM) (Q : Int → MM → Prop) : Prop := (RI x2) ∧ (if x2 = (-9) then Q 0 m else (if x2 = (-2) then Q 0 m else (0 ≤ x1 ∧ x1 < 21) ∧ (RI (m 611 x1)) ∧ (if (m 611 x1) ≤ 1 then P_X10_canBe_29 Q x1 x2 x3 x4 m else (RI x4) ∧ (if 0 < x4 then Q 0 m else P_X10_canBe_29 Q x1 x2 x3 x4 m))))
theorem pl_X10_canBe_58 {f : Nat} {Q : Int → MM → Prop} {T : MM → Prop} (hf : 2 ≤ f) : ∀ (n : Nat) (x1 : Int) (x2 : Int) (x3 : Int) (x4 : Int) (x5 : Int) (x6 : Int) (m : MM), P_X10_canBe_58 Q n x1 x2 x3 x4 x5 x6 m → B f M_X10_canBe 58 [vR 582, vI x1, vI x2, vI x3, vI x4, vI x5, vI x6] [] m Q T := by
  intro n
  induction n with
  | zero => intro x1 x2 x3 x4 x5 x6 m h; exact h.elim
  | succ n ih =>
    intro x1 x2 x3 x4 x5 x6 m h
    have h : (0 ≤ x1 ∧ x1 < 21) ∧ (RI x6) ∧ (RI (m 609 x1)) ∧ (if (m 609 x1) ≤ x6 then (x5 = 0 ∨ x5 = 1) ∧ Q x5 m else (RI x5) ∧ (if x5 = 0 then P_X10_canBe_58 Q n x1 x2 x3 x4 0 (x6 + 1) m else P_X10_instance x1 x6 x2 x3 x4 m (fun r1 m1 => (RI r1) ∧ (if r1 = 0 then P_X10_canBe_58 Q n x1 x2 x3 x4 0 (x6 + 1) m1 else P_X10_canBe_58 Q n x1 x2 x3 x4 1 (x6 + 1) m1)))) := h
    refine b_iload dX10_canBe_58 rfl ?_
    refine b_aload_n dX10_canBe_60 rfl ?_
    refine b_getR dX10_canBe_61 fk_X10_164 ly_582 gg_582_38 ?_
    refine b_iload_n dX10_canBe_64 rfl ?_
    obtain ⟨g1, h⟩ := h
    refine b_iald dX10_canBe_65 ly_609 g1 ?_
    obtain ⟨g2, h⟩ := h
    obtain ⟨g3, h⟩ := h
    refine b_icmp_ge 101 dX10_canBe_66 g2 g3 (by decide) (fun c1 => ?_) (fun c1 => ?_)
    · have h := ifT c1 h
      refine b_iload dX10_canBe_101 rfl ?_
      obtain ⟨g4, h⟩ := h
      exact b_zret dX10_canBe_103 rfl g4 h
    · have h := ifF c1 h
      refine b_iload dX10_canBe_69 rfl ?_
      obtain ⟨g5, h⟩ := h
      refine b_if_eq 92 dX10_canBe_71 g5 (by decide) (fun c2 => ?_) (fun c2 => ?_)
      · have h := ifT c2 h
        refine b_iconst dX10_canBe_92 ?_
        refine b_istore (ls' := [vR 582, vI x1, vI x2, vI x3, vI x4, vI 0, vI x6]) dX10_canBe_93 (Nat.le_of_ble_eq_true rfl) rfl ?_
        refine b_iinc (ls' := [vR 582, vI x1, vI x2, vI x3, vI x4, vI 0, vI (x6 + 1)]) dX10_canBe_95 rfl rfl ?_
        refine b_goto 58 dX10_canBe_98 (by decide) ?_
        exact ih _ _ _ _ _ _ _ h
      · have h := ifF c2 h
        refine b_aload_n dX10_canBe_74 rfl ?_
        refine b_iload_n dX10_canBe_75 rfl ?_
        refine b_iload dX10_canBe_76 rfl ?_
        refine b_iload_n dX10_canBe_78 rfl ?_
        refine b_iload_n dX10_canBe_79 rfl ?_
        refine b_iload dX10_canBe_80 rfl ?_
        refine b_cVi (as := [vI x1, vI x6, vI x2, vI x3, vI x4]) (st := []) dX10_canBe_82 mf_X10_instance qs137 lk_X10_538 ly_582 rfl (p_X10_instance (f := 1) (Nat.le_refl _) _ _ _ _ _ _ h) (by omega) rfl rfl (Nat.le_of_ble_eq_true rfl) (by decide) rfl (fun _ => rfl) (fun r1 m1 h => ?_) (fun _ h => h)
        obtain ⟨g6, h⟩ := h
        refine b_if_eq 92 dX10_canBe_85 g6 (by decide) (fun c3 => ?_) (fun c3 => ?_)
        · have h := ifT c3 h
          refine b_iconst dX10_canBe_92 ?_
          refine b_istore (ls' := [vR 582, vI x1, vI x2, vI x3, vI x4, vI 0, vI x6]) dX10_canBe_93 (Nat.le_of_ble_eq_true rfl) rfl ?_
          refine b_iinc (ls' := [vR 582, vI x1, vI x2, vI x3, vI x4, vI 0, vI (x6 + 1)]) dX10_canBe_95 rfl rfl ?_
          refine b_goto 58 dX10_canBe_98 (by decide) ?_
          exact ih _ _ _ _ _ _ _ h
        · have h := ifF c3 h
          refine b_iconst dX10_canBe_88 ?_
          refine b_goto 93 dX10_canBe_89 (by decide) ?_
          refine b_istore (ls' := [vR 582, vI x1, vI x2, vI x3, vI x4, vI 1, vI x6]) dX10_canBe_93 (Nat.le_of_ble_eq_true rfl) rfl ?_
          refine b_iinc (ls' := [vR 582, vI x1, vI x2, vI x3, vI x4, vI 1, vI (x6 + 1)]) dX10_canBe_95 rfl rfl ?_
          refine b_goto 58 dX10_canBe_98 (by decide) ?_
          exact ih _ _ _ _ _ _ _ h
theorem pl_X10_canBe_29 {f : Nat} {Q : Int → MM → Prop} {T : MM → Prop} (hf : 2 ≤ f) : ∀ (x1 : Int) (x2 : Int) (x3 : Int) (x4 : Int) (m : MM), P_X10_canBe_29 Q x1 x2 x3 x4 m → B f M_X10_canBe 29 [vR 582, vI x1, vI x2, vI x3, vI x4, vU, vU] [] m Q T := by
  intro x1 x2 x3 x4 m h
  have h : (0 ≤ x1 ∧ x1 < 21) ∧ (RI (m 611 x1)) ∧ (if (m 611 x1) = 3 then (RI x3) ∧ (if 0 < x3 then Q 0 m else P_X10_isField x2 m (fun r1 m1 => (RI r1) ∧ (if r1 = 0 then Q 0 m1 else ∃ nn, P_X10_canBe_58 Q nn x1 x2 x3 x4 1 (-1) m1))) else ∃ nn, P_X10_canBe_58 Q nn x1 x2 x3 x4 1 (-1) m) := h
  refine b_aload_n dX10_canBe_29 rfl ?_
  refine b_getR dX10_canBe_30 fk_X10_170 ly_582 gg_582_40 ?_
  refine b_iload_n dX10_canBe_33 rfl ?_
  obtain ⟨g1, h⟩ := h
  refine b_iald dX10_canBe_34 ly_611 g1 ?_
  refine b_iconst dX10_canBe_35 ?_
  obtain ⟨g2, h⟩ := h
  refine b_icmp_ne 52 dX10_canBe_36 g2 (by decide) (by decide) (fun c1 => ?_) (fun c1 => ?_)
  · have h := ifF c1 h
    refine b_iconst dX10_canBe_52 ?_
    refine b_istore (ls' := [vR 582, vI x1, vI x2, vI x3, vI x4, vI 1, vU]) dX10_canBe_53 (Nat.le_of_ble_eq_true rfl) rfl ?_
    refine b_iconst dX10_canBe_55 ?_
    refine b_istore (ls' := [vR 582, vI x1, vI x2, vI x3, vI x4, vI 1, vI (-1)]) dX10_canBe_56 (Nat.le_of_ble_eq_true rfl) rfl ?_
    obtain ⟨nn, h⟩ := h
    exact pl_X10_canBe_58 hf nn _ _ _ _ _ _ _ h
  · have h := ifT (Decidable.of_not_not c1) h
    refine b_iload_n dX10_canBe_39 rfl ?_
    obtain ⟨g3, h⟩ := h
    refine b_if_gt 50 dX10_canBe_40 g3 (by decide) (fun c2 => ?_) (fun c2 => ?_)
    · have h := ifT c2 h
      refine b_iconst dX10_canBe_50 ?_
      exact b_zret dX10_canBe_51 rfl (Or.inl rfl) h
    · have h := ifF c2 h
      refine b_iload_n dX10_canBe_43 rfl ?_
      refine b_cSi (as := [vI x2]) (st := []) dX10_canBe_44 mf_X10_isField lk_X10_493 (p_X10_isField (f := 1) (Nat.le_refl _) _ _ h) (by omega) rfl rfl (Nat.le_of_ble_eq_true rfl) (by decide) rfl (fun _ => rfl) (fun r1 m1 h => ?_) (fun _ h => h)
      obtain ⟨g4, h⟩ := h
      refine b_if_ne 52 dX10_canBe_47 g4 (by decide) (fun c3 => ?_) (fun c3 => ?_)
      · have h := ifF c3 h
        refine b_iconst dX10_canBe_52 ?_
        refine b_istore (ls' := [vR 582, vI x1, vI x2, vI x3, vI x4, vI 1, vU]) dX10_canBe_53 (Nat.le_of_ble_eq_true rfl) rfl ?_
        refine b_iconst dX10_canBe_55 ?_
        refine b_istore (ls' := [vR 582, vI x1, vI x2, vI x3, vI x4, vI 1, vI (-1)]) dX10_canBe_56 (Nat.le_of_ble_eq_true rfl) rfl ?_
        obtain ⟨nn, h⟩ := h
        exact pl_X10_canBe_58 hf nn _ _ _ _ _ _ _ h
      · have h := ifT (Decidable.of_not_not c3) h
        refine b_iconst dX10_canBe_50 ?_
        exact b_zret dX10_canBe_51 rfl (Or.inl rfl) h
theorem p_X10_canBe {f : Nat} {Q : Int → MM → Prop} {T : MM → Prop} (hf : 2 ≤ f) (x1 : Int) (x2 : Int) (x3 : Int) (x4 : Int) (m : MM) (h : P_X10_canBe x1 x2 x3 x4 m Q) : CC f M_X10_canBe [vR 582, vI x1, vI x2, vI x3, vI x4] m Q T := by
  refine CC.of (plainFor_of_name (by decide)) (Nat.le_of_ble_eq_true rfl) (ls := [vR 582, vI x1, vI x2, vI x3, vI x4, vU, vU]) rfl ?_
  have h : (RI x2) ∧ (if x2 = (-9) then Q 0 m else (if x2 = (-2) then Q 0 m else (0 ≤ x1 ∧ x1 < 21) ∧ (RI (m 611 x1)) ∧ (if (m 611 x1) ≤ 1 then P_X10_canBe_29 Q x1 x2 x3 x4 m else (RI x4) ∧ (if 0 < x4 then Q 0 m else P_X10_canBe_29 Q x1 x2 x3 x4 m)))) := h
  refine b_iload_n dX10_canBe_0 rfl ?_
  refine b_bipush dX10_canBe_1 (by decide) ?_
  obtain ⟨g1, h⟩ := h
  refine b_icmp_eq 12 dX10_canBe_3 g1 (by decide) (by decide) (fun c1 => ?_) (fun c1 => ?_)
  · have h := ifT c1 h
    refine b_iconst dX10_canBe_12 ?_
    exact b_zret dX10_canBe_13 rfl (Or.inl rfl) h
  · have h := ifF c1 h
    refine b_iload_n dX10_canBe_6 rfl ?_
    refine b_bipush dX10_canBe_7 (by decide) ?_
    refine b_icmp_ne 14 dX10_canBe_9 g1 (by decide) (by decide) (fun c2 => ?_) (fun c2 => ?_)
    · have h := ifF c2 h
      refine b_aload_n dX10_canBe_14 rfl ?_
      refine b_getR dX10_canBe_15 fk_X10_170 ly_582 gg_582_40 ?_
      refine b_iload_n dX10_canBe_18 rfl ?_
      obtain ⟨g2, h⟩ := h
      refine b_iald dX10_canBe_19 ly_611 g2 ?_
      refine b_iconst dX10_canBe_20 ?_
      obtain ⟨g3, h⟩ := h
      refine b_icmp_le 29 dX10_canBe_21 g3 (by decide) (by decide) (fun c3 => ?_) (fun c3 => ?_)
      · have h := ifT c3 h
        exact pl_X10_canBe_29 hf _ _ _ _ _ h
      · have h := ifF c3 h
        refine b_iload dX10_canBe_24 rfl ?_
        obtain ⟨g4, h⟩ := h
        refine b_if_gt 50 dX10_canBe_26 g4 (by decide) (fun c4 => ?_) (fun c4 => ?_)
        · have h := ifT c4 h
          refine b_iconst dX10_canBe_50 ?_
          exact b_zret dX10_canBe_51 rfl (Or.inl rfl) h
        · have h := ifF c4 h
          exact pl_X10_canBe_29 hf _ _ _ _ _ h
    · have h := ifT (Decidable.of_not_not c2) h
      refine b_iconst dX10_canBe_12 ?_
      exact b_zret dX10_canBe_13 rfl (Or.inl rfl) h
theorem dX10_findR_0 : decode cX10_findR 0 = .ok (.iconst 0, 1) := by decide +kernel
theorem dX10_findR_1 : decode cX10_findR 1 = .ok (.istore_n 2, 1) := by decide +kernel
theorem dX10_findR_2 : decode cX10_findR 2 = .ok (.iconst 0, 1) := by decide +kernel
theorem dX10_findR_3 : decode cX10_findR 3 = .ok (.istore_n 3, 1) := by decide +kernel
theorem dX10_findR_4 : decode cX10_findR 4 = .ok (.iload_n 3, 1) := by decide +kernel
theorem dX10_findR_5 : decode cX10_findR 5 = .ok (.aload_n 0, 1) := by decide +kernel
theorem dX10_findR_6 : decode cX10_findR 6 = .ok (.getfield 566, 3) := by decide +kernel
theorem dX10_findR_9 : decode cX10_findR 9 = .ok (.if_icmp .ge 173, 3) := by decide +kernel
theorem dX10_findR_12 : decode cX10_findR 12 = .ok (.iconst 3, 1) := by decide +kernel
theorem dX10_findR_13 : decode cX10_findR 13 = .ok (.iload_n 1, 1) := by decide +kernel
theorem dX10_findR_14 : decode cX10_findR 14 = .ok (.imul, 1) := by decide +kernel
theorem dX10_findR_15 : decode cX10_findR 15 = .ok (.iload_n 3, 1) := by decide +kernel
theorem dX10_findR_16 : decode cX10_findR 16 = .ok (.iadd, 1) := by decide +kernel
theorem dX10_findR_17 : decode cX10_findR 17 = .ok (.istore 4, 2) := by decide +kernel
theorem dX10_findR_19 : decode cX10_findR 19 = .ok (.aload_n 0, 1) := by decide +kernel
theorem dX10_findR_20 : decode cX10_findR 20 = .ok (.getfield 203, 3) := by decide +kernel
theorem dX10_findR_23 : decode cX10_findR 23 = .ok (.iload 4, 2) := by decide +kernel
theorem dX10_findR_25 : decode cX10_findR 25 = .ok (.baload, 1) := by decide +kernel
theorem dX10_findR_26 : decode cX10_findR 26 = .ok (.ifCond .ne 6, 3) := by decide +kernel
theorem dX10_findR_29 : decode cX10_findR 29 = .ok (.goto 147, 3) := by decide +kernel
theorem dX10_findR_32 : decode cX10_findR 32 = .ok (.iconst 0, 1) := by decide +kernel
theorem dX10_findR_33 : decode cX10_findR 33 = .ok (.aload_n 0, 1) := by decide +kernel
theorem dX10_findR_34 : decode cX10_findR 34 = .ok (.getfield 243, 3) := by decide +kernel
theorem dX10_findR_37 : decode cX10_findR 37 = .ok (.iload_n 3, 1) := by decide +kernel
theorem dX10_findR_38 : decode cX10_findR 38 = .ok (.iaload, 1) := by decide +kernel
theorem dX10_findR_39 : decode cX10_findR 39 = .ok (.aload_n 0, 1) := by decide +kernel
theorem dX10_findR_40 : decode cX10_findR 40 = .ok (.getfield 185, 3) := by decide +kernel
theorem dX10_findR_43 : decode cX10_findR 43 = .ok (.iload 4, 2) := by decide +kernel
theorem dX10_findR_45 : decode cX10_findR 45 = .ok (.iaload, 1) := by decide +kernel
theorem dX10_findR_46 : decode cX10_findR 46 = .ok (.isub, 1) := by decide +kernel
theorem dX10_findR_47 : decode cX10_findR 47 = .ok (.invokestatic 445, 3) := by decide +kernel
theorem dX10_findR_50 : decode cX10_findR 50 = .ok (.istore 5, 2) := by decide +kernel
theorem dX10_findR_52 : decode cX10_findR 52 = .ok (.aload_n 0, 1) := by decide +kernel
theorem dX10_findR_53 : decode cX10_findR 53 = .ok (.getfield 185, 3) := by decide +kernel
theorem dX10_findR_56 : decode cX10_findR 56 = .ok (.iload 4, 2) := by decide +kernel
theorem dX10_findR_58 : decode cX10_findR 58 = .ok (.iaload, 1) := by decide +kernel
theorem dX10_findR_59 : decode cX10_findR 59 = .ok (.ifCond .gt 13, 3) := by decide +kernel
theorem dX10_findR_62 : decode cX10_findR 62 = .ok (.aload_n 0, 1) := by decide +kernel
theorem dX10_findR_63 : decode cX10_findR 63 = .ok (.getfield 188, 3) := by decide +kernel
theorem dX10_findR_66 : decode cX10_findR 66 = .ok (.iload 4, 2) := by decide +kernel
theorem dX10_findR_68 : decode cX10_findR 68 = .ok (.iaload, 1) := by decide +kernel
theorem dX10_findR_69 : decode cX10_findR 69 = .ok (.ifCond .le 7, 3) := by decide +kernel
theorem dX10_findR_72 : decode cX10_findR 72 = .ok (.iconst 0, 1) := by decide +kernel
theorem dX10_findR_73 : decode cX10_findR 73 = .ok (.goto 9, 3) := by decide +kernel
theorem dX10_findR_76 : decode cX10_findR 76 = .ok (.aload_n 0, 1) := by decide +kernel
theorem dX10_findR_77 : decode cX10_findR 77 = .ok (.getfield 246, 3) := by decide +kernel
theorem dX10_findR_80 : decode cX10_findR 80 = .ok (.iload_n 3, 1) := by decide +kernel
theorem dX10_findR_81 : decode cX10_findR 81 = .ok (.iaload, 1) := by decide +kernel
theorem dX10_findR_82 : decode cX10_findR 82 = .ok (.istore 6, 2) := by decide +kernel
theorem dX10_findR_84 : decode cX10_findR 84 = .ok (.iload_n 2, 1) := by decide +kernel
theorem dX10_findR_85 : decode cX10_findR 85 = .ok (.ifCond .eq 34, 3) := by decide +kernel
theorem dX10_findR_88 : decode cX10_findR 88 = .ok (.aload_n 0, 1) := by decide +kernel
theorem dX10_findR_89 : decode cX10_findR 89 = .ok (.aload_n 0, 1) := by decide +kernel
theorem dX10_findR_90 : decode cX10_findR 90 = .ok (.getfield 557, 3) := by decide +kernel
theorem dX10_findR_93 : decode cX10_findR 93 = .ok (.aload_n 0, 1) := by decide +kernel
theorem dX10_findR_94 : decode cX10_findR 94 = .ok (.getfield 560, 3) := by decide +kernel
theorem dX10_findR_97 : decode cX10_findR 97 = .ok (.aload_n 0, 1) := by decide +kernel
theorem dX10_findR_98 : decode cX10_findR 98 = .ok (.getfield 563, 3) := by decide +kernel
theorem dX10_findR_101 : decode cX10_findR 101 = .ok (.aload_n 0, 1) := by decide +kernel
theorem dX10_findR_102 : decode cX10_findR 102 = .ok (.getfield 240, 3) := by decide +kernel
theorem dX10_findR_105 : decode cX10_findR 105 = .ok (.iload_n 3, 1) := by decide +kernel
theorem dX10_findR_106 : decode cX10_findR 106 = .ok (.iaload, 1) := by decide +kernel
theorem dX10_findR_107 : decode cX10_findR 107 = .ok (.iload 5, 2) := by decide +kernel
theorem dX10_findR_109 : decode cX10_findR 109 = .ok (.iload 6, 2) := by decide +kernel
theorem dX10_findR_111 : decode cX10_findR 111 = .ok (.invokevirtual 456, 3) := by decide +kernel
theorem dX10_findR_114 : decode cX10_findR 114 = .ok (.ifCond .ne 5, 3) := by decide +kernel
theorem dX10_findR_117 : decode cX10_findR 117 = .ok (.iconst 0, 1) := by decide +kernel
theorem dX10_findR_118 : decode cX10_findR 118 = .ok (.ireturn, 1) := by decide +kernel
theorem dX10_findR_119 : decode cX10_findR 119 = .ok (.aload_n 0, 1) := by decide +kernel
theorem dX10_findR_120 : decode cX10_findR 120 = .ok (.iload_n 2, 1) := by decide +kernel
theorem dX10_findR_121 : decode cX10_findR 121 = .ok (.ifCond .eq 10, 3) := by decide +kernel
theorem dX10_findR_124 : decode cX10_findR 124 = .ok (.aload_n 0, 1) := by decide +kernel
theorem dX10_findR_125 : decode cX10_findR 125 = .ok (.getfield 442, 3) := by decide +kernel
theorem dX10_findR_128 : decode cX10_findR 128 = .ok (.goto 9, 3) := by decide +kernel
theorem dX10_findR_131 : decode cX10_findR 131 = .ok (.aload_n 0, 1) := by decide +kernel
theorem dX10_findR_132 : decode cX10_findR 132 = .ok (.getfield 240, 3) := by decide +kernel
theorem dX10_findR_135 : decode cX10_findR 135 = .ok (.iload_n 3, 1) := by decide +kernel
theorem dX10_findR_136 : decode cX10_findR 136 = .ok (.iaload, 1) := by decide +kernel
theorem dX10_findR_137 : decode cX10_findR 137 = .ok (.putfield 557, 3) := by decide +kernel
theorem dX10_findR_140 : decode cX10_findR 140 = .ok (.aload_n 0, 1) := by decide +kernel
theorem dX10_findR_141 : decode cX10_findR 141 = .ok (.iload_n 2, 1) := by decide +kernel
theorem dX10_findR_142 : decode cX10_findR 142 = .ok (.ifCond .eq 10, 3) := by decide +kernel
theorem dX10_findR_145 : decode cX10_findR 145 = .ok (.aload_n 0, 1) := by decide +kernel
theorem dX10_findR_146 : decode cX10_findR 146 = .ok (.getfield 450, 3) := by decide +kernel
theorem dX10_findR_149 : decode cX10_findR 149 = .ok (.goto 5, 3) := by decide +kernel
theorem dX10_findR_152 : decode cX10_findR 152 = .ok (.iload 5, 2) := by decide +kernel
theorem dX10_findR_154 : decode cX10_findR 154 = .ok (.putfield 560, 3) := by decide +kernel
theorem dX10_findR_157 : decode cX10_findR 157 = .ok (.aload_n 0, 1) := by decide +kernel
theorem dX10_findR_158 : decode cX10_findR 158 = .ok (.iload_n 2, 1) := by decide +kernel
theorem dX10_findR_159 : decode cX10_findR 159 = .ok (.ifCond .eq 10, 3) := by decide +kernel
theorem dX10_findR_162 : decode cX10_findR 162 = .ok (.aload_n 0, 1) := by decide +kernel
theorem dX10_findR_163 : decode cX10_findR 163 = .ok (.getfield 453, 3) := by decide +kernel
theorem dX10_findR_166 : decode cX10_findR 166 = .ok (.goto 5, 3) := by decide +kernel
theorem dX10_findR_169 : decode cX10_findR 169 = .ok (.iload 6, 2) := by decide +kernel
theorem dX10_findR_171 : decode cX10_findR 171 = .ok (.putfield 563, 3) := by decide +kernel
theorem dX10_findR_174 : decode cX10_findR 174 = .ok (.iconst 1, 1) := by decide +kernel
theorem dX10_findR_175 : decode cX10_findR 175 = .ok (.istore_n 2, 1) := by decide +kernel
theorem dX10_findR_176 : decode cX10_findR 176 = .ok (.iinc 3 1, 3) := by decide +kernel
theorem dX10_findR_179 : decode cX10_findR 179 = .ok (.goto (-175), 3) := by decide +kernel
theorem dX10_findR_182 : decode cX10_findR 182 = .ok (.aload_n 0, 1) := by decide +kernel
theorem dX10_findR_183 : decode cX10_findR 183 = .ok (.getfield 170, 3) := by decide +kernel
theorem dX10_findR_186 : decode cX10_findR 186 = .ok (.iload_n 1, 1) := by decide +kernel
theorem dX10_findR_187 : decode cX10_findR 187 = .ok (.iaload, 1) := by decide +kernel
theorem dX10_findR_188 : decode cX10_findR 188 = .ok (.iconst 3, 1) := by decide +kernel
theorem dX10_findR_189 : decode cX10_findR 189 = .ok (.if_icmp .ne 29, 3) := by decide +kernel
theorem dX10_findR_192 : decode cX10_findR 192 = .ok (.aload_n 0, 1) := by decide +kernel
theorem dX10_findR_193 : decode cX10_findR 193 = .ok (.getfield 557, 3) := by decide +kernel
theorem dX10_findR_196 : decode cX10_findR 196 = .ok (.ifCond .ne 22, 3) := by decide +kernel
theorem dX10_findR_199 : decode cX10_findR 199 = .ok (.aload_n 0, 1) := by decide +kernel
theorem dX10_findR_200 : decode cX10_findR 200 = .ok (.getfield 560, 3) := by decide +kernel
theorem dX10_findR_203 : decode cX10_findR 203 = .ok (.ifCond .ne 15, 3) := by decide +kernel
theorem dX10_findR_206 : decode cX10_findR 206 = .ok (.aload_n 0, 1) := by decide +kernel
theorem dX10_findR_207 : decode cX10_findR 207 = .ok (.getfield 563, 3) := by decide +kernel
theorem dX10_findR_210 : decode cX10_findR 210 = .ok (.ifCond .ne 8, 3) := by decide +kernel
theorem dX10_findR_213 : decode cX10_findR 213 = .ok (.aload_n 0, 1) := by decide +kernel
theorem dX10_findR_214 : decode cX10_findR 214 = .ok (.iconst 1, 1) := by decide +kernel
theorem dX10_findR_215 : decode cX10_findR 215 = .ok (.putfield 557, 3) := by decide +kernel
theorem dX10_findR_218 : decode cX10_findR 218 = .ok (.iload_n 2, 1) := by decide +kernel
theorem dX10_findR_219 : decode cX10_findR 219 = .ok (.ifCond .eq 27, 3) := by decide +kernel
theorem dX10_findR_222 : decode cX10_findR 222 = .ok (.aload_n 0, 1) := by decide +kernel
theorem dX10_findR_223 : decode cX10_findR 223 = .ok (.iload_n 1, 1) := by decide +kernel
theorem dX10_findR_224 : decode cX10_findR 224 = .ok (.aload_n 0, 1) := by decide +kernel
theorem dX10_findR_225 : decode cX10_findR 225 = .ok (.getfield 557, 3) := by decide +kernel
theorem dX10_findR_228 : decode cX10_findR 228 = .ok (.aload_n 0, 1) := by decide +kernel
theorem dX10_findR_229 : decode cX10_findR 229 = .ok (.getfield 560, 3) := by decide +kernel
theorem dX10_findR_232 : decode cX10_findR 232 = .ok (.aload_n 0, 1) := by decide +kernel
theorem dX10_findR_233 : decode cX10_findR 233 = .ok (.getfield 563, 3) := by decide +kernel
theorem dX10_findR_236 : decode cX10_findR 236 = .ok (.invokevirtual 575, 3) := by decide +kernel
theorem dX10_findR_239 : decode cX10_findR 239 = .ok (.ifCond .eq 7, 3) := by decide +kernel
theorem dX10_findR_242 : decode cX10_findR 242 = .ok (.iconst 1, 1) := by decide +kernel
theorem dX10_findR_243 : decode cX10_findR 243 = .ok (.goto 4, 3) := by decide +kernel
theorem dX10_findR_246 : decode cX10_findR 246 = .ok (.iconst 0, 1) := by decide +kernel
theorem dX10_findR_247 : decode cX10_findR 247 = .ok (.ireturn, 1) := by decide +kernel
/-! AlgebraHouseModel.findR(I)Z -/
def P_X10_findR_119 (Q : Int → MM → Prop) (K4 : Int → Int → Int → MM → Prop) (x1 : Int) (x2 : Int) (x3 : Int) (x5 : Int) (x6 : Int) (m : MM) : Prop := ((RI x2) ∧ (if x2 = 0 then ((0 ≤ x3 ∧ x3 < 3)) else True)) ∧ ∀ m1 : MM, m1 = up m 582 75 (if x2 = 0 then (m 632 x3) else (m 582 65) : Int) → ((RI x2)) ∧ ∀ m2 : MM, m2 = up m1 582 76 (if x2 = 0 then x5 else (m1 582 66) : Int) → ((RI x2)) ∧ ∀ m3 : MM, m3 = up m2 582 77 (if x2 = 0 then x6 else (m2 582 67) : Int) → K4 x1 1 (x3 + 1) m3
def P_X10_findR_218 (Q : Int → MM → Prop) (x1 : Int) (x2 : Int) (m : MM) : Prop := (RI x2) ∧ (if x2 = 0 then Q 0 m else P_X10_canBe x1 (m 582 75) (m 582 76) (m 582 77) m (fun r1 m1 => (RI r1) ∧ (if r1 = 0 then Q 0 m1 else Q 1 m1)))
def P_X10_findR_182 (Q : Int → MM → Prop) (x1 : Int) (x2 : Int) (m : MM) : Prop := (0 ≤ x1 ∧ x1 < 21) ∧ (RI (m 611 x1)) ∧ (if (m 611 x1) = 3 then (RI (m 582 75)) ∧ (if (m 582 75) = 0 then (RI (m 582 76)) ∧ (if (m 582 76) = 0 then (RI (m 582 77)) ∧ (if (m 582 77) = 0 then ∀ m1 : MM, m1 = up m 582 75 1 → P_X10_findR_218 Q x1 x2 m1 else P_X10_findR_218 Q x1 x2 m) else P_X10_findR_218 Q x1 x2 m) else P_X10_findR_218 Q x1 x2 m) else P_X10_findR_218 Q x1 x2 m)
def P_X10_findR_4 (Q : Int → MM → Prop) : Nat → Int → Int → Int → MM → Prop
  | 0, _, _, _, _ => False
  | n + 1, x1, x2, x3, m => (RI x3) ∧ (RI (m 582 73)) ∧ (if (m 582 73) ≤ x3 then P_X10_findR_182 Q x1 x2 m else (0 ≤ ((3 * x1) + x3) ∧ ((3 * x1) + x3) < 63) ∧ (RI (m 622 ((3 * x1) + x3))) ∧ (if (m 622 ((3 * x1) + x3)) = 0 then P_X10_findR_4 Q n x1 x2 (x3 + 1) m else (0 ≤ x3 ∧ x3 < 3) ∧ P_J4_max 0 ((m 633 x3) - (m 616 ((3 * x1) + x3))) m (fun r1 m1 => ((RI (m1 616 ((3 * x1) + x3))) ∧ (if 0 < (m1 616 ((3 * x1) + x3)) then True else ((RI (m1 617 ((3 * x1) + x3)))))) ∧ (RI x2) ∧ (if x2 = 0 then P_X10_findR_119 Q (fun z0 z1 z2 z3 => P_X10_findR_4 Q n z0 z1 z2 z3) x1 x2 x3 r1 (if 0 < (m1 616 ((3 * x1) + x3)) then 0 else (if (m1 617 ((3 * x1) + x3)) ≤ 0 then (m1 634 x3) else 0 : Int) : Int) m1 else P_X10_joins (m1 582 75) (m1 582 76) (m1 582 77) (m1 632 x3) r1 (if 0 < (m1 616 ((3 * x1) + x3)) then 0 else (if (m1 617 ((3 * x1) + x3)) ≤ 0 then (m1 634 x3) else 0 : Int) : Int) m1 (fun r2 m2 => (RI r2) ∧ (if r2 = 0 then Q 0 m2 else P_X10_findR_119 Q (fun z0 z1 z2 z3 => P_X10_findR_4 Q n z0 z1 z2 z3) x1 x2 x3 r1 (if 0 < (m1 616 ((3 * x1) + x3)) then 0 else (if (m1 617 ((3 * x1) + x3)) ≤ 0 then (m1 634 x3) else 0 : Int) : Int) m2))))))
def P_X10_findR (x1 : Int) (m : MM) (Q : Int → MM → Prop) : Prop := ∃ nn, P_X10_findR_4 Q nn x1 0 0 m
theorem pl_X10_findR_119 {f : Nat} {Q : Int → MM → Prop} {T : MM → Prop} (hf : 3 ≤ f) {K4 : Int → Int → Int → MM → Prop} (hK4 : ∀ (x1 : Int) (x2 : Int) (x3 : Int) (m : MM), K4 x1 x2 x3 m → B f M_X10_findR 4 [vR 582, vI x1, vI x2, vI x3, vU, vU, vU] [] m Q T) : ∀ (x1 : Int) (x2 : Int) (x3 : Int) (x5 : Int) (x6 : Int) (m : MM), P_X10_findR_119 Q K4 x1 x2 x3 x5 x6 m → B f M_X10_findR 119 [vR 582, vI x1, vI x2, vI x3, vU, vI x5, vI x6] [] m Q T := by
  intro x1 x2 x3 x5 x6 m h
  have h : ((RI x2) ∧ (if x2 = 0 then ((0 ≤ x3 ∧ x3 < 3)) else True)) ∧ ∀ m1 : MM, m1 = up m 582 75 (if x2 = 0 then (m 632 x3) else (m 582 65) : Int) → ((RI x2)) ∧ ∀ m2 : MM, m2 = up m1 582 76 (if x2 = 0 then x5 else (m1 582 66) : Int) → ((RI x2)) ∧ ∀ m3 : MM, m3 = up m2 582 77 (if x2 = 0 then x6 else (m2 582 67) : Int) → K4 x1 1 (x3 + 1) m3 := h
  refine b_aload_n dX10_findR_119 rfl ?_
  refine b_iload_n dX10_findR_120 rfl ?_
  obtain ⟨hs, h⟩ := h
  have K : B f M_X10_findR 137 [vR 582, vI x1, vI x2, vI x3, vU, vI x5, vI x6] [vI (if x2 = 0 then (m 632 x3) else (m 582 65) : Int), vR 582] m Q T := by
    clear hs
    refine b_putI dX10_findR_137 fk_X10_557 ly_582 (fun m1 em1 => ?_)
    have h := h m1 em1
    refine b_aload_n dX10_findR_140 rfl ?_
    refine b_iload_n dX10_findR_141 rfl ?_
    obtain ⟨hs, h⟩ := h
    have K : B f M_X10_findR 154 [vR 582, vI x1, vI x2, vI x3, vU, vI x5, vI x6] [vI (if x2 = 0 then x5 else (m1 582 66) : Int), vR 582] m1 Q T := by
      clear hs
      refine b_putI dX10_findR_154 fk_X10_560 ly_582 (fun m2 em2 => ?_)
      have h := h m2 em2
      refine b_aload_n dX10_findR_157 rfl ?_
      refine b_iload_n dX10_findR_158 rfl ?_
      obtain ⟨hs, h⟩ := h
      have K : B f M_X10_findR 171 [vR 582, vI x1, vI x2, vI x3, vU, vI x5, vI x6] [vI (if x2 = 0 then x6 else (m2 582 67) : Int), vR 582] m2 Q T := by
        clear hs
        refine b_putI dX10_findR_171 fk_X10_563 ly_582 (fun m3 em3 => ?_)
        have h := h m3 em3
        refine b_iconst dX10_findR_174 ?_
        refine b_istore_n (ls' := [vR 582, vI x1, vI 1, vI x3, vU, vI x5, vI x6]) dX10_findR_175 (Nat.le_of_ble_eq_true rfl) rfl ?_
        refine b_iinc (ls' := [vR 582, vI x1, vI 1, vI (x3 + 1), vU, vI x5, vI x6]) dX10_findR_176 rfl rfl ?_
        refine b_goto 4 dX10_findR_179 (by decide) ?_
        refine b_fgt [true, true, true, true, false, false, false] (ls' := [vR 582, vI x1, vI 1, vI (x3 + 1), vU, vU, vU]) rfl rfl ?_
        exact hK4 _ _ _ _ h
      have g4 := hs
      refine b_if_eq 169 dX10_findR_159 g4 (by decide) (fun c1 => ?_) (fun c1 => ?_)
      ·
        refine b_iload dX10_findR_169 rfl ?_
        rw [if_pos c1] at K
        exact K
      ·
        refine b_aload_n dX10_findR_162 rfl ?_
        refine b_getI dX10_findR_163 fk_X10_453 ly_582 ?_
        refine b_goto 171 dX10_findR_166 (by decide) ?_
        rw [if_neg c1] at K
        exact K
    have g3 := hs
    refine b_if_eq 152 dX10_findR_142 g3 (by decide) (fun c2 => ?_) (fun c2 => ?_)
    ·
      refine b_iload dX10_findR_152 rfl ?_
      rw [if_pos c2] at K
      exact K
    ·
      refine b_aload_n dX10_findR_145 rfl ?_
      refine b_getI dX10_findR_146 fk_X10_450 ly_582 ?_
      refine b_goto 154 dX10_findR_149 (by decide) ?_
      rw [if_neg c2] at K
      exact K
  obtain ⟨g1, hs⟩ := hs
  refine b_if_eq 131 dX10_findR_121 g1 (by decide) (fun c3 => ?_) (fun c3 => ?_)
  ·
    have hs := ifT c3 hs
    have g2 := hs
    refine b_aload_n dX10_findR_131 rfl ?_
    refine b_getR dX10_findR_132 fk_X10_240 ly_582 gg_582_78 ?_
    refine b_iload_n dX10_findR_135 rfl ?_
    refine b_iald dX10_findR_136 ly_632 g2 ?_
    rw [if_pos c3] at K
    exact K
  ·
    refine b_aload_n dX10_findR_124 rfl ?_
    refine b_getI dX10_findR_125 fk_X10_442 ly_582 ?_
    refine b_goto 137 dX10_findR_128 (by decide) ?_
    rw [if_neg c3] at K
    exact K
theorem pl_X10_findR_218 {f : Nat} {Q : Int → MM → Prop} {T : MM → Prop} (hf : 3 ≤ f) : ∀ (x1 : Int) (x2 : Int) (m : MM), P_X10_findR_218 Q x1 x2 m → B f M_X10_findR 218 [vR 582, vI x1, vI x2, vU, vU, vU, vU] [] m Q T := by
  intro x1 x2 m h
  have h : (RI x2) ∧ (if x2 = 0 then Q 0 m else P_X10_canBe x1 (m 582 75) (m 582 76) (m 582 77) m (fun r1 m1 => (RI r1) ∧ (if r1 = 0 then Q 0 m1 else Q 1 m1))) := h
  refine b_iload_n dX10_findR_218 rfl ?_
  obtain ⟨g1, h⟩ := h
  refine b_if_eq 246 dX10_findR_219 g1 (by decide) (fun c1 => ?_) (fun c1 => ?_)
  · have h := ifT c1 h
    refine b_iconst dX10_findR_246 ?_
    exact b_zret dX10_findR_247 rfl (Or.inl rfl) h
  · have h := ifF c1 h
    refine b_aload_n dX10_findR_222 rfl ?_
    refine b_iload_n dX10_findR_223 rfl ?_
    refine b_aload_n dX10_findR_224 rfl ?_
    refine b_getI dX10_findR_225 fk_X10_557 ly_582 ?_
    refine b_aload_n dX10_findR_228 rfl ?_
    refine b_getI dX10_findR_229 fk_X10_560 ly_582 ?_
    refine b_aload_n dX10_findR_232 rfl ?_
    refine b_getI dX10_findR_233 fk_X10_563 ly_582 ?_
    refine b_cVi (as := [vI x1, vI (m 582 75), vI (m 582 76), vI (m 582 77)]) (st := []) dX10_findR_236 mf_X10_canBe qs144 lk_X10_575 ly_582 rfl (p_X10_canBe (f := 2) (Nat.le_refl _) _ _ _ _ _ h) (by omega) rfl rfl (Nat.le_of_ble_eq_true rfl) (by decide) rfl (fun _ => rfl) (fun r1 m1 h => ?_) (fun _ h => h)
    obtain ⟨g2, h⟩ := h
    refine b_if_eq 246 dX10_findR_239 g2 (by decide) (fun c2 => ?_) (fun c2 => ?_)
    · have h := ifT c2 h
      refine b_iconst dX10_findR_246 ?_
      exact b_zret dX10_findR_247 rfl (Or.inl rfl) h
    · have h := ifF c2 h
      refine b_iconst dX10_findR_242 ?_
      refine b_goto 247 dX10_findR_243 (by decide) ?_
      exact b_zret dX10_findR_247 rfl (Or.inr rfl) h
theorem pl_X10_findR_182 {f : Nat} {Q : Int → MM → Prop} {T : MM → Prop} (hf : 3 ≤ f) : ∀ (x1 : Int) (x2 : Int) (m : MM), P_X10_findR_182 Q x1 x2 m → B f M_X10_findR 182 [vR 582, vI x1, vI x2, vU, vU, vU, vU] [] m Q T := by
  intro x1 x2 m h
  have h : (0 ≤ x1 ∧ x1 < 21) ∧ (RI (m 611 x1)) ∧ (if (m 611 x1) = 3 then (RI (m 582 75)) ∧ (if (m 582 75) = 0 then (RI (m 582 76)) ∧ (if (m 582 76) = 0 then (RI (m 582 77)) ∧ (if (m 582 77) = 0 then ∀ m1 : MM, m1 = up m 582 75 1 → P_X10_findR_218 Q x1 x2 m1 else P_X10_findR_218 Q x1 x2 m) else P_X10_findR_218 Q x1 x2 m) else P_X10_findR_218 Q x1 x2 m) else P_X10_findR_218 Q x1 x2 m) := h
  refine b_aload_n dX10_findR_182 rfl ?_
  refine b_getR dX10_findR_183 fk_X10_170 ly_582 gg_582_40 ?_
  refine b_iload_n dX10_findR_186 rfl ?_
  obtain ⟨g1, h⟩ := h
  refine b_iald dX10_findR_187 ly_611 g1 ?_
  refine b_iconst dX10_findR_188 ?_
  obtain ⟨g2, h⟩ := h
  refine b_icmp_ne 218 dX10_findR_189 g2 (by decide) (by decide) (fun c1 => ?_) (fun c1 => ?_)
  · have h := ifF c1 h
    exact pl_X10_findR_218 hf _ _ _ h
  · have h := ifT (Decidable.of_not_not c1) h
    refine b_aload_n dX10_findR_192 rfl ?_
    refine b_getI dX10_findR_193 fk_X10_557 ly_582 ?_
    obtain ⟨g3, h⟩ := h
    refine b_if_ne 218 dX10_findR_196 g3 (by decide) (fun c2 => ?_) (fun c2 => ?_)
    · have h := ifF c2 h
      exact pl_X10_findR_218 hf _ _ _ h
    · have h := ifT (Decidable.of_not_not c2) h
      refine b_aload_n dX10_findR_199 rfl ?_
      refine b_getI dX10_findR_200 fk_X10_560 ly_582 ?_
      obtain ⟨g4, h⟩ := h
      refine b_if_ne 218 dX10_findR_203 g4 (by decide) (fun c3 => ?_) (fun c3 => ?_)
      · have h := ifF c3 h
        exact pl_X10_findR_218 hf _ _ _ h
      · have h := ifT (Decidable.of_not_not c3) h
        refine b_aload_n dX10_findR_206 rfl ?_
        refine b_getI dX10_findR_207 fk_X10_563 ly_582 ?_
        obtain ⟨g5, h⟩ := h
        refine b_if_ne 218 dX10_findR_210 g5 (by decide) (fun c4 => ?_) (fun c4 => ?_)
        · have h := ifF c4 h
          exact pl_X10_findR_218 hf _ _ _ h
        · have h := ifT (Decidable.of_not_not c4) h
          refine b_aload_n dX10_findR_213 rfl ?_
          refine b_iconst dX10_findR_214 ?_
          refine b_putI dX10_findR_215 fk_X10_557 ly_582 (fun m1 em1 => ?_)
          have h := h m1 em1
          exact pl_X10_findR_218 hf _ _ _ h
theorem pl_X10_findR_4 {f : Nat} {Q : Int → MM → Prop} {T : MM → Prop} (hf : 3 ≤ f) : ∀ (n : Nat) (x1 : Int) (x2 : Int) (x3 : Int) (m : MM), P_X10_findR_4 Q n x1 x2 x3 m → B f M_X10_findR 4 [vR 582, vI x1, vI x2, vI x3, vU, vU, vU] [] m Q T := by
  intro n
  induction n with
  | zero => intro x1 x2 x3 m h; exact h.elim
  | succ n ih =>
    intro x1 x2 x3 m h
    have h : (RI x3) ∧ (RI (m 582 73)) ∧ (if (m 582 73) ≤ x3 then P_X10_findR_182 Q x1 x2 m else (0 ≤ ((3 * x1) + x3) ∧ ((3 * x1) + x3) < 63) ∧ (RI (m 622 ((3 * x1) + x3))) ∧ (if (m 622 ((3 * x1) + x3)) = 0 then P_X10_findR_4 Q n x1 x2 (x3 + 1) m else (0 ≤ x3 ∧ x3 < 3) ∧ P_J4_max 0 ((m 633 x3) - (m 616 ((3 * x1) + x3))) m (fun r1 m1 => ((RI (m1 616 ((3 * x1) + x3))) ∧ (if 0 < (m1 616 ((3 * x1) + x3)) then True else ((RI (m1 617 ((3 * x1) + x3)))))) ∧ (RI x2) ∧ (if x2 = 0 then P_X10_findR_119 Q (fun z0 z1 z2 z3 => P_X10_findR_4 Q n z0 z1 z2 z3) x1 x2 x3 r1 (if 0 < (m1 616 ((3 * x1) + x3)) then 0 else (if (m1 617 ((3 * x1) + x3)) ≤ 0 then (m1 634 x3) else 0 : Int) : Int) m1 else P_X10_joins (m1 582 75) (m1 582 76) (m1 582 77) (m1 632 x3) r1 (if 0 < (m1 616 ((3 * x1) + x3)) then 0 else (if (m1 617 ((3 * x1) + x3)) ≤ 0 then (m1 634 x3) else 0 : Int) : Int) m1 (fun r2 m2 => (RI r2) ∧ (if r2 = 0 then Q 0 m2 else P_X10_findR_119 Q (fun z0 z1 z2 z3 => P_X10_findR_4 Q n z0 z1 z2 z3) x1 x2 x3 r1 (if 0 < (m1 616 ((3 * x1) + x3)) then 0 else (if (m1 617 ((3 * x1) + x3)) ≤ 0 then (m1 634 x3) else 0 : Int) : Int) m2)))))) := h
    refine b_iload_n dX10_findR_4 rfl ?_
    refine b_aload_n dX10_findR_5 rfl ?_
    refine b_getI dX10_findR_6 fk_X10_566 ly_582 ?_
    obtain ⟨g1, h⟩ := h
    obtain ⟨g2, h⟩ := h
    refine b_icmp_ge 182 dX10_findR_9 g1 g2 (by decide) (fun c1 => ?_) (fun c1 => ?_)
    · have h := ifT c1 h
      refine b_fgt [true, true, true, false, false, false, false] (ls' := [vR 582, vI x1, vI x2, vU, vU, vU, vU]) rfl rfl ?_
      exact pl_X10_findR_182 hf _ _ _ h
    · have h := ifF c1 h
      refine b_iconst dX10_findR_12 ?_
      refine b_iload_n dX10_findR_13 rfl ?_
      refine b_imul dX10_findR_14 ?_
      refine b_iload_n dX10_findR_15 rfl ?_
      refine b_iadd dX10_findR_16 ?_
      refine b_istore (ls' := [vR 582, vI x1, vI x2, vI x3, vI ((3 * x1) + x3), vU, vU]) dX10_findR_17 (Nat.le_of_ble_eq_true rfl) rfl ?_
      refine b_aload_n dX10_findR_19 rfl ?_
      refine b_getR dX10_findR_20 fk_X10_203 ly_582 gg_582_51 ?_
      refine b_iload dX10_findR_23 rfl ?_
      obtain ⟨g3, h⟩ := h
      refine b_zald dX10_findR_25 ly_622 g3 ?_
      obtain ⟨g4, h⟩ := h
      refine b_if_ne 32 dX10_findR_26 g4 (by decide) (fun c2 => ?_) (fun c2 => ?_)
      · have h := ifF c2 h
        refine b_iconst dX10_findR_32 ?_
        refine b_aload_n dX10_findR_33 rfl ?_
        refine b_getR dX10_findR_34 fk_X10_243 ly_582 gg_582_79 ?_
        refine b_iload_n dX10_findR_37 rfl ?_
        obtain ⟨g5, h⟩ := h
        refine b_iald dX10_findR_38 ly_633 g5 ?_
        refine b_aload_n dX10_findR_39 rfl ?_
        refine b_getR dX10_findR_40 fk_X10_185 ly_582 gg_582_45 ?_
        refine b_iload dX10_findR_43 rfl ?_
        refine b_iald dX10_findR_45 ly_616 g3 ?_
        refine b_isub dX10_findR_46 ?_
        refine b_cSi (as := [vI 0, vI ((m 633 x3) - (m 616 ((3 * x1) + x3)))]) (st := []) dX10_findR_47 mf_J4_max lk_X10_445 (p_J4_max (f := 1) (Nat.le_refl _) _ _ _ h) (by omega) rfl rfl (Nat.le_of_ble_eq_true rfl) (by decide) rfl (fun _ => rfl) (fun r1 m1 h => ?_) (fun _ h => h)
        refine b_istore (ls' := [vR 582, vI x1, vI x2, vI x3, vI ((3 * x1) + x3), vI r1, vU]) dX10_findR_50 (Nat.le_of_ble_eq_true rfl) rfl ?_
        refine b_aload_n dX10_findR_52 rfl ?_
        refine b_getR dX10_findR_53 fk_X10_185 ly_582 gg_582_45 ?_
        refine b_iload dX10_findR_56 rfl ?_
        refine b_iald dX10_findR_58 ly_616 g3 ?_
        obtain ⟨hs, h⟩ := h
        have K : B f M_X10_findR 82 [vR 582, vI x1, vI x2, vI x3, vI ((3 * x1) + x3), vI r1, vU] [vI (if 0 < (m1 616 ((3 * x1) + x3)) then 0 else (if (m1 617 ((3 * x1) + x3)) ≤ 0 then (m1 634 x3) else 0 : Int) : Int)] m1 Q T := by
          clear hs
          refine b_istore (ls' := [vR 582, vI x1, vI x2, vI x3, vI ((3 * x1) + x3), vI r1, vI (if 0 < (m1 616 ((3 * x1) + x3)) then 0 else (if (m1 617 ((3 * x1) + x3)) ≤ 0 then (m1 634 x3) else 0 : Int) : Int)]) dX10_findR_82 (Nat.le_of_ble_eq_true rfl) rfl ?_
          refine b_iload_n dX10_findR_84 rfl ?_
          obtain ⟨g8, h⟩ := h
          refine b_if_eq 119 dX10_findR_85 g8 (by decide) (fun c3 => ?_) (fun c3 => ?_)
          · have h := ifT c3 h
            refine b_fgt [true, true, true, true, false, true, true] (ls' := [vR 582, vI x1, vI x2, vI x3, vU, vI r1, vI (if 0 < (m1 616 ((3 * x1) + x3)) then 0 else (if (m1 617 ((3 * x1) + x3)) ≤ 0 then (m1 634 x3) else 0 : Int) : Int)]) rfl rfl ?_
            exact pl_X10_findR_119 hf (fun _ _ _ _ h => ih _ _ _ _ h) _ _ _ _ _ _ h
          · have h := ifF c3 h
            refine b_aload_n dX10_findR_88 rfl ?_
            refine b_aload_n dX10_findR_89 rfl ?_
            refine b_getI dX10_findR_90 fk_X10_557 ly_582 ?_
            refine b_aload_n dX10_findR_93 rfl ?_
            refine b_getI dX10_findR_94 fk_X10_560 ly_582 ?_
            refine b_aload_n dX10_findR_97 rfl ?_
            refine b_getI dX10_findR_98 fk_X10_563 ly_582 ?_
            refine b_aload_n dX10_findR_101 rfl ?_
            refine b_getR dX10_findR_102 fk_X10_240 ly_582 gg_582_78 ?_
            refine b_iload_n dX10_findR_105 rfl ?_
            refine b_iald dX10_findR_106 ly_632 g5 ?_
            refine b_iload dX10_findR_107 rfl ?_
            refine b_iload dX10_findR_109 rfl ?_
            refine b_cVi (as := [vI (m1 582 75), vI (m1 582 76), vI (m1 582 77), vI (m1 632 x3), vI r1, vI (if 0 < (m1 616 ((3 * x1) + x3)) then 0 else (if (m1 617 ((3 * x1) + x3)) ≤ 0 then (m1 634 x3) else 0 : Int) : Int)]) (st := []) dX10_findR_111 mf_X10_joins qs143 lk_X10_456 ly_582 rfl (p_X10_joins (f := 2) (Nat.le_refl _) _ _ _ _ _ _ _ h) (by omega) rfl rfl (Nat.le_of_ble_eq_true rfl) (by decide) rfl (fun _ => rfl) (fun r2 m2 h => ?_) (fun _ h => h)
            obtain ⟨g9, h⟩ := h
            refine b_if_ne 119 dX10_findR_114 g9 (by decide) (fun c4 => ?_) (fun c4 => ?_)
            · have h := ifF c4 h
              refine b_fgt [true, true, true, true, false, true, true] (ls' := [vR 582, vI x1, vI x2, vI x3, vU, vI r1, vI (if 0 < (m1 616 ((3 * x1) + x3)) then 0 else (if (m1 617 ((3 * x1) + x3)) ≤ 0 then (m1 634 x3) else 0 : Int) : Int)]) rfl rfl ?_
              exact pl_X10_findR_119 hf (fun _ _ _ _ h => ih _ _ _ _ h) _ _ _ _ _ _ h
            · have h := ifT (Decidable.of_not_not c4) h
              refine b_iconst dX10_findR_117 ?_
              exact b_zret dX10_findR_118 rfl (Or.inl rfl) h
        obtain ⟨g6, hs⟩ := hs
        refine b_if_gt 72 dX10_findR_59 g6 (by decide) (fun c5 => ?_) (fun c5 => ?_)
        ·
          refine b_iconst dX10_findR_72 ?_
          refine b_goto 82 dX10_findR_73 (by decide) ?_
          rw [if_pos c5] at K
          exact K
        ·
          have hs := ifF c5 hs
          have g7 := hs
          refine b_aload_n dX10_findR_62 rfl ?_
          refine b_getR dX10_findR_63 fk_X10_188 ly_582 gg_582_46 ?_
          refine b_iload dX10_findR_66 rfl ?_
          refine b_iald dX10_findR_68 ly_617 g3 ?_
          refine b_if_le 76 dX10_findR_69 g7 (by decide) (fun c6 => ?_) (fun c6 => ?_)
          ·
            refine b_aload_n dX10_findR_76 rfl ?_
            refine b_getR dX10_findR_77 fk_X10_246 ly_582 gg_582_80 ?_
            refine b_iload_n dX10_findR_80 rfl ?_
            refine b_iald dX10_findR_81 ly_634 g5 ?_
            rw [if_neg c5, if_pos c6] at K
            exact K
          ·
            refine b_iconst dX10_findR_72 ?_
            refine b_goto 82 dX10_findR_73 (by decide) ?_
            rw [if_neg c5, if_neg c6] at K
            exact K
      · have h := ifT (Decidable.of_not_not c2) h
        refine b_goto 176 dX10_findR_29 (by decide) ?_
        refine b_iinc (ls' := [vR 582, vI x1, vI x2, vI (x3 + 1), vI ((3 * x1) + x3), vU, vU]) dX10_findR_176 rfl rfl ?_
        refine b_goto 4 dX10_findR_179 (by decide) ?_
        refine b_fgt [true, true, true, true, false, false, false] (ls' := [vR 582, vI x1, vI x2, vI (x3 + 1), vU, vU, vU]) rfl rfl ?_
        exact ih _ _ _ _ h
theorem p_X10_findR {f : Nat} {Q : Int → MM → Prop} {T : MM → Prop} (hf : 3 ≤ f) (x1 : Int) (m : MM) (h : P_X10_findR x1 m Q) : CC f M_X10_findR [vR 582, vI x1] m Q T := by
  refine CC.of (plainFor_of_name (by decide)) (Nat.le_of_ble_eq_true rfl) (ls := [vR 582, vI x1, vU, vU, vU, vU, vU]) rfl ?_
  have h : ∃ nn, P_X10_findR_4 Q nn x1 0 0 m := h
  refine b_iconst dX10_findR_0 ?_
  refine b_istore_n (ls' := [vR 582, vI x1, vI 0, vU, vU, vU, vU]) dX10_findR_1 (Nat.le_of_ble_eq_true rfl) rfl ?_
  refine b_iconst dX10_findR_2 ?_
  refine b_istore_n (ls' := [vR 582, vI x1, vI 0, vI 0, vU, vU, vU]) dX10_findR_3 (Nat.le_of_ble_eq_true rfl) rfl ?_
  obtain ⟨nn, h⟩ := h
  exact pl_X10_findR_4 hf nn _ _ _ _ h
theorem dX10_isMeant_0 : decode cX10_isMeant 0 = .ok (.aload_n 0, 1) := by decide +kernel
theorem dX10_isMeant_1 : decode cX10_isMeant 1 = .ok (.bipush (-9), 2) := by decide +kernel
theorem dX10_isMeant_3 : decode cX10_isMeant 3 = .ok (.putfield 557, 3) := by decide +kernel
theorem dX10_isMeant_6 : decode cX10_isMeant 6 = .ok (.aload_n 0, 1) := by decide +kernel
theorem dX10_isMeant_7 : decode cX10_isMeant 7 = .ok (.iconst 0, 1) := by decide +kernel
theorem dX10_isMeant_8 : decode cX10_isMeant 8 = .ok (.putfield 560, 3) := by decide +kernel
theorem dX10_isMeant_11 : decode cX10_isMeant 11 = .ok (.aload_n 0, 1) := by decide +kernel
theorem dX10_isMeant_12 : decode cX10_isMeant 12 = .ok (.iconst 0, 1) := by decide +kernel
theorem dX10_isMeant_13 : decode cX10_isMeant 13 = .ok (.putfield 563, 3) := by decide +kernel
theorem dX10_isMeant_16 : decode cX10_isMeant 16 = .ok (.aload_n 0, 1) := by decide +kernel
theorem dX10_isMeant_17 : decode cX10_isMeant 17 = .ok (.getfield 164, 3) := by decide +kernel
theorem dX10_isMeant_20 : decode cX10_isMeant 20 = .ok (.iload_n 1, 1) := by decide +kernel
theorem dX10_isMeant_21 : decode cX10_isMeant 21 = .ok (.iaload, 1) := by decide +kernel
theorem dX10_isMeant_22 : decode cX10_isMeant 22 = .ok (.aload_n 0, 1) := by decide +kernel
theorem dX10_isMeant_23 : decode cX10_isMeant 23 = .ok (.getfield 566, 3) := by decide +kernel
theorem dX10_isMeant_26 : decode cX10_isMeant 26 = .ok (.if_icmp .eq 5, 3) := by decide +kernel
theorem dX10_isMeant_29 : decode cX10_isMeant 29 = .ok (.iconst 0, 1) := by decide +kernel
theorem dX10_isMeant_30 : decode cX10_isMeant 30 = .ok (.ireturn, 1) := by decide +kernel
theorem dX10_isMeant_31 : decode cX10_isMeant 31 = .ok (.aload_n 0, 1) := by decide +kernel
theorem dX10_isMeant_32 : decode cX10_isMeant 32 = .ok (.getfield 170, 3) := by decide +kernel
theorem dX10_isMeant_35 : decode cX10_isMeant 35 = .ok (.iload_n 1, 1) := by decide +kernel
theorem dX10_isMeant_36 : decode cX10_isMeant 36 = .ok (.iaload, 1) := by decide +kernel
theorem dX10_isMeant_37 : decode cX10_isMeant 37 = .ok (.ifCond .le 13, 3) := by decide +kernel
theorem dX10_isMeant_40 : decode cX10_isMeant 40 = .ok (.aload_n 0, 1) := by decide +kernel
theorem dX10_isMeant_41 : decode cX10_isMeant 41 = .ok (.iload_n 1, 1) := by decide +kernel
theorem dX10_isMeant_42 : decode cX10_isMeant 42 = .ok (.invokevirtual 569, 3) := by decide +kernel
theorem dX10_isMeant_45 : decode cX10_isMeant 45 = .ok (.ifCond .ne 5, 3) := by decide +kernel
theorem dX10_isMeant_48 : decode cX10_isMeant 48 = .ok (.iconst 0, 1) := by decide +kernel
theorem dX10_isMeant_49 : decode cX10_isMeant 49 = .ok (.ireturn, 1) := by decide +kernel
theorem dX10_isMeant_50 : decode cX10_isMeant 50 = .ok (.aload_n 0, 1) := by decide +kernel
theorem dX10_isMeant_51 : decode cX10_isMeant 51 = .ok (.iconst 0, 1) := by decide +kernel
theorem dX10_isMeant_52 : decode cX10_isMeant 52 = .ok (.putfield 572, 3) := by decide +kernel
theorem dX10_isMeant_55 : decode cX10_isMeant 55 = .ok (.iconst 0, 1) := by decide +kernel
theorem dX10_isMeant_56 : decode cX10_isMeant 56 = .ok (.istore_n 2, 1) := by decide +kernel
theorem dX10_isMeant_57 : decode cX10_isMeant 57 = .ok (.iload_n 2, 1) := by decide +kernel
theorem dX10_isMeant_58 : decode cX10_isMeant 58 = .ok (.aload_n 0, 1) := by decide +kernel
theorem dX10_isMeant_59 : decode cX10_isMeant 59 = .ok (.getfield 566, 3) := by decide +kernel
theorem dX10_isMeant_62 : decode cX10_isMeant 62 = .ok (.if_icmp .ge 129, 3) := by decide +kernel
theorem dX10_isMeant_65 : decode cX10_isMeant 65 = .ok (.aload_n 0, 1) := by decide +kernel
theorem dX10_isMeant_66 : decode cX10_isMeant 66 = .ok (.iload_n 1, 1) := by decide +kernel
theorem dX10_isMeant_67 : decode cX10_isMeant 67 = .ok (.iload_n 2, 1) := by decide +kernel
theorem dX10_isMeant_68 : decode cX10_isMeant 68 = .ok (.aload_n 0, 1) := by decide +kernel
theorem dX10_isMeant_69 : decode cX10_isMeant 69 = .ok (.getfield 557, 3) := by decide +kernel
theorem dX10_isMeant_72 : decode cX10_isMeant 72 = .ok (.aload_n 0, 1) := by decide +kernel
theorem dX10_isMeant_73 : decode cX10_isMeant 73 = .ok (.getfield 560, 3) := by decide +kernel
theorem dX10_isMeant_76 : decode cX10_isMeant 76 = .ok (.aload_n 0, 1) := by decide +kernel
theorem dX10_isMeant_77 : decode cX10_isMeant 77 = .ok (.getfield 563, 3) := by decide +kernel
theorem dX10_isMeant_80 : decode cX10_isMeant 80 = .ok (.invokevirtual 538, 3) := by decide +kernel
theorem dX10_isMeant_83 : decode cX10_isMeant 83 = .ok (.ifCond .ne 5, 3) := by decide +kernel
theorem dX10_isMeant_86 : decode cX10_isMeant 86 = .ok (.iconst 0, 1) := by decide +kernel
theorem dX10_isMeant_87 : decode cX10_isMeant 87 = .ok (.ireturn, 1) := by decide +kernel
theorem dX10_isMeant_88 : decode cX10_isMeant 88 = .ok (.aload_n 0, 1) := by decide +kernel
theorem dX10_isMeant_89 : decode cX10_isMeant 89 = .ok (.aload_n 0, 1) := by decide +kernel
theorem dX10_isMeant_90 : decode cX10_isMeant 90 = .ok (.getfield 240, 3) := by decide +kernel
theorem dX10_isMeant_93 : decode cX10_isMeant 93 = .ok (.iload_n 2, 1) := by decide +kernel
theorem dX10_isMeant_94 : decode cX10_isMeant 94 = .ok (.iaload, 1) := by decide +kernel
theorem dX10_isMeant_95 : decode cX10_isMeant 95 = .ok (.aload_n 0, 1) := by decide +kernel
theorem dX10_isMeant_96 : decode cX10_isMeant 96 = .ok (.getfield 243, 3) := by decide +kernel
theorem dX10_isMeant_99 : decode cX10_isMeant 99 = .ok (.iload_n 2, 1) := by decide +kernel
theorem dX10_isMeant_100 : decode cX10_isMeant 100 = .ok (.iaload, 1) := by decide +kernel
theorem dX10_isMeant_101 : decode cX10_isMeant 101 = .ok (.aload_n 0, 1) := by decide +kernel
theorem dX10_isMeant_102 : decode cX10_isMeant 102 = .ok (.getfield 246, 3) := by decide +kernel
theorem dX10_isMeant_105 : decode cX10_isMeant 105 = .ok (.iload_n 2, 1) := by decide +kernel
theorem dX10_isMeant_106 : decode cX10_isMeant 106 = .ok (.iaload, 1) := by decide +kernel
theorem dX10_isMeant_107 : decode cX10_isMeant 107 = .ok (.aload_n 0, 1) := by decide +kernel
theorem dX10_isMeant_108 : decode cX10_isMeant 108 = .ok (.getfield 542, 3) := by decide +kernel
theorem dX10_isMeant_111 : decode cX10_isMeant 111 = .ok (.aload_n 0, 1) := by decide +kernel
theorem dX10_isMeant_112 : decode cX10_isMeant 112 = .ok (.getfield 545, 3) := by decide +kernel
theorem dX10_isMeant_115 : decode cX10_isMeant 115 = .ok (.aload_n 0, 1) := by decide +kernel
theorem dX10_isMeant_116 : decode cX10_isMeant 116 = .ok (.getfield 548, 3) := by decide +kernel
theorem dX10_isMeant_119 : decode cX10_isMeant 119 = .ok (.invokevirtual 502, 3) := by decide +kernel
theorem dX10_isMeant_122 : decode cX10_isMeant 122 = .ok (.ifCond .ne 5, 3) := by decide +kernel
theorem dX10_isMeant_125 : decode cX10_isMeant 125 = .ok (.iconst 0, 1) := by decide +kernel
theorem dX10_isMeant_126 : decode cX10_isMeant 126 = .ok (.ireturn, 1) := by decide +kernel
theorem dX10_isMeant_127 : decode cX10_isMeant 127 = .ok (.aload_n 0, 1) := by decide +kernel
theorem dX10_isMeant_128 : decode cX10_isMeant 128 = .ok (.dup, 1) := by decide +kernel
theorem dX10_isMeant_129 : decode cX10_isMeant 129 = .ok (.getfield 572, 3) := by decide +kernel
theorem dX10_isMeant_132 : decode cX10_isMeant 132 = .ok (.aload_n 0, 1) := by decide +kernel
theorem dX10_isMeant_133 : decode cX10_isMeant 133 = .ok (.getfield 240, 3) := by decide +kernel
theorem dX10_isMeant_136 : decode cX10_isMeant 136 = .ok (.iload_n 2, 1) := by decide +kernel
theorem dX10_isMeant_137 : decode cX10_isMeant 137 = .ok (.iaload, 1) := by decide +kernel
theorem dX10_isMeant_138 : decode cX10_isMeant 138 = .ok (.aload_n 0, 1) := by decide +kernel
theorem dX10_isMeant_139 : decode cX10_isMeant 139 = .ok (.getfield 542, 3) := by decide +kernel
theorem dX10_isMeant_142 : decode cX10_isMeant 142 = .ok (.if_icmp .eq 7, 3) := by decide +kernel
theorem dX10_isMeant_145 : decode cX10_isMeant 145 = .ok (.iconst 1, 1) := by decide +kernel
theorem dX10_isMeant_146 : decode cX10_isMeant 146 = .ok (.goto 4, 3) := by decide +kernel
theorem dX10_isMeant_149 : decode cX10_isMeant 149 = .ok (.iconst 0, 1) := by decide +kernel
theorem dX10_isMeant_150 : decode cX10_isMeant 150 = .ok (.aload_n 0, 1) := by decide +kernel
theorem dX10_isMeant_151 : decode cX10_isMeant 151 = .ok (.getfield 246, 3) := by decide +kernel
theorem dX10_isMeant_154 : decode cX10_isMeant 154 = .ok (.iload_n 2, 1) := by decide +kernel
theorem dX10_isMeant_155 : decode cX10_isMeant 155 = .ok (.iaload, 1) := by decide +kernel
theorem dX10_isMeant_156 : decode cX10_isMeant 156 = .ok (.aload_n 0, 1) := by decide +kernel
theorem dX10_isMeant_157 : decode cX10_isMeant 157 = .ok (.getfield 548, 3) := by decide +kernel
theorem dX10_isMeant_160 : decode cX10_isMeant 160 = .ok (.if_icmp .eq 7, 3) := by decide +kernel
theorem dX10_isMeant_163 : decode cX10_isMeant 163 = .ok (.iconst 1, 1) := by decide +kernel
theorem dX10_isMeant_164 : decode cX10_isMeant 164 = .ok (.goto 4, 3) := by decide +kernel
theorem dX10_isMeant_167 : decode cX10_isMeant 167 = .ok (.iconst 0, 1) := by decide +kernel
theorem dX10_isMeant_168 : decode cX10_isMeant 168 = .ok (.iadd, 1) := by decide +kernel
theorem dX10_isMeant_169 : decode cX10_isMeant 169 = .ok (.aload_n 0, 1) := by decide +kernel
theorem dX10_isMeant_170 : decode cX10_isMeant 170 = .ok (.getfield 545, 3) := by decide +kernel
theorem dX10_isMeant_173 : decode cX10_isMeant 173 = .ok (.iadd, 1) := by decide +kernel
theorem dX10_isMeant_174 : decode cX10_isMeant 174 = .ok (.aload_n 0, 1) := by decide +kernel
theorem dX10_isMeant_175 : decode cX10_isMeant 175 = .ok (.getfield 243, 3) := by decide +kernel
theorem dX10_isMeant_178 : decode cX10_isMeant 178 = .ok (.iload_n 2, 1) := by decide +kernel
theorem dX10_isMeant_179 : decode cX10_isMeant 179 = .ok (.iaload, 1) := by decide +kernel
theorem dX10_isMeant_180 : decode cX10_isMeant 180 = .ok (.isub, 1) := by decide +kernel
theorem dX10_isMeant_181 : decode cX10_isMeant 181 = .ok (.iadd, 1) := by decide +kernel
theorem dX10_isMeant_182 : decode cX10_isMeant 182 = .ok (.putfield 572, 3) := by decide +kernel
theorem dX10_isMeant_185 : decode cX10_isMeant 185 = .ok (.iinc 2 1, 3) := by decide +kernel
theorem dX10_isMeant_188 : decode cX10_isMeant 188 = .ok (.goto (-131), 3) := by decide +kernel
theorem dX10_isMeant_191 : decode cX10_isMeant 191 = .ok (.iconst 1, 1) := by decide +kernel
theorem dX10_isMeant_192 : decode cX10_isMeant 192 = .ok (.ireturn, 1) := by decide +kernel
/-! AlgebraHouseModel.isMeant(I)Z -/
def P_X10_isMeant_57 (Q : Int → MM → Prop) : Nat → Int → Int → MM → Prop
  | 0, _, _, _ => False
  | n + 1, x1, x2, m => (RI x2) ∧ (RI (m 582 73)) ∧ (if (m 582 73) ≤ x2 then Q 1 m else P_X10_instance x1 x2 (m 582 75) (m 582 76) (m 582 77) m (fun r1 m1 => (RI r1) ∧ (if r1 = 0 then Q 0 m1 else (0 ≤ x2 ∧ x2 < 3) ∧ P_X10_goes (m1 632 x2) (m1 633 x2) (m1 634 x2) (m1 582 70) (m1 582 71) (m1 582 72) m1 (fun r2 m2 => (RI r2) ∧ (if r2 = 0 then Q 0 m2 else ((RI (m2 632 x2)) ∧ (RI (m2 582 70))) ∧ ((RI (m2 634 x2)) ∧ (RI (m2 582 72))) ∧ ∀ m3 : MM, m3 = up m2 582 74 ((m2 582 74) + ((((if (m2 632 x2) = (m2 582 70) then 0 else 1 : Int) + (if (m2 634 x2) = (m2 582 72) then 0 else 1 : Int)) + (m2 582 71)) - (m2 633 x2))) → P_X10_isMeant_57 Q n x1 (x2 + 1) m3)))))
def P_X10_isMeant_50 (Q : Int → MM → Prop) (x1 : Int) (m : MM) : Prop := ∀ m1 : MM, m1 = up m 582 74 0 → ∃ nn, P_X10_isMeant_57 Q nn x1 0 m1
def P_X10_isMeant (x1 : Int) (m : MM) (Q : Int → MM → Prop) : Prop := ∀ m1 : MM, m1 = up m 582 75 (-9) → ∀ m2 : MM, m2 = up m1 582 76 0 → ∀ m3 : MM, m3 = up m2 582 77 0 → (0 ≤ x1 ∧ x1 < 21) ∧ (RI (m3 609 x1)) ∧ (RI (m3 582 73)) ∧ (if (m3 609 x1) = (m3 582 73) then (RI (m3 611 x1)) ∧ (if (m3 611 x1) ≤ 0 then P_X10_isMeant_50 Q x1 m3 else P_X10_findR x1 m3 (fun r1 m4 => (RI r1) ∧ (if r1 = 0 then Q 0 m4 else P_X10_isMeant_50 Q x1 m4))) else Q 0 m3)
theorem pl_X10_isMeant_57 {f : Nat} {Q : Int → MM → Prop} {T : MM → Prop} (hf : 4 ≤ f) : ∀ (n : Nat) (x1 : Int) (x2 : Int) (m : MM), P_X10_isMeant_57 Q n x1 x2 m → B f M_X10_isMeant 57 [vR 582, vI x1, vI x2] [] m Q T := by
  intro n
  induction n with
  | zero => intro x1 x2 m h; exact h.elim
  | succ n ih =>
    intro x1 x2 m h
    have h : (RI x2) ∧ (RI (m 582 73)) ∧ (if (m 582 73) ≤ x2 then Q 1 m else P_X10_instance x1 x2 (m 582 75) (m 582 76) (m 582 77) m (fun r1 m1 => (RI r1) ∧ (if r1 = 0 then Q 0 m1 else (0 ≤ x2 ∧ x2 < 3) ∧ P_X10_goes (m1 632 x2) (m1 633 x2) (m1 634 x2) (m1 582 70) (m1 582 71) (m1 582 72) m1 (fun r2 m2 => (RI r2) ∧ (if r2 = 0 then Q 0 m2 else ((RI (m2 632 x2)) ∧ (RI (m2 582 70))) ∧ ((RI (m2 634 x2)) ∧ (RI (m2 582 72))) ∧ ∀ m3 : MM, m3 = up m2 582 74 ((m2 582 74) + ((((if (m2 632 x2) = (m2 582 70) then 0 else 1 : Int) + (if (m2 634 x2) = (m2 582 72) then 0 else 1 : Int)) + (m2 582 71)) - (m2 633 x2))) → P_X10_isMeant_57 Q n x1 (x2 + 1) m3))))) := h
    refine b_iload_n dX10_isMeant_57 rfl ?_
    refine b_aload_n dX10_isMeant_58 rfl ?_
    refine b_getI dX10_isMeant_59 fk_X10_566 ly_582 ?_
    obtain ⟨g1, h⟩ := h
    obtain ⟨g2, h⟩ := h
    refine b_icmp_ge 191 dX10_isMeant_62 g1 g2 (by decide) (fun c1 => ?_) (fun c1 => ?_)
    · have h := ifT c1 h
      refine b_iconst dX10_isMeant_191 ?_
      exact b_zret dX10_isMeant_192 rfl (Or.inr rfl) h
    · have h := ifF c1 h
      refine b_aload_n dX10_isMeant_65 rfl ?_
      refine b_iload_n dX10_isMeant_66 rfl ?_
      refine b_iload_n dX10_isMeant_67 rfl ?_
      refine b_aload_n dX10_isMeant_68 rfl ?_
      refine b_getI dX10_isMeant_69 fk_X10_557 ly_582 ?_
      refine b_aload_n dX10_isMeant_72 rfl ?_
      refine b_getI dX10_isMeant_73 fk_X10_560 ly_582 ?_
      refine b_aload_n dX10_isMeant_76 rfl ?_
      refine b_getI dX10_isMeant_77 fk_X10_563 ly_582 ?_
      refine b_cVi (as := [vI x1, vI x2, vI (m 582 75), vI (m 582 76), vI (m 582 77)]) (st := []) dX10_isMeant_80 mf_X10_instance qs137 lk_X10_538 ly_582 rfl (p_X10_instance (f := 1) (Nat.le_refl _) _ _ _ _ _ _ h) (by omega) rfl rfl (Nat.le_of_ble_eq_true rfl) (by decide) rfl (fun _ => rfl) (fun r1 m1 h => ?_) (fun _ h => h)
      obtain ⟨g3, h⟩ := h
      refine b_if_ne 88 dX10_isMeant_83 g3 (by decide) (fun c2 => ?_) (fun c2 => ?_)
      · have h := ifF c2 h
        refine b_aload_n dX10_isMeant_88 rfl ?_
        refine b_aload_n dX10_isMeant_89 rfl ?_
        refine b_getR dX10_isMeant_90 fk_X10_240 ly_582 gg_582_78 ?_
        refine b_iload_n dX10_isMeant_93 rfl ?_
        obtain ⟨g4, h⟩ := h
        refine b_iald dX10_isMeant_94 ly_632 g4 ?_
        refine b_aload_n dX10_isMeant_95 rfl ?_
        refine b_getR dX10_isMeant_96 fk_X10_243 ly_582 gg_582_79 ?_
        refine b_iload_n dX10_isMeant_99 rfl ?_
        refine b_iald dX10_isMeant_100 ly_633 g4 ?_
        refine b_aload_n dX10_isMeant_101 rfl ?_
        refine b_getR dX10_isMeant_102 fk_X10_246 ly_582 gg_582_80 ?_
        refine b_iload_n dX10_isMeant_105 rfl ?_
        refine b_iald dX10_isMeant_106 ly_634 g4 ?_
        refine b_aload_n dX10_isMeant_107 rfl ?_
        refine b_getI dX10_isMeant_108 fk_X10_542 ly_582 ?_
        refine b_aload_n dX10_isMeant_111 rfl ?_
        refine b_getI dX10_isMeant_112 fk_X10_545 ly_582 ?_
        refine b_aload_n dX10_isMeant_115 rfl ?_
        refine b_getI dX10_isMeant_116 fk_X10_548 ly_582 ?_
        refine b_cVi (as := [vI (m1 632 x2), vI (m1 633 x2), vI (m1 634 x2), vI (m1 582 70), vI (m1 582 71), vI (m1 582 72)]) (st := []) dX10_isMeant_119 mf_X10_goes qs145 lk_X10_502 ly_582 rfl (p_X10_goes (f := 3) (Nat.le_refl _) _ _ _ _ _ _ _ h) (by omega) rfl rfl (Nat.le_of_ble_eq_true rfl) (by decide) rfl (fun _ => rfl) (fun r2 m2 h => ?_) (fun _ h => h)
        obtain ⟨g5, h⟩ := h
        refine b_if_ne 127 dX10_isMeant_122 g5 (by decide) (fun c3 => ?_) (fun c3 => ?_)
        · have h := ifF c3 h
          refine b_aload_n dX10_isMeant_127 rfl ?_
          refine b_dup dX10_isMeant_128 rfl ?_
          refine b_getI dX10_isMeant_129 fk_X10_572 ly_582 ?_
          refine b_aload_n dX10_isMeant_132 rfl ?_
          refine b_getR dX10_isMeant_133 fk_X10_240 ly_582 gg_582_78 ?_
          refine b_iload_n dX10_isMeant_136 rfl ?_
          refine b_iald dX10_isMeant_137 ly_632 g4 ?_
          refine b_aload_n dX10_isMeant_138 rfl ?_
          refine b_getI dX10_isMeant_139 fk_X10_542 ly_582 ?_
          obtain ⟨hs, h⟩ := h
          have K : B f M_X10_isMeant 150 [vR 582, vI x1, vI x2] [vI (if (m2 632 x2) = (m2 582 70) then 0 else 1 : Int), vI (m2 582 74), vR 582] m2 Q T := by
            clear hs
            refine b_aload_n dX10_isMeant_150 rfl ?_
            refine b_getR dX10_isMeant_151 fk_X10_246 ly_582 gg_582_80 ?_
            refine b_iload_n dX10_isMeant_154 rfl ?_
            refine b_iald dX10_isMeant_155 ly_634 g4 ?_
            refine b_aload_n dX10_isMeant_156 rfl ?_
            refine b_getI dX10_isMeant_157 fk_X10_548 ly_582 ?_
            obtain ⟨hs, h⟩ := h
            have K : B f M_X10_isMeant 168 [vR 582, vI x1, vI x2] [vI (if (m2 634 x2) = (m2 582 72) then 0 else 1 : Int), vI (if (m2 632 x2) = (m2 582 70) then 0 else 1 : Int), vI (m2 582 74), vR 582] m2 Q T := by
              clear hs
              refine b_iadd dX10_isMeant_168 ?_
              refine b_aload_n dX10_isMeant_169 rfl ?_
              refine b_getI dX10_isMeant_170 fk_X10_545 ly_582 ?_
              refine b_iadd dX10_isMeant_173 ?_
              refine b_aload_n dX10_isMeant_174 rfl ?_
              refine b_getR dX10_isMeant_175 fk_X10_243 ly_582 gg_582_79 ?_
              refine b_iload_n dX10_isMeant_178 rfl ?_
              refine b_iald dX10_isMeant_179 ly_633 g4 ?_
              refine b_isub dX10_isMeant_180 ?_
              refine b_iadd dX10_isMeant_181 ?_
              refine b_putI dX10_isMeant_182 fk_X10_572 ly_582 (fun m3 em3 => ?_)
              have h := h m3 em3
              refine b_iinc (ls' := [vR 582, vI x1, vI (x2 + 1)]) dX10_isMeant_185 rfl rfl ?_
              refine b_goto 57 dX10_isMeant_188 (by decide) ?_
              exact ih _ _ _ h
            obtain ⟨g8, g9⟩ := hs
            refine b_icmp_eq 167 dX10_isMeant_160 g8 g9 (by decide) (fun c4 => ?_) (fun c4 => ?_)
            ·
              refine b_iconst dX10_isMeant_167 ?_
              rw [if_pos c4] at K
              exact K
            ·
              refine b_iconst dX10_isMeant_163 ?_
              refine b_goto 168 dX10_isMeant_164 (by decide) ?_
              rw [if_neg c4] at K
              exact K
          obtain ⟨g6, g7⟩ := hs
          refine b_icmp_eq 149 dX10_isMeant_142 g6 g7 (by decide) (fun c5 => ?_) (fun c5 => ?_)
          ·
            refine b_iconst dX10_isMeant_149 ?_
            rw [if_pos c5] at K
            exact K
          ·
            refine b_iconst dX10_isMeant_145 ?_
            refine b_goto 150 dX10_isMeant_146 (by decide) ?_
            rw [if_neg c5] at K
            exact K
        · have h := ifT (Decidable.of_not_not c3) h
          refine b_iconst dX10_isMeant_125 ?_
          exact b_zret dX10_isMeant_126 rfl (Or.inl rfl) h
      · have h := ifT (Decidable.of_not_not c2) h
        refine b_iconst dX10_isMeant_86 ?_
        exact b_zret dX10_isMeant_87 rfl (Or.inl rfl) h
theorem pl_X10_isMeant_50 {f : Nat} {Q : Int → MM → Prop} {T : MM → Prop} (hf : 4 ≤ f) : ∀ (x1 : Int) (m : MM), P_X10_isMeant_50 Q x1 m → B f M_X10_isMeant 50 [vR 582, vI x1, vU] [] m Q T := by
  intro x1 m h
  have h : ∀ m1 : MM, m1 = up m 582 74 0 → ∃ nn, P_X10_isMeant_57 Q nn x1 0 m1 := h
  refine b_aload_n dX10_isMeant_50 rfl ?_
  refine b_iconst dX10_isMeant_51 ?_
  refine b_putI dX10_isMeant_52 fk_X10_572 ly_582 (fun m1 em1 => ?_)
  have h := h m1 em1
  refine b_iconst dX10_isMeant_55 ?_
  refine b_istore_n (ls' := [vR 582, vI x1, vI 0]) dX10_isMeant_56 (Nat.le_of_ble_eq_true rfl) rfl ?_
  obtain ⟨nn, h⟩ := h
  exact pl_X10_isMeant_57 hf nn _ _ _ h
theorem p_X10_isMeant {f : Nat} {Q : Int → MM → Prop} {T : MM → Prop} (hf : 4 ≤ f) (x1 : Int) (m : MM) (h : P_X10_isMeant x1 m Q) : CC f M_X10_isMeant [vR 582, vI x1] m Q T := by
  refine CC.of (plainFor_of_name (by decide)) (Nat.le_of_ble_eq_true rfl) (ls := [vR 582, vI x1, vU]) rfl ?_
  have h : ∀ m1 : MM, m1 = up m 582 75 (-9) → ∀ m2 : MM, m2 = up m1 582 76 0 → ∀ m3 : MM, m3 = up m2 582 77 0 → (0 ≤ x1 ∧ x1 < 21) ∧ (RI (m3 609 x1)) ∧ (RI (m3 582 73)) ∧ (if (m3 609 x1) = (m3 582 73) then (RI (m3 611 x1)) ∧ (if (m3 611 x1) ≤ 0 then P_X10_isMeant_50 Q x1 m3 else P_X10_findR x1 m3 (fun r1 m4 => (RI r1) ∧ (if r1 = 0 then Q 0 m4 else P_X10_isMeant_50 Q x1 m4))) else Q 0 m3) := h
  refine b_aload_n dX10_isMeant_0 rfl ?_
  refine b_bipush dX10_isMeant_1 (by decide) ?_
  refine b_putI dX10_isMeant_3 fk_X10_557 ly_582 (fun m1 em1 => ?_)
  have h := h m1 em1
  refine b_aload_n dX10_isMeant_6 rfl ?_
  refine b_iconst dX10_isMeant_7 ?_
  refine b_putI dX10_isMeant_8 fk_X10_560 ly_582 (fun m2 em2 => ?_)
  have h := h m2 em2
  refine b_aload_n dX10_isMeant_11 rfl ?_
  refine b_iconst dX10_isMeant_12 ?_
  refine b_putI dX10_isMeant_13 fk_X10_563 ly_582 (fun m3 em3 => ?_)
  have h := h m3 em3
  refine b_aload_n dX10_isMeant_16 rfl ?_
  refine b_getR dX10_isMeant_17 fk_X10_164 ly_582 gg_582_38 ?_
  refine b_iload_n dX10_isMeant_20 rfl ?_
  obtain ⟨g1, h⟩ := h
  refine b_iald dX10_isMeant_21 ly_609 g1 ?_
  refine b_aload_n dX10_isMeant_22 rfl ?_
  refine b_getI dX10_isMeant_23 fk_X10_566 ly_582 ?_
  obtain ⟨g2, h⟩ := h
  obtain ⟨g3, h⟩ := h
  refine b_icmp_eq 31 dX10_isMeant_26 g2 g3 (by decide) (fun c1 => ?_) (fun c1 => ?_)
  · have h := ifT c1 h
    refine b_aload_n dX10_isMeant_31 rfl ?_
    refine b_getR dX10_isMeant_32 fk_X10_170 ly_582 gg_582_40 ?_
    refine b_iload_n dX10_isMeant_35 rfl ?_
    refine b_iald dX10_isMeant_36 ly_611 g1 ?_
    obtain ⟨g4, h⟩ := h
    refine b_if_le 50 dX10_isMeant_37 g4 (by decide) (fun c2 => ?_) (fun c2 => ?_)
    · have h := ifT c2 h
      exact pl_X10_isMeant_50 hf _ _ h
    · have h := ifF c2 h
      refine b_aload_n dX10_isMeant_40 rfl ?_
      refine b_iload_n dX10_isMeant_41 rfl ?_
      refine b_cVi (as := [vI x1]) (st := []) dX10_isMeant_42 mf_X10_findR qs142 lk_X10_569 ly_582 rfl (p_X10_findR (f := 3) (Nat.le_refl _) _ _ h) (by omega) rfl rfl (Nat.le_of_ble_eq_true rfl) (by decide) rfl (fun _ => rfl) (fun r1 m4 h => ?_) (fun _ h => h)
      obtain ⟨g5, h⟩ := h
      refine b_if_ne 50 dX10_isMeant_45 g5 (by decide) (fun c3 => ?_) (fun c3 => ?_)
      · have h := ifF c3 h
        exact pl_X10_isMeant_50 hf _ _ h
      · have h := ifT (Decidable.of_not_not c3) h
        refine b_iconst dX10_isMeant_48 ?_
        exact b_zret dX10_isMeant_49 rfl (Or.inl rfl) h
  · have h := ifF c1 h
    refine b_iconst dX10_isMeant_29 ?_
    exact b_zret dX10_isMeant_30 rfl (Or.inl rfl) h
theorem dX10_meantOf_0 : decode cX10_meantOf 0 = .ok (.iconst (-1), 1) := by decide +kernel
theorem dX10_meantOf_1 : decode cX10_meantOf 1 = .ok (.istore 4, 2) := by decide +kernel
theorem dX10_meantOf_3 : decode cX10_meantOf 3 = .ok (.iconst 0, 1) := by decide +kernel
theorem dX10_meantOf_4 : decode cX10_meantOf 4 = .ok (.istore 5, 2) := by decide +kernel
theorem dX10_meantOf_6 : decode cX10_meantOf 6 = .ok (.iconst 0, 1) := by decide +kernel
theorem dX10_meantOf_7 : decode cX10_meantOf 7 = .ok (.istore 6, 2) := by decide +kernel
theorem dX10_meantOf_9 : decode cX10_meantOf 9 = .ok (.iload 6, 2) := by decide +kernel
theorem dX10_meantOf_11 : decode cX10_meantOf 11 = .ok (.iload_n 3, 1) := by decide +kernel
theorem dX10_meantOf_12 : decode cX10_meantOf 12 = .ok (.if_icmp .ge 125, 3) := by decide +kernel
theorem dX10_meantOf_15 : decode cX10_meantOf 15 = .ok (.aload_n 0, 1) := by decide +kernel
theorem dX10_meantOf_16 : decode cX10_meantOf 16 = .ok (.getfield 155, 3) := by decide +kernel
theorem dX10_meantOf_19 : decode cX10_meantOf 19 = .ok (.iload 6, 2) := by decide +kernel
theorem dX10_meantOf_21 : decode cX10_meantOf 21 = .ok (.laload, 1) := by decide +kernel
theorem dX10_meantOf_22 : decode cX10_meantOf 22 = .ok (.lload_n 1, 1) := by decide +kernel
theorem dX10_meantOf_23 : decode cX10_meantOf 23 = .ok (.lcmp, 1) := by decide +kernel
theorem dX10_meantOf_24 : decode cX10_meantOf 24 = .ok (.ifCond .ne 107, 3) := by decide +kernel
theorem dX10_meantOf_27 : decode cX10_meantOf 27 = .ok (.aload_n 0, 1) := by decide +kernel
theorem dX10_meantOf_28 : decode cX10_meantOf 28 = .ok (.iload 6, 2) := by decide +kernel
theorem dX10_meantOf_30 : decode cX10_meantOf 30 = .ok (.invokevirtual 579, 3) := by decide +kernel
theorem dX10_meantOf_33 : decode cX10_meantOf 33 = .ok (.ifCond .ne 6, 3) := by decide +kernel
theorem dX10_meantOf_36 : decode cX10_meantOf 36 = .ok (.goto 95, 3) := by decide +kernel
theorem dX10_meantOf_39 : decode cX10_meantOf 39 = .ok (.iload 4, 2) := by decide +kernel
theorem dX10_meantOf_41 : decode cX10_meantOf 41 = .ok (.ifCond .lt 41, 3) := by decide +kernel
theorem dX10_meantOf_44 : decode cX10_meantOf 44 = .ok (.aload_n 0, 1) := by decide +kernel
theorem dX10_meantOf_45 : decode cX10_meantOf 45 = .ok (.getfield 572, 3) := by decide +kernel
theorem dX10_meantOf_48 : decode cX10_meantOf 48 = .ok (.iload 5, 2) := by decide +kernel
theorem dX10_meantOf_50 : decode cX10_meantOf 50 = .ok (.if_icmp .lt 32, 3) := by decide +kernel
theorem dX10_meantOf_53 : decode cX10_meantOf 53 = .ok (.aload_n 0, 1) := by decide +kernel
theorem dX10_meantOf_54 : decode cX10_meantOf 54 = .ok (.getfield 572, 3) := by decide +kernel
theorem dX10_meantOf_57 : decode cX10_meantOf 57 = .ok (.iload 5, 2) := by decide +kernel
theorem dX10_meantOf_59 : decode cX10_meantOf 59 = .ok (.if_icmp .ne 27, 3) := by decide +kernel
theorem dX10_meantOf_62 : decode cX10_meantOf 62 = .ok (.aload_n 0, 1) := by decide +kernel
theorem dX10_meantOf_63 : decode cX10_meantOf 63 = .ok (.getfield 170, 3) := by decide +kernel
theorem dX10_meantOf_66 : decode cX10_meantOf 66 = .ok (.iload 4, 2) := by decide +kernel
theorem dX10_meantOf_68 : decode cX10_meantOf 68 = .ok (.iaload, 1) := by decide +kernel
theorem dX10_meantOf_69 : decode cX10_meantOf 69 = .ok (.ifCond .le 17, 3) := by decide +kernel
theorem dX10_meantOf_72 : decode cX10_meantOf 72 = .ok (.aload_n 0, 1) := by decide +kernel
theorem dX10_meantOf_73 : decode cX10_meantOf 73 = .ok (.getfield 170, 3) := by decide +kernel
theorem dX10_meantOf_76 : decode cX10_meantOf 76 = .ok (.iload 6, 2) := by decide +kernel
theorem dX10_meantOf_78 : decode cX10_meantOf 78 = .ok (.iaload, 1) := by decide +kernel
theorem dX10_meantOf_79 : decode cX10_meantOf 79 = .ok (.ifCond .ne 7, 3) := by decide +kernel
theorem dX10_meantOf_82 : decode cX10_meantOf 82 = .ok (.iconst 1, 1) := by decide +kernel
theorem dX10_meantOf_83 : decode cX10_meantOf 83 = .ok (.goto 4, 3) := by decide +kernel
theorem dX10_meantOf_86 : decode cX10_meantOf 86 = .ok (.iconst 0, 1) := by decide +kernel
theorem dX10_meantOf_87 : decode cX10_meantOf 87 = .ok (.istore 7, 2) := by decide +kernel
theorem dX10_meantOf_89 : decode cX10_meantOf 89 = .ok (.iload 7, 2) := by decide +kernel
theorem dX10_meantOf_91 : decode cX10_meantOf 91 = .ok (.ifCond .ne 6, 3) := by decide +kernel
theorem dX10_meantOf_94 : decode cX10_meantOf 94 = .ok (.goto 37, 3) := by decide +kernel
theorem dX10_meantOf_97 : decode cX10_meantOf 97 = .ok (.iload 6, 2) := by decide +kernel
theorem dX10_meantOf_99 : decode cX10_meantOf 99 = .ok (.istore 4, 2) := by decide +kernel
theorem dX10_meantOf_101 : decode cX10_meantOf 101 = .ok (.aload_n 0, 1) := by decide +kernel
theorem dX10_meantOf_102 : decode cX10_meantOf 102 = .ok (.getfield 572, 3) := by decide +kernel
theorem dX10_meantOf_105 : decode cX10_meantOf 105 = .ok (.istore 5, 2) := by decide +kernel
theorem dX10_meantOf_107 : decode cX10_meantOf 107 = .ok (.aload_n 0, 1) := by decide +kernel
theorem dX10_meantOf_108 : decode cX10_meantOf 108 = .ok (.aload_n 0, 1) := by decide +kernel
theorem dX10_meantOf_109 : decode cX10_meantOf 109 = .ok (.getfield 557, 3) := by decide +kernel
theorem dX10_meantOf_112 : decode cX10_meantOf 112 = .ok (.putfield 582, 3) := by decide +kernel
theorem dX10_meantOf_115 : decode cX10_meantOf 115 = .ok (.aload_n 0, 1) := by decide +kernel
theorem dX10_meantOf_116 : decode cX10_meantOf 116 = .ok (.aload_n 0, 1) := by decide +kernel
theorem dX10_meantOf_117 : decode cX10_meantOf 117 = .ok (.getfield 560, 3) := by decide +kernel
theorem dX10_meantOf_120 : decode cX10_meantOf 120 = .ok (.putfield 585, 3) := by decide +kernel
theorem dX10_meantOf_123 : decode cX10_meantOf 123 = .ok (.aload_n 0, 1) := by decide +kernel
theorem dX10_meantOf_124 : decode cX10_meantOf 124 = .ok (.aload_n 0, 1) := by decide +kernel
theorem dX10_meantOf_125 : decode cX10_meantOf 125 = .ok (.getfield 563, 3) := by decide +kernel
theorem dX10_meantOf_128 : decode cX10_meantOf 128 = .ok (.putfield 588, 3) := by decide +kernel
theorem dX10_meantOf_131 : decode cX10_meantOf 131 = .ok (.iinc 6 1, 3) := by decide +kernel
theorem dX10_meantOf_134 : decode cX10_meantOf 134 = .ok (.goto (-125), 3) := by decide +kernel
theorem dX10_meantOf_137 : decode cX10_meantOf 137 = .ok (.iload 4, 2) := by decide +kernel
theorem dX10_meantOf_139 : decode cX10_meantOf 139 = .ok (.ireturn, 1) := by decide +kernel
/-! AlgebraHouseModel.meantOf(JI)I -/
def P_X10_meantOf_9 (Q : Int → MM → Prop) : Nat → Int → Int → Int → Int → Int → MM → Prop
  | 0, _, _, _, _, _, _ => False
  | n + 1, x1, x3, x4, x5, x6, m => (RI x6) ∧ (RI x3) ∧ (if x3 ≤ x6 then Q x4 m else (0 ≤ x6 ∧ x6 < 21) ∧ (RL (m 606 x6)) ∧ (RL x1) ∧ (if (m 606 x6) = x1 then P_X10_isMeant x6 m (fun r1 m1 => (RI r1) ∧ (if r1 = 0 then P_X10_meantOf_9 Q n x1 x3 x4 x5 (x6 + 1) m1 else ((RI x4) ∧ (if x4 < 0 then True else ((RI (m1 582 74)) ∧ (RI x5) ∧ (if (m1 582 74) < x5 then True else ((if (m1 582 74) = x5 then ((0 ≤ x4 ∧ x4 < 21) ∧ (RI (m1 611 x4)) ∧ (if (m1 611 x4) ≤ 0 then True else ((RI (m1 611 x6))))) else True)))))) ∧ (RI (if x4 < 0 then 1 else (if (m1 582 74) < x5 then 1 else (if (m1 582 74) = x5 then (if (m1 611 x4) ≤ 0 then 0 else (if (m1 611 x6) = 0 then 1 else 0 : Int) : Int) else 0 : Int) : Int) : Int)) ∧ (if (if x4 < 0 then 1 else (if (m1 582 74) < x5 then 1 else (if (m1 582 74) = x5 then (if (m1 611 x4) ≤ 0 then 0 else (if (m1 611 x6) = 0 then 1 else 0 : Int) : Int) else 0 : Int) : Int) : Int) = 0 then P_X10_meantOf_9 Q n x1 x3 x4 x5 (x6 + 1) m1 else ∀ m2 : MM, m2 = up m1 582 81 (m1 582 75) → ∀ m3 : MM, m3 = up m2 582 82 (m2 582 76) → ∀ m4 : MM, m4 = up m3 582 83 (m3 582 77) → P_X10_meantOf_9 Q n x1 x3 x6 (m1 582 74) (x6 + 1) m4))) else P_X10_meantOf_9 Q n x1 x3 x4 x5 (x6 + 1) m))
def P_X10_meantOf (x1 : Int) (x3 : Int) (m : MM) (Q : Int → MM → Prop) : Prop := ∃ nn, P_X10_meantOf_9 Q nn x1 x3 (-1) 0 0 m
theorem pl_X10_meantOf_9 {f : Nat} {Q : Int → MM → Prop} {T : MM → Prop} (hf : 5 ≤ f) : ∀ (n : Nat) (x1 : Int) (x3 : Int) (x4 : Int) (x5 : Int) (x6 : Int) (m : MM), P_X10_meantOf_9 Q n x1 x3 x4 x5 x6 m → B f M_X10_meantOf 9 [vR 582, vL x1, vU, vI x3, vI x4, vI x5, vI x6, vU] [] m Q T := by
  intro n
  induction n with
  | zero => intro x1 x3 x4 x5 x6 m h; exact h.elim
  | succ n ih =>
    intro x1 x3 x4 x5 x6 m h
    have h : (RI x6) ∧ (RI x3) ∧ (if x3 ≤ x6 then Q x4 m else (0 ≤ x6 ∧ x6 < 21) ∧ (RL (m 606 x6)) ∧ (RL x1) ∧ (if (m 606 x6) = x1 then P_X10_isMeant x6 m (fun r1 m1 => (RI r1) ∧ (if r1 = 0 then P_X10_meantOf_9 Q n x1 x3 x4 x5 (x6 + 1) m1 else ((RI x4) ∧ (if x4 < 0 then True else ((RI (m1 582 74)) ∧ (RI x5) ∧ (if (m1 582 74) < x5 then True else ((if (m1 582 74) = x5 then ((0 ≤ x4 ∧ x4 < 21) ∧ (RI (m1 611 x4)) ∧ (if (m1 611 x4) ≤ 0 then True else ((RI (m1 611 x6))))) else True)))))) ∧ (RI (if x4 < 0 then 1 else (if (m1 582 74) < x5 then 1 else (if (m1 582 74) = x5 then (if (m1 611 x4) ≤ 0 then 0 else (if (m1 611 x6) = 0 then 1 else 0 : Int) : Int) else 0 : Int) : Int) : Int)) ∧ (if (if x4 < 0 then 1 else (if (m1 582 74) < x5 then 1 else (if (m1 582 74) = x5 then (if (m1 611 x4) ≤ 0 then 0 else (if (m1 611 x6) = 0 then 1 else 0 : Int) : Int) else 0 : Int) : Int) : Int) = 0 then P_X10_meantOf_9 Q n x1 x3 x4 x5 (x6 + 1) m1 else ∀ m2 : MM, m2 = up m1 582 81 (m1 582 75) → ∀ m3 : MM, m3 = up m2 582 82 (m2 582 76) → ∀ m4 : MM, m4 = up m3 582 83 (m3 582 77) → P_X10_meantOf_9 Q n x1 x3 x6 (m1 582 74) (x6 + 1) m4))) else P_X10_meantOf_9 Q n x1 x3 x4 x5 (x6 + 1) m)) := h
    refine b_iload dX10_meantOf_9 rfl ?_
    refine b_iload_n dX10_meantOf_11 rfl ?_
    obtain ⟨g1, h⟩ := h
    obtain ⟨g2, h⟩ := h
    refine b_icmp_ge 137 dX10_meantOf_12 g1 g2 (by decide) (fun c1 => ?_) (fun c1 => ?_)
    · have h := ifT c1 h
      refine b_iload dX10_meantOf_137 rfl ?_
      exact b_iret dX10_meantOf_139 rfl h
    · have h := ifF c1 h
      refine b_aload_n dX10_meantOf_15 rfl ?_
      refine b_getR dX10_meantOf_16 fk_X10_155 ly_582 gg_582_35 ?_
      refine b_iload dX10_meantOf_19 rfl ?_
      obtain ⟨g3, h⟩ := h
      refine b_lald dX10_meantOf_21 ly_606 g3 ?_
      refine b_lload_n dX10_meantOf_22 rfl ?_
      obtain ⟨g4, h⟩ := h
      obtain ⟨g5, h⟩ := h
      refine b_lc_ne 131 dX10_meantOf_23 dX10_meantOf_24 g4 g5 (by decide) (fun c2 => ?_) (fun c2 => ?_)
      · have h := ifF c2 h
        refine b_iinc (ls' := [vR 582, vL x1, vU, vI x3, vI x4, vI x5, vI (x6 + 1), vU]) dX10_meantOf_131 rfl rfl ?_
        refine b_goto 9 dX10_meantOf_134 (by decide) ?_
        exact ih _ _ _ _ _ _ h
      · have h := ifT (Decidable.of_not_not c2) h
        refine b_aload_n dX10_meantOf_27 rfl ?_
        refine b_iload dX10_meantOf_28 rfl ?_
        refine b_cVi (as := [vI x6]) (st := []) dX10_meantOf_30 mf_X10_isMeant qs141 lk_X10_579 ly_582 rfl (p_X10_isMeant (f := 4) (Nat.le_refl _) _ _ h) (by omega) rfl rfl (Nat.le_of_ble_eq_true rfl) (by decide) rfl (fun _ => rfl) (fun r1 m1 h => ?_) (fun _ h => h)
        obtain ⟨g6, h⟩ := h
        refine b_if_ne 39 dX10_meantOf_33 g6 (by decide) (fun c3 => ?_) (fun c3 => ?_)
        · have h := ifF c3 h
          refine b_iload dX10_meantOf_39 rfl ?_
          obtain ⟨hs, h⟩ := h
          have K : B f M_X10_meantOf 87 [vR 582, vL x1, vU, vI x3, vI x4, vI x5, vI x6, vU] [vI (if x4 < 0 then 1 else (if (m1 582 74) < x5 then 1 else (if (m1 582 74) = x5 then (if (m1 611 x4) ≤ 0 then 0 else (if (m1 611 x6) = 0 then 1 else 0 : Int) : Int) else 0 : Int) : Int) : Int)] m1 Q T := by
            clear hs
            refine b_istore (ls' := [vR 582, vL x1, vU, vI x3, vI x4, vI x5, vI x6, vI (if x4 < 0 then 1 else (if (m1 582 74) < x5 then 1 else (if (m1 582 74) = x5 then (if (m1 611 x4) ≤ 0 then 0 else (if (m1 611 x6) = 0 then 1 else 0 : Int) : Int) else 0 : Int) : Int) : Int)]) dX10_meantOf_87 (Nat.le_of_ble_eq_true rfl) rfl ?_
            refine b_iload dX10_meantOf_89 rfl ?_
            obtain ⟨g13, h⟩ := h
            refine b_if_ne 97 dX10_meantOf_91 g13 (by decide) (fun c4 => ?_) (fun c4 => ?_)
            · have h := ifF c4 h
              refine b_iload dX10_meantOf_97 rfl ?_
              refine b_istore (ls' := [vR 582, vL x1, vU, vI x3, vI x6, vI x5, vI x6, vI (if x4 < 0 then 1 else (if (m1 582 74) < x5 then 1 else (if (m1 582 74) = x5 then (if (m1 611 x4) ≤ 0 then 0 else (if (m1 611 x6) = 0 then 1 else 0 : Int) : Int) else 0 : Int) : Int) : Int)]) dX10_meantOf_99 (Nat.le_of_ble_eq_true rfl) rfl ?_
              refine b_aload_n dX10_meantOf_101 rfl ?_
              refine b_getI dX10_meantOf_102 fk_X10_572 ly_582 ?_
              refine b_istore (ls' := [vR 582, vL x1, vU, vI x3, vI x6, vI (m1 582 74), vI x6, vI (if x4 < 0 then 1 else (if (m1 582 74) < x5 then 1 else (if (m1 582 74) = x5 then (if (m1 611 x4) ≤ 0 then 0 else (if (m1 611 x6) = 0 then 1 else 0 : Int) : Int) else 0 : Int) : Int) : Int)]) dX10_meantOf_105 (Nat.le_of_ble_eq_true rfl) rfl ?_
              refine b_aload_n dX10_meantOf_107 rfl ?_
              refine b_aload_n dX10_meantOf_108 rfl ?_
              refine b_getI dX10_meantOf_109 fk_X10_557 ly_582 ?_
              refine b_putI dX10_meantOf_112 fk_X10_582 ly_582 (fun m2 em2 => ?_)
              have h := h m2 em2
              refine b_aload_n dX10_meantOf_115 rfl ?_
              refine b_aload_n dX10_meantOf_116 rfl ?_
              refine b_getI dX10_meantOf_117 fk_X10_560 ly_582 ?_
              refine b_putI dX10_meantOf_120 fk_X10_585 ly_582 (fun m3 em3 => ?_)
              have h := h m3 em3
              refine b_aload_n dX10_meantOf_123 rfl ?_
              refine b_aload_n dX10_meantOf_124 rfl ?_
              refine b_getI dX10_meantOf_125 fk_X10_563 ly_582 ?_
              refine b_putI dX10_meantOf_128 fk_X10_588 ly_582 (fun m4 em4 => ?_)
              have h := h m4 em4
              refine b_iinc (ls' := [vR 582, vL x1, vU, vI x3, vI x6, vI (m1 582 74), vI (x6 + 1), vI (if x4 < 0 then 1 else (if (m1 582 74) < x5 then 1 else (if (m1 582 74) = x5 then (if (m1 611 x4) ≤ 0 then 0 else (if (m1 611 x6) = 0 then 1 else 0 : Int) : Int) else 0 : Int) : Int) : Int)]) dX10_meantOf_131 rfl rfl ?_
              refine b_goto 9 dX10_meantOf_134 (by decide) ?_
              refine b_fgt [true, true, false, true, true, true, true, false] (ls' := [vR 582, vL x1, vU, vI x3, vI x6, vI (m1 582 74), vI (x6 + 1), vU]) rfl rfl ?_
              exact ih _ _ _ _ _ _ h
            · have h := ifT (Decidable.of_not_not c4) h
              refine b_goto 131 dX10_meantOf_94 (by decide) ?_
              refine b_iinc (ls' := [vR 582, vL x1, vU, vI x3, vI x4, vI x5, vI (x6 + 1), vI (if x4 < 0 then 1 else (if (m1 582 74) < x5 then 1 else (if (m1 582 74) = x5 then (if (m1 611 x4) ≤ 0 then 0 else (if (m1 611 x6) = 0 then 1 else 0 : Int) : Int) else 0 : Int) : Int) : Int)]) dX10_meantOf_131 rfl rfl ?_
              refine b_goto 9 dX10_meantOf_134 (by decide) ?_
              refine b_fgt [true, true, false, true, true, true, true, false] (ls' := [vR 582, vL x1, vU, vI x3, vI x4, vI x5, vI (x6 + 1), vU]) rfl rfl ?_
              exact ih _ _ _ _ _ _ h
          obtain ⟨g7, hs⟩ := hs
          refine b_if_lt 82 dX10_meantOf_41 g7 (by decide) (fun c5 => ?_) (fun c5 => ?_)
          ·
            refine b_iconst dX10_meantOf_82 ?_
            refine b_goto 87 dX10_meantOf_83 (by decide) ?_
            rw [if_pos c5] at K
            exact K
          ·
            have hs := ifF c5 hs
            obtain ⟨g8, g9, hs⟩ := hs
            refine b_aload_n dX10_meantOf_44 rfl ?_
            refine b_getI dX10_meantOf_45 fk_X10_572 ly_582 ?_
            refine b_iload dX10_meantOf_48 rfl ?_
            refine b_icmp_lt 82 dX10_meantOf_50 g8 g9 (by decide) (fun c6 => ?_) (fun c6 => ?_)
            ·
              refine b_iconst dX10_meantOf_82 ?_
              refine b_goto 87 dX10_meantOf_83 (by decide) ?_
              rw [if_neg c5, if_pos c6] at K
              exact K
            ·
              have hs := ifF c6 hs
              refine b_aload_n dX10_meantOf_53 rfl ?_
              refine b_getI dX10_meantOf_54 fk_X10_572 ly_582 ?_
              refine b_iload dX10_meantOf_57 rfl ?_
              refine b_icmp_ne 86 dX10_meantOf_59 g8 g9 (by decide) (fun c7 => ?_) (fun c7 => ?_)
              ·
                refine b_iconst dX10_meantOf_86 ?_
                rw [if_neg c5, if_neg c6, if_neg c7] at K
                exact K
              ·
                have c7 := Decidable.of_not_not c7
                have hs := ifT c7 hs
                obtain ⟨g10, g11, hs⟩ := hs
                refine b_aload_n dX10_meantOf_62 rfl ?_
                refine b_getR dX10_meantOf_63 fk_X10_170 ly_582 gg_582_40 ?_
                refine b_iload dX10_meantOf_66 rfl ?_
                refine b_iald dX10_meantOf_68 ly_611 g10 ?_
                refine b_if_le 86 dX10_meantOf_69 g11 (by decide) (fun c8 => ?_) (fun c8 => ?_)
                ·
                  refine b_iconst dX10_meantOf_86 ?_
                  rw [if_neg c5, if_neg c6, if_pos c7, if_pos c8] at K
                  exact K
                ·
                  have hs := ifF c8 hs
                  have g12 := hs
                  refine b_aload_n dX10_meantOf_72 rfl ?_
                  refine b_getR dX10_meantOf_73 fk_X10_170 ly_582 gg_582_40 ?_
                  refine b_iload dX10_meantOf_76 rfl ?_
                  refine b_iald dX10_meantOf_78 ly_611 g3 ?_
                  refine b_if_ne 86 dX10_meantOf_79 g12 (by decide) (fun c9 => ?_) (fun c9 => ?_)
                  ·
                    refine b_iconst dX10_meantOf_86 ?_
                    rw [if_neg c5, if_neg c6, if_pos c7, if_neg c8, if_neg c9] at K
                    exact K
                  ·
                    have c9 := Decidable.of_not_not c9
                    refine b_iconst dX10_meantOf_82 ?_
                    refine b_goto 87 dX10_meantOf_83 (by decide) ?_
                    rw [if_neg c5, if_neg c6, if_pos c7, if_neg c8, if_pos c9] at K
                    exact K
        · have h := ifT (Decidable.of_not_not c3) h
          refine b_goto 131 dX10_meantOf_36 (by decide) ?_
          refine b_iinc (ls' := [vR 582, vL x1, vU, vI x3, vI x4, vI x5, vI (x6 + 1), vU]) dX10_meantOf_131 rfl rfl ?_
          refine b_goto 9 dX10_meantOf_134 (by decide) ?_
          exact ih _ _ _ _ _ _ h
theorem p_X10_meantOf {f : Nat} {Q : Int → MM → Prop} {T : MM → Prop} (hf : 5 ≤ f) (x1 : Int) (x3 : Int) (m : MM) (h : P_X10_meantOf x1 x3 m Q) : CC f M_X10_meantOf [vR 582, vL x1, vI x3] m Q T := by
  refine CC.of (plainFor_of_name (by decide)) (Nat.le_of_ble_eq_true rfl) (ls := [vR 582, vL x1, vU, vI x3, vU, vU, vU, vU]) rfl ?_
  have h : ∃ nn, P_X10_meantOf_9 Q nn x1 x3 (-1) 0 0 m := h
  refine b_iconst dX10_meantOf_0 ?_
  refine b_istore (ls' := [vR 582, vL x1, vU, vI x3, vI (-1), vU, vU, vU]) dX10_meantOf_1 (Nat.le_of_ble_eq_true rfl) rfl ?_
  refine b_iconst dX10_meantOf_3 ?_
  refine b_istore (ls' := [vR 582, vL x1, vU, vI x3, vI (-1), vI 0, vU, vU]) dX10_meantOf_4 (Nat.le_of_ble_eq_true rfl) rfl ?_
  refine b_iconst dX10_meantOf_6 ?_
  refine b_istore (ls' := [vR 582, vL x1, vU, vI x3, vI (-1), vI 0, vI 0, vU]) dX10_meantOf_7 (Nat.le_of_ble_eq_true rfl) rfl ?_
  obtain ⟨nn, h⟩ := h
  exact pl_X10_meantOf_9 hf nn _ _ _ _ _ _ h
theorem dX10_variableOf_0 : decode cX10_variableOf 0 = .ok (.iconst 0, 1) := by decide +kernel
theorem dX10_variableOf_1 : decode cX10_variableOf 1 = .ok (.istore_n 3, 1) := by decide +kernel
theorem dX10_variableOf_2 : decode cX10_variableOf 2 = .ok (.iload_n 3, 1) := by decide +kernel
theorem dX10_variableOf_3 : decode cX10_variableOf 3 = .ok (.aload_n 0, 1) := by decide +kernel
theorem dX10_variableOf_4 : decode cX10_variableOf 4 = .ok (.getfield 554, 3) := by decide +kernel
theorem dX10_variableOf_7 : decode cX10_variableOf 7 = .ok (.if_icmp .ge 22, 3) := by decide +kernel
theorem dX10_variableOf_10 : decode cX10_variableOf 10 = .ok (.aload_n 0, 1) := by decide +kernel
theorem dX10_variableOf_11 : decode cX10_variableOf 11 = .ok (.getfield 158, 3) := by decide +kernel
theorem dX10_variableOf_14 : decode cX10_variableOf 14 = .ok (.iload_n 3, 1) := by decide +kernel
theorem dX10_variableOf_15 : decode cX10_variableOf 15 = .ok (.laload, 1) := by decide +kernel
theorem dX10_variableOf_16 : decode cX10_variableOf 16 = .ok (.lload_n 1, 1) := by decide +kernel
theorem dX10_variableOf_17 : decode cX10_variableOf 17 = .ok (.lcmp, 1) := by decide +kernel
theorem dX10_variableOf_18 : decode cX10_variableOf 18 = .ok (.ifCond .ne 5, 3) := by decide +kernel
theorem dX10_variableOf_21 : decode cX10_variableOf 21 = .ok (.iload_n 3, 1) := by decide +kernel
theorem dX10_variableOf_22 : decode cX10_variableOf 22 = .ok (.ireturn, 1) := by decide +kernel
theorem dX10_variableOf_23 : decode cX10_variableOf 23 = .ok (.iinc 3 1, 3) := by decide +kernel
theorem dX10_variableOf_26 : decode cX10_variableOf 26 = .ok (.goto (-24), 3) := by decide +kernel
theorem dX10_variableOf_29 : decode cX10_variableOf 29 = .ok (.iconst (-1), 1) := by decide +kernel
theorem dX10_variableOf_30 : decode cX10_variableOf 30 = .ok (.ireturn, 1) := by decide +kernel
/-! AlgebraHouseModel.variableOf(J)I -/
def P_X10_variableOf_2 (Q : Int → MM → Prop) : Nat → Int → Int → MM → Prop
  | 0, _, _, _ => False
  | n + 1, x1, x3, m => (RI x3) ∧ (RI (m 582 33)) ∧ (if (m 582 33) ≤ x3 then Q (-1) m else (0 ≤ x3 ∧ x3 < 20) ∧ (RL (m 607 x3)) ∧ (RL x1) ∧ (if (m 607 x3) = x1 then Q x3 m else P_X10_variableOf_2 Q n x1 (x3 + 1) m))
def P_X10_variableOf (x1 : Int) (m : MM) (Q : Int → MM → Prop) : Prop := ∃ nn, P_X10_variableOf_2 Q nn x1 0 m
theorem pl_X10_variableOf_2 {f : Nat} {Q : Int → MM → Prop} {T : MM → Prop} (hf : 1 ≤ f) : ∀ (n : Nat) (x1 : Int) (x3 : Int) (m : MM), P_X10_variableOf_2 Q n x1 x3 m → B f M_X10_variableOf 2 [vR 582, vL x1, vU, vI x3] [] m Q T := by
  intro n
  induction n with
  | zero => intro x1 x3 m h; exact h.elim
  | succ n ih =>
    intro x1 x3 m h
    have h : (RI x3) ∧ (RI (m 582 33)) ∧ (if (m 582 33) ≤ x3 then Q (-1) m else (0 ≤ x3 ∧ x3 < 20) ∧ (RL (m 607 x3)) ∧ (RL x1) ∧ (if (m 607 x3) = x1 then Q x3 m else P_X10_variableOf_2 Q n x1 (x3 + 1) m)) := h
    refine b_iload_n dX10_variableOf_2 rfl ?_
    refine b_aload_n dX10_variableOf_3 rfl ?_
    refine b_getI dX10_variableOf_4 fk_X10_554 ly_582 ?_
    obtain ⟨g1, h⟩ := h
    obtain ⟨g2, h⟩ := h
    refine b_icmp_ge 29 dX10_variableOf_7 g1 g2 (by decide) (fun c1 => ?_) (fun c1 => ?_)
    · have h := ifT c1 h
      refine b_iconst dX10_variableOf_29 ?_
      exact b_iret dX10_variableOf_30 rfl h
    · have h := ifF c1 h
      refine b_aload_n dX10_variableOf_10 rfl ?_
      refine b_getR dX10_variableOf_11 fk_X10_158 ly_582 gg_582_36 ?_
      refine b_iload_n dX10_variableOf_14 rfl ?_
      obtain ⟨g3, h⟩ := h
      refine b_lald dX10_variableOf_15 ly_607 g3 ?_
      refine b_lload_n dX10_variableOf_16 rfl ?_
      obtain ⟨g4, h⟩ := h
      obtain ⟨g5, h⟩ := h
      refine b_lc_ne 23 dX10_variableOf_17 dX10_variableOf_18 g4 g5 (by decide) (fun c2 => ?_) (fun c2 => ?_)
      · have h := ifF c2 h
        refine b_iinc (ls' := [vR 582, vL x1, vU, vI (x3 + 1)]) dX10_variableOf_23 rfl rfl ?_
        refine b_goto 2 dX10_variableOf_26 (by decide) ?_
        exact ih _ _ _ h
      · have h := ifT (Decidable.of_not_not c2) h
        refine b_iload_n dX10_variableOf_21 rfl ?_
        exact b_iret dX10_variableOf_22 rfl h
theorem p_X10_variableOf {f : Nat} {Q : Int → MM → Prop} {T : MM → Prop} (hf : 1 ≤ f) (x1 : Int) (m : MM) (h : P_X10_variableOf x1 m Q) : CC f M_X10_variableOf [vR 582, vL x1] m Q T := by
  refine CC.of (plainFor_of_name (by decide)) (Nat.le_of_ble_eq_true rfl) (ls := [vR 582, vL x1, vU, vU]) rfl ?_
  have h : ∃ nn, P_X10_variableOf_2 Q nn x1 0 m := h
  refine b_iconst dX10_variableOf_0 ?_
  refine b_istore_n (ls' := [vR 582, vL x1, vU, vI 0]) dX10_variableOf_1 (Nat.le_of_ble_eq_true rfl) rfl ?_
  obtain ⟨nn, h⟩ := h
  exact pl_X10_variableOf_2 hf nn _ _ _ h
theorem dX10_judgeName_0 : decode cX10_judgeName 0 = .ok (.aload_n 0, 1) := by decide +kernel
theorem dX10_judgeName_1 : decode cX10_judgeName 1 = .ok (.getfield 231, 3) := by decide +kernel
theorem dX10_judgeName_4 : decode cX10_judgeName 4 = .ok (.ifCond .lt 128, 3) := by decide +kernel
theorem dX10_judgeName_7 : decode cX10_judgeName 7 = .ok (.iconst 0, 1) := by decide +kernel
theorem dX10_judgeName_8 : decode cX10_judgeName 8 = .ok (.istore_n 2, 1) := by decide +kernel
theorem dX10_judgeName_9 : decode cX10_judgeName 9 = .ok (.iload_n 2, 1) := by decide +kernel
theorem dX10_judgeName_10 : decode cX10_judgeName 10 = .ok (.aload_n 0, 1) := by decide +kernel
theorem dX10_judgeName_11 : decode cX10_judgeName 11 = .ok (.getfield 164, 3) := by decide +kernel
theorem dX10_judgeName_14 : decode cX10_judgeName 14 = .ok (.aload_n 0, 1) := by decide +kernel
theorem dX10_judgeName_15 : decode cX10_judgeName 15 = .ok (.getfield 231, 3) := by decide +kernel
theorem dX10_judgeName_18 : decode cX10_judgeName 18 = .ok (.iaload, 1) := by decide +kernel
theorem dX10_judgeName_19 : decode cX10_judgeName 19 = .ok (.if_icmp .ge 48, 3) := by decide +kernel
theorem dX10_judgeName_22 : decode cX10_judgeName 22 = .ok (.aload_n 0, 1) := by decide +kernel
theorem dX10_judgeName_23 : decode cX10_judgeName 23 = .ok (.getfield 127, 3) := by decide +kernel
theorem dX10_judgeName_26 : decode cX10_judgeName 26 = .ok (.iload_n 1, 1) := by decide +kernel
theorem dX10_judgeName_27 : decode cX10_judgeName 27 = .ok (.iaload, 1) := by decide +kernel
theorem dX10_judgeName_28 : decode cX10_judgeName 28 = .ok (.ifCond .ge 39, 3) := by decide +kernel
theorem dX10_judgeName_31 : decode cX10_judgeName 31 = .ok (.aload_n 0, 1) := by decide +kernel
theorem dX10_judgeName_32 : decode cX10_judgeName 32 = .ok (.getfield 161, 3) := by decide +kernel
theorem dX10_judgeName_35 : decode cX10_judgeName 35 = .ok (.iconst 3, 1) := by decide +kernel
theorem dX10_judgeName_36 : decode cX10_judgeName 36 = .ok (.aload_n 0, 1) := by decide +kernel
theorem dX10_judgeName_37 : decode cX10_judgeName 37 = .ok (.getfield 231, 3) := by decide +kernel
theorem dX10_judgeName_40 : decode cX10_judgeName 40 = .ok (.imul, 1) := by decide +kernel
theorem dX10_judgeName_41 : decode cX10_judgeName 41 = .ok (.iload_n 2, 1) := by decide +kernel
theorem dX10_judgeName_42 : decode cX10_judgeName 42 = .ok (.iadd, 1) := by decide +kernel
theorem dX10_judgeName_43 : decode cX10_judgeName 43 = .ok (.laload, 1) := by decide +kernel
theorem dX10_judgeName_44 : decode cX10_judgeName 44 = .ok (.aload_n 0, 1) := by decide +kernel
theorem dX10_judgeName_45 : decode cX10_judgeName 45 = .ok (.getfield 152, 3) := by decide +kernel
theorem dX10_judgeName_48 : decode cX10_judgeName 48 = .ok (.iload_n 1, 1) := by decide +kernel
theorem dX10_judgeName_49 : decode cX10_judgeName 49 = .ok (.laload, 1) := by decide +kernel
theorem dX10_judgeName_50 : decode cX10_judgeName 50 = .ok (.lcmp, 1) := by decide +kernel
theorem dX10_judgeName_51 : decode cX10_judgeName 51 = .ok (.ifCond .ne 10, 3) := by decide +kernel
theorem dX10_judgeName_54 : decode cX10_judgeName 54 = .ok (.aload_n 0, 1) := by decide +kernel
theorem dX10_judgeName_55 : decode cX10_judgeName 55 = .ok (.getfield 127, 3) := by decide +kernel
theorem dX10_judgeName_58 : decode cX10_judgeName 58 = .ok (.iload_n 1, 1) := by decide +kernel
theorem dX10_judgeName_59 : decode cX10_judgeName 59 = .ok (.iload_n 2, 1) := by decide +kernel
theorem dX10_judgeName_60 : decode cX10_judgeName 60 = .ok (.iastore, 1) := by decide +kernel
theorem dX10_judgeName_61 : decode cX10_judgeName 61 = .ok (.iinc 2 1, 3) := by decide +kernel
theorem dX10_judgeName_64 : decode cX10_judgeName 64 = .ok (.goto (-55), 3) := by decide +kernel
theorem dX10_judgeName_67 : decode cX10_judgeName 67 = .ok (.aload_n 0, 1) := by decide +kernel
theorem dX10_judgeName_68 : decode cX10_judgeName 68 = .ok (.getfield 124, 3) := by decide +kernel
theorem dX10_judgeName_71 : decode cX10_judgeName 71 = .ok (.iload_n 1, 1) := by decide +kernel
theorem dX10_judgeName_72 : decode cX10_judgeName 72 = .ok (.iconst 0, 1) := by decide +kernel
theorem dX10_judgeName_73 : decode cX10_judgeName 73 = .ok (.iastore, 1) := by decide +kernel
theorem dX10_judgeName_74 : decode cX10_judgeName 74 = .ok (.aload_n 0, 1) := by decide +kernel
theorem dX10_judgeName_75 : decode cX10_judgeName 75 = .ok (.getfield 127, 3) := by decide +kernel
theorem dX10_judgeName_78 : decode cX10_judgeName 78 = .ok (.iload_n 1, 1) := by decide +kernel
theorem dX10_judgeName_79 : decode cX10_judgeName 79 = .ok (.iaload, 1) := by decide +kernel
theorem dX10_judgeName_80 : decode cX10_judgeName 80 = .ok (.ifCond .lt 122, 3) := by decide +kernel
theorem dX10_judgeName_83 : decode cX10_judgeName 83 = .ok (.aload_n 0, 1) := by decide +kernel
theorem dX10_judgeName_84 : decode cX10_judgeName 84 = .ok (.aload_n 0, 1) := by decide +kernel
theorem dX10_judgeName_85 : decode cX10_judgeName 85 = .ok (.getfield 231, 3) := by decide +kernel
theorem dX10_judgeName_88 : decode cX10_judgeName 88 = .ok (.aload_n 0, 1) := by decide +kernel
theorem dX10_judgeName_89 : decode cX10_judgeName 89 = .ok (.getfield 127, 3) := by decide +kernel
theorem dX10_judgeName_92 : decode cX10_judgeName 92 = .ok (.iload_n 1, 1) := by decide +kernel
theorem dX10_judgeName_93 : decode cX10_judgeName 93 = .ok (.iaload, 1) := by decide +kernel
theorem dX10_judgeName_94 : decode cX10_judgeName 94 = .ok (.aload_n 0, 1) := by decide +kernel
theorem dX10_judgeName_95 : decode cX10_judgeName 95 = .ok (.getfield 234, 3) := by decide +kernel
theorem dX10_judgeName_98 : decode cX10_judgeName 98 = .ok (.aload_n 0, 1) := by decide +kernel
theorem dX10_judgeName_99 : decode cX10_judgeName 99 = .ok (.getfield 509, 3) := by decide +kernel
theorem dX10_judgeName_102 : decode cX10_judgeName 102 = .ok (.aload_n 0, 1) := by decide +kernel
theorem dX10_judgeName_103 : decode cX10_judgeName 103 = .ok (.getfield 512, 3) := by decide +kernel
theorem dX10_judgeName_106 : decode cX10_judgeName 106 = .ok (.invokevirtual 538, 3) := by decide +kernel
theorem dX10_judgeName_109 : decode cX10_judgeName 109 = .ok (.ifCond .eq 93, 3) := by decide +kernel
theorem dX10_judgeName_112 : decode cX10_judgeName 112 = .ok (.aload_n 0, 1) := by decide +kernel
theorem dX10_judgeName_113 : decode cX10_judgeName 113 = .ok (.iload_n 1, 1) := by decide +kernel
theorem dX10_judgeName_114 : decode cX10_judgeName 114 = .ok (.aload_n 0, 1) := by decide +kernel
theorem dX10_judgeName_115 : decode cX10_judgeName 115 = .ok (.getfield 542, 3) := by decide +kernel
theorem dX10_judgeName_118 : decode cX10_judgeName 118 = .ok (.aload_n 0, 1) := by decide +kernel
theorem dX10_judgeName_119 : decode cX10_judgeName 119 = .ok (.getfield 545, 3) := by decide +kernel
theorem dX10_judgeName_122 : decode cX10_judgeName 122 = .ok (.aload_n 0, 1) := by decide +kernel
theorem dX10_judgeName_123 : decode cX10_judgeName 123 = .ok (.getfield 548, 3) := by decide +kernel
theorem dX10_judgeName_126 : decode cX10_judgeName 126 = .ok (.invokevirtual 482, 3) := by decide +kernel
theorem dX10_judgeName_129 : decode cX10_judgeName 129 = .ok (.goto 73, 3) := by decide +kernel
theorem dX10_judgeName_132 : decode cX10_judgeName 132 = .ok (.aload_n 0, 1) := by decide +kernel
theorem dX10_judgeName_133 : decode cX10_judgeName 133 = .ok (.getfield 127, 3) := by decide +kernel
theorem dX10_judgeName_136 : decode cX10_judgeName 136 = .ok (.iload_n 1, 1) := by decide +kernel
theorem dX10_judgeName_137 : decode cX10_judgeName 137 = .ok (.aload_n 0, 1) := by decide +kernel
theorem dX10_judgeName_138 : decode cX10_judgeName 138 = .ok (.aload_n 0, 1) := by decide +kernel
theorem dX10_judgeName_139 : decode cX10_judgeName 139 = .ok (.getfield 152, 3) := by decide +kernel
theorem dX10_judgeName_142 : decode cX10_judgeName 142 = .ok (.iload_n 1, 1) := by decide +kernel
theorem dX10_judgeName_143 : decode cX10_judgeName 143 = .ok (.laload, 1) := by decide +kernel
theorem dX10_judgeName_144 : decode cX10_judgeName 144 = .ok (.invokevirtual 551, 3) := by decide +kernel
theorem dX10_judgeName_147 : decode cX10_judgeName 147 = .ok (.iastore, 1) := by decide +kernel
theorem dX10_judgeName_148 : decode cX10_judgeName 148 = .ok (.aload_n 0, 1) := by decide +kernel
theorem dX10_judgeName_149 : decode cX10_judgeName 149 = .ok (.getfield 124, 3) := by decide +kernel
theorem dX10_judgeName_152 : decode cX10_judgeName 152 = .ok (.iload_n 1, 1) := by decide +kernel
theorem dX10_judgeName_153 : decode cX10_judgeName 153 = .ok (.iconst 1, 1) := by decide +kernel
theorem dX10_judgeName_154 : decode cX10_judgeName 154 = .ok (.iastore, 1) := by decide +kernel
theorem dX10_judgeName_155 : decode cX10_judgeName 155 = .ok (.aload_n 0, 1) := by decide +kernel
theorem dX10_judgeName_156 : decode cX10_judgeName 156 = .ok (.getfield 127, 3) := by decide +kernel
theorem dX10_judgeName_159 : decode cX10_judgeName 159 = .ok (.iload_n 1, 1) := by decide +kernel
theorem dX10_judgeName_160 : decode cX10_judgeName 160 = .ok (.iaload, 1) := by decide +kernel
theorem dX10_judgeName_161 : decode cX10_judgeName 161 = .ok (.ifCond .lt 41, 3) := by decide +kernel
theorem dX10_judgeName_164 : decode cX10_judgeName 164 = .ok (.aload_n 0, 1) := by decide +kernel
theorem dX10_judgeName_165 : decode cX10_judgeName 165 = .ok (.iload_n 1, 1) := by decide +kernel
theorem dX10_judgeName_166 : decode cX10_judgeName 166 = .ok (.aload_n 0, 1) := by decide +kernel
theorem dX10_judgeName_167 : decode cX10_judgeName 167 = .ok (.getfield 206, 3) := by decide +kernel
theorem dX10_judgeName_170 : decode cX10_judgeName 170 = .ok (.aload_n 0, 1) := by decide +kernel
theorem dX10_judgeName_171 : decode cX10_judgeName 171 = .ok (.getfield 127, 3) := by decide +kernel
theorem dX10_judgeName_174 : decode cX10_judgeName 174 = .ok (.iload_n 1, 1) := by decide +kernel
theorem dX10_judgeName_175 : decode cX10_judgeName 175 = .ok (.iaload, 1) := by decide +kernel
theorem dX10_judgeName_176 : decode cX10_judgeName 176 = .ok (.iaload, 1) := by decide +kernel
theorem dX10_judgeName_177 : decode cX10_judgeName 177 = .ok (.aload_n 0, 1) := by decide +kernel
theorem dX10_judgeName_178 : decode cX10_judgeName 178 = .ok (.getfield 209, 3) := by decide +kernel
theorem dX10_judgeName_181 : decode cX10_judgeName 181 = .ok (.aload_n 0, 1) := by decide +kernel
theorem dX10_judgeName_182 : decode cX10_judgeName 182 = .ok (.getfield 127, 3) := by decide +kernel
theorem dX10_judgeName_185 : decode cX10_judgeName 185 = .ok (.iload_n 1, 1) := by decide +kernel
theorem dX10_judgeName_186 : decode cX10_judgeName 186 = .ok (.iaload, 1) := by decide +kernel
theorem dX10_judgeName_187 : decode cX10_judgeName 187 = .ok (.iaload, 1) := by decide +kernel
theorem dX10_judgeName_188 : decode cX10_judgeName 188 = .ok (.aload_n 0, 1) := by decide +kernel
theorem dX10_judgeName_189 : decode cX10_judgeName 189 = .ok (.getfield 212, 3) := by decide +kernel
theorem dX10_judgeName_192 : decode cX10_judgeName 192 = .ok (.aload_n 0, 1) := by decide +kernel
theorem dX10_judgeName_193 : decode cX10_judgeName 193 = .ok (.getfield 127, 3) := by decide +kernel
theorem dX10_judgeName_196 : decode cX10_judgeName 196 = .ok (.iload_n 1, 1) := by decide +kernel
theorem dX10_judgeName_197 : decode cX10_judgeName 197 = .ok (.iaload, 1) := by decide +kernel
theorem dX10_judgeName_198 : decode cX10_judgeName 198 = .ok (.iaload, 1) := by decide +kernel
theorem dX10_judgeName_199 : decode cX10_judgeName 199 = .ok (.invokevirtual 482, 3) := by decide +kernel
theorem dX10_judgeName_202 : decode cX10_judgeName 202 = .ok (.aload_n 0, 1) := by decide +kernel
theorem dX10_judgeName_203 : decode cX10_judgeName 203 = .ok (.getfield 127, 3) := by decide +kernel
theorem dX10_judgeName_206 : decode cX10_judgeName 206 = .ok (.iload_n 1, 1) := by decide +kernel
theorem dX10_judgeName_207 : decode cX10_judgeName 207 = .ok (.iaload, 1) := by decide +kernel
theorem dX10_judgeName_208 : decode cX10_judgeName 208 = .ok (.ifCond .ge 14, 3) := by decide +kernel
theorem dX10_judgeName_211 : decode cX10_judgeName 211 = .ok (.aload_n 0, 1) := by decide +kernel
theorem dX10_judgeName_212 : decode cX10_judgeName 212 = .ok (.iconst 3, 1) := by decide +kernel
theorem dX10_judgeName_213 : decode cX10_judgeName 213 = .ok (.aload_n 0, 1) := by decide +kernel
theorem dX10_judgeName_214 : decode cX10_judgeName 214 = .ok (.getfield 121, 3) := by decide +kernel
theorem dX10_judgeName_217 : decode cX10_judgeName 217 = .ok (.iload_n 1, 1) := by decide +kernel
theorem dX10_judgeName_218 : decode cX10_judgeName 218 = .ok (.iaload, 1) := by decide +kernel
theorem dX10_judgeName_219 : decode cX10_judgeName 219 = .ok (.invokevirtual 472, 3) := by decide +kernel
theorem dX10_judgeName_222 : decode cX10_judgeName 222 = .ok (.return_, 1) := by decide +kernel
/-! AlgebraHouseModel.judgeName(I)V -/
def P_X10_judgeName_202 (Q : Int → MM → Prop) (x1 : Int) (m : MM) : Prop := (0 ≤ x1 ∧ x1 < 12000) ∧ (RI (m 597 x1)) ∧ (if 0 ≤ (m 597 x1) then Q 0 m else P_X10_note 3 (m 595 x1) m (fun r1 m1 => Q 0 m1))
def P_X10_judgeName_67 (Q : Int → MM → Prop) (x1 : Int) (m : MM) : Prop := (0 ≤ x1 ∧ x1 < 12000) ∧ ∀ m1 : MM, m1 = up m 596 x1 0 → (RI (m1 597 x1)) ∧ (if (m1 597 x1) < 0 then P_X10_judgeName_202 Q x1 m1 else P_X10_instance (m1 582 61) (m1 597 x1) (m1 582 62) (m1 582 63) (m1 582 64) m1 (fun r1 m2 => (RI r1) ∧ (if r1 = 0 then P_X10_judgeName_202 Q x1 m2 else P_X10_setRing x1 (m2 582 70) (m2 582 71) (m2 582 72) m2 (fun r2 m3 => P_X10_judgeName_202 Q x1 m3))))
def P_X10_judgeName_9 (Q : Int → MM → Prop) : Nat → Int → Int → MM → Prop
  | 0, _, _, _ => False
  | n + 1, x1, x2, m => (0 ≤ (m 582 61) ∧ (m 582 61) < 21) ∧ (RI x2) ∧ (RI (m 609 (m 582 61))) ∧ (if (m 609 (m 582 61)) ≤ x2 then P_X10_judgeName_67 Q x1 m else (0 ≤ x1 ∧ x1 < 12000) ∧ (RI (m 597 x1)) ∧ (if 0 ≤ (m 597 x1) then P_X10_judgeName_67 Q x1 m else (0 ≤ ((3 * (m 582 61)) + x2) ∧ ((3 * (m 582 61)) + x2) < 63) ∧ (RL (m 608 ((3 * (m 582 61)) + x2))) ∧ (RL (m 605 x1)) ∧ (if (m 608 ((3 * (m 582 61)) + x2)) = (m 605 x1) then ∀ m1 : MM, m1 = up m 597 x1 x2 → P_X10_judgeName_9 Q n x1 (x2 + 1) m1 else P_X10_judgeName_9 Q n x1 (x2 + 1) m)))
def P_X10_judgeName (x1 : Int) (m : MM) (Q : Int → MM → Prop) : Prop := (RI (m 582 61)) ∧ (if (m 582 61) < 0 then (0 ≤ x1 ∧ x1 < 12000) ∧ P_X10_variableOf (m 605 x1) m (fun r1 m1 => ∀ m2 : MM, m2 = up m1 597 x1 r1 → ∀ m3 : MM, m3 = up m2 596 x1 1 → (RI (m3 597 x1)) ∧ (if (m3 597 x1) < 0 then P_X10_judgeName_202 Q x1 m3 else (0 ≤ (m3 597 x1) ∧ (m3 597 x1) < 20) ∧ P_X10_setRing x1 (m3 623 (m3 597 x1)) (m3 624 (m3 597 x1)) (m3 625 (m3 597 x1)) m3 (fun r2 m4 => P_X10_judgeName_202 Q x1 m4))) else ∃ nn, P_X10_judgeName_9 Q nn x1 0 m)
theorem pl_X10_judgeName_202 {f : Nat} {Q : Int → MM → Prop} {T : MM → Prop} (hf : 2 ≤ f) : ∀ (x1 : Int) (m : MM), P_X10_judgeName_202 Q x1 m → B f M_X10_judgeName 202 [vR 582, vI x1, vU] [] m Q T := by
  intro x1 m h
  have h : (0 ≤ x1 ∧ x1 < 12000) ∧ (RI (m 597 x1)) ∧ (if 0 ≤ (m 597 x1) then Q 0 m else P_X10_note 3 (m 595 x1) m (fun r1 m1 => Q 0 m1)) := h
  refine b_aload_n dX10_judgeName_202 rfl ?_
  refine b_getR dX10_judgeName_203 fk_X10_127 ly_582 gg_582_23 ?_
  refine b_iload_n dX10_judgeName_206 rfl ?_
  obtain ⟨g1, h⟩ := h
  refine b_iald dX10_judgeName_207 ly_597 g1 ?_
  obtain ⟨g2, h⟩ := h
  refine b_if_ge 222 dX10_judgeName_208 g2 (by decide) (fun c1 => ?_) (fun c1 => ?_)
  · have h := ifT c1 h
    exact b_vret dX10_judgeName_222 rfl h
  · have h := ifF c1 h
    refine b_aload_n dX10_judgeName_211 rfl ?_
    refine b_iconst dX10_judgeName_212 ?_
    refine b_aload_n dX10_judgeName_213 rfl ?_
    refine b_getR dX10_judgeName_214 fk_X10_121 ly_582 gg_582_21 ?_
    refine b_iload_n dX10_judgeName_217 rfl ?_
    refine b_iald dX10_judgeName_218 ly_595 g1 ?_
    refine b_cVv (as := [vI 3, vI (m 595 x1)]) (st := []) dX10_judgeName_219 mf_X10_note qs129 lk_X10_472 ly_582 rfl (p_X10_note (f := 1) (Nat.le_refl _) _ _ _ h) (by omega) rfl rfl (Nat.le_of_ble_eq_true rfl) (by decide) rfl (fun _ => rfl) (fun r1 m1 h => ?_) (fun _ h => h)
    exact b_vret dX10_judgeName_222 rfl h
theorem pl_X10_judgeName_67 {f : Nat} {Q : Int → MM → Prop} {T : MM → Prop} (hf : 2 ≤ f) : ∀ (x1 : Int) (m : MM), P_X10_judgeName_67 Q x1 m → B f M_X10_judgeName 67 [vR 582, vI x1, vU] [] m Q T := by
  intro x1 m h
  have h : (0 ≤ x1 ∧ x1 < 12000) ∧ ∀ m1 : MM, m1 = up m 596 x1 0 → (RI (m1 597 x1)) ∧ (if (m1 597 x1) < 0 then P_X10_judgeName_202 Q x1 m1 else P_X10_instance (m1 582 61) (m1 597 x1) (m1 582 62) (m1 582 63) (m1 582 64) m1 (fun r1 m2 => (RI r1) ∧ (if r1 = 0 then P_X10_judgeName_202 Q x1 m2 else P_X10_setRing x1 (m2 582 70) (m2 582 71) (m2 582 72) m2 (fun r2 m3 => P_X10_judgeName_202 Q x1 m3)))) := h
  refine b_aload_n dX10_judgeName_67 rfl ?_
  refine b_getR dX10_judgeName_68 fk_X10_124 ly_582 gg_582_22 ?_
  refine b_iload_n dX10_judgeName_71 rfl ?_
  refine b_iconst dX10_judgeName_72 ?_
  obtain ⟨g1, h⟩ := h
  refine b_iast dX10_judgeName_73 ly_596 g1 (fun m1 em1 => ?_)
  have h := h m1 em1
  refine b_aload_n dX10_judgeName_74 rfl ?_
  refine b_getR dX10_judgeName_75 fk_X10_127 ly_582 gg_582_23 ?_
  refine b_iload_n dX10_judgeName_78 rfl ?_
  refine b_iald dX10_judgeName_79 ly_597 g1 ?_
  obtain ⟨g2, h⟩ := h
  refine b_if_lt 202 dX10_judgeName_80 g2 (by decide) (fun c1 => ?_) (fun c1 => ?_)
  · have h := ifT c1 h
    exact pl_X10_judgeName_202 hf _ _ h
  · have h := ifF c1 h
    refine b_aload_n dX10_judgeName_83 rfl ?_
    refine b_aload_n dX10_judgeName_84 rfl ?_
    refine b_getI dX10_judgeName_85 fk_X10_231 ly_582 ?_
    refine b_aload_n dX10_judgeName_88 rfl ?_
    refine b_getR dX10_judgeName_89 fk_X10_127 ly_582 gg_582_23 ?_
    refine b_iload_n dX10_judgeName_92 rfl ?_
    refine b_iald dX10_judgeName_93 ly_597 g1 ?_
    refine b_aload_n dX10_judgeName_94 rfl ?_
    refine b_getI dX10_judgeName_95 fk_X10_234 ly_582 ?_
    refine b_aload_n dX10_judgeName_98 rfl ?_
    refine b_getI dX10_judgeName_99 fk_X10_509 ly_582 ?_
    refine b_aload_n dX10_judgeName_102 rfl ?_
    refine b_getI dX10_judgeName_103 fk_X10_512 ly_582 ?_
    refine b_cVi (as := [vI (m1 582 61), vI (m1 597 x1), vI (m1 582 62), vI (m1 582 63), vI (m1 582 64)]) (st := []) dX10_judgeName_106 mf_X10_instance qs137 lk_X10_538 ly_582 rfl (p_X10_instance (f := 1) (Nat.le_refl _) _ _ _ _ _ _ h) (by omega) rfl rfl (Nat.le_of_ble_eq_true rfl) (by decide) rfl (fun _ => rfl) (fun r1 m2 h => ?_) (fun _ h => h)
    obtain ⟨g3, h⟩ := h
    refine b_if_eq 202 dX10_judgeName_109 g3 (by decide) (fun c2 => ?_) (fun c2 => ?_)
    · have h := ifT c2 h
      exact pl_X10_judgeName_202 hf _ _ h
    · have h := ifF c2 h
      refine b_aload_n dX10_judgeName_112 rfl ?_
      refine b_iload_n dX10_judgeName_113 rfl ?_
      refine b_aload_n dX10_judgeName_114 rfl ?_
      refine b_getI dX10_judgeName_115 fk_X10_542 ly_582 ?_
      refine b_aload_n dX10_judgeName_118 rfl ?_
      refine b_getI dX10_judgeName_119 fk_X10_545 ly_582 ?_
      refine b_aload_n dX10_judgeName_122 rfl ?_
      refine b_getI dX10_judgeName_123 fk_X10_548 ly_582 ?_
      refine b_cVv (as := [vI x1, vI (m2 582 70), vI (m2 582 71), vI (m2 582 72)]) (st := []) dX10_judgeName_126 mf_X10_setRing qs128 lk_X10_482 ly_582 rfl (p_X10_setRing (f := 1) (Nat.le_refl _) _ _ _ _ _ h) (by omega) rfl rfl (Nat.le_of_ble_eq_true rfl) (by decide) rfl (fun _ => rfl) (fun r2 m3 h => ?_) (fun _ h => h)
      refine b_goto 202 dX10_judgeName_129 (by decide) ?_
      exact pl_X10_judgeName_202 hf _ _ h
theorem pl_X10_judgeName_9 {f : Nat} {Q : Int → MM → Prop} {T : MM → Prop} (hf : 2 ≤ f) : ∀ (n : Nat) (x1 : Int) (x2 : Int) (m : MM), P_X10_judgeName_9 Q n x1 x2 m → B f M_X10_judgeName 9 [vR 582, vI x1, vI x2] [] m Q T := by
  intro n
  induction n with
  | zero => intro x1 x2 m h; exact h.elim
  | succ n ih =>
    intro x1 x2 m h
    have h : (0 ≤ (m 582 61) ∧ (m 582 61) < 21) ∧ (RI x2) ∧ (RI (m 609 (m 582 61))) ∧ (if (m 609 (m 582 61)) ≤ x2 then P_X10_judgeName_67 Q x1 m else (0 ≤ x1 ∧ x1 < 12000) ∧ (RI (m 597 x1)) ∧ (if 0 ≤ (m 597 x1) then P_X10_judgeName_67 Q x1 m else (0 ≤ ((3 * (m 582 61)) + x2) ∧ ((3 * (m 582 61)) + x2) < 63) ∧ (RL (m 608 ((3 * (m 582 61)) + x2))) ∧ (RL (m 605 x1)) ∧ (if (m 608 ((3 * (m 582 61)) + x2)) = (m 605 x1) then ∀ m1 : MM, m1 = up m 597 x1 x2 → P_X10_judgeName_9 Q n x1 (x2 + 1) m1 else P_X10_judgeName_9 Q n x1 (x2 + 1) m))) := h
    refine b_iload_n dX10_judgeName_9 rfl ?_
    refine b_aload_n dX10_judgeName_10 rfl ?_
    refine b_getR dX10_judgeName_11 fk_X10_164 ly_582 gg_582_38 ?_
    refine b_aload_n dX10_judgeName_14 rfl ?_
    refine b_getI dX10_judgeName_15 fk_X10_231 ly_582 ?_
    obtain ⟨g1, h⟩ := h
    refine b_iald dX10_judgeName_18 ly_609 g1 ?_
    obtain ⟨g2, h⟩ := h
    obtain ⟨g3, h⟩ := h
    refine b_icmp_ge 67 dX10_judgeName_19 g2 g3 (by decide) (fun c1 => ?_) (fun c1 => ?_)
    · have h := ifT c1 h
      refine b_fgt [true, true, false] (ls' := [vR 582, vI x1, vU]) rfl rfl ?_
      exact pl_X10_judgeName_67 hf _ _ h
    · have h := ifF c1 h
      refine b_aload_n dX10_judgeName_22 rfl ?_
      refine b_getR dX10_judgeName_23 fk_X10_127 ly_582 gg_582_23 ?_
      refine b_iload_n dX10_judgeName_26 rfl ?_
      obtain ⟨g4, h⟩ := h
      refine b_iald dX10_judgeName_27 ly_597 g4 ?_
      obtain ⟨g5, h⟩ := h
      refine b_if_ge 67 dX10_judgeName_28 g5 (by decide) (fun c2 => ?_) (fun c2 => ?_)
      · have h := ifT c2 h
        refine b_fgt [true, true, false] (ls' := [vR 582, vI x1, vU]) rfl rfl ?_
        exact pl_X10_judgeName_67 hf _ _ h
      · have h := ifF c2 h
        refine b_aload_n dX10_judgeName_31 rfl ?_
        refine b_getR dX10_judgeName_32 fk_X10_161 ly_582 gg_582_37 ?_
        refine b_iconst dX10_judgeName_35 ?_
        refine b_aload_n dX10_judgeName_36 rfl ?_
        refine b_getI dX10_judgeName_37 fk_X10_231 ly_582 ?_
        refine b_imul dX10_judgeName_40 ?_
        refine b_iload_n dX10_judgeName_41 rfl ?_
        refine b_iadd dX10_judgeName_42 ?_
        obtain ⟨g6, h⟩ := h
        refine b_lald dX10_judgeName_43 ly_608 g6 ?_
        refine b_aload_n dX10_judgeName_44 rfl ?_
        refine b_getR dX10_judgeName_45 fk_X10_152 ly_582 gg_582_31 ?_
        refine b_iload_n dX10_judgeName_48 rfl ?_
        refine b_lald dX10_judgeName_49 ly_605 g4 ?_
        obtain ⟨g7, h⟩ := h
        obtain ⟨g8, h⟩ := h
        refine b_lc_ne 61 dX10_judgeName_50 dX10_judgeName_51 g7 g8 (by decide) (fun c3 => ?_) (fun c3 => ?_)
        · have h := ifF c3 h
          refine b_iinc (ls' := [vR 582, vI x1, vI (x2 + 1)]) dX10_judgeName_61 rfl rfl ?_
          refine b_goto 9 dX10_judgeName_64 (by decide) ?_
          exact ih _ _ _ h
        · have h := ifT (Decidable.of_not_not c3) h
          refine b_aload_n dX10_judgeName_54 rfl ?_
          refine b_getR dX10_judgeName_55 fk_X10_127 ly_582 gg_582_23 ?_
          refine b_iload_n dX10_judgeName_58 rfl ?_
          refine b_iload_n dX10_judgeName_59 rfl ?_
          refine b_iast dX10_judgeName_60 ly_597 g4 (fun m1 em1 => ?_)
          have h := h m1 em1
          refine b_iinc (ls' := [vR 582, vI x1, vI (x2 + 1)]) dX10_judgeName_61 rfl rfl ?_
          refine b_goto 9 dX10_judgeName_64 (by decide) ?_
          exact ih _ _ _ h
theorem p_X10_judgeName {f : Nat} {Q : Int → MM → Prop} {T : MM → Prop} (hf : 2 ≤ f) (x1 : Int) (m : MM) (h : P_X10_judgeName x1 m Q) : CC f M_X10_judgeName [vR 582, vI x1] m Q T := by
  refine CC.of (plainFor_of_name (by decide)) (Nat.le_of_ble_eq_true rfl) (ls := [vR 582, vI x1, vU]) rfl ?_
  have h : (RI (m 582 61)) ∧ (if (m 582 61) < 0 then (0 ≤ x1 ∧ x1 < 12000) ∧ P_X10_variableOf (m 605 x1) m (fun r1 m1 => ∀ m2 : MM, m2 = up m1 597 x1 r1 → ∀ m3 : MM, m3 = up m2 596 x1 1 → (RI (m3 597 x1)) ∧ (if (m3 597 x1) < 0 then P_X10_judgeName_202 Q x1 m3 else (0 ≤ (m3 597 x1) ∧ (m3 597 x1) < 20) ∧ P_X10_setRing x1 (m3 623 (m3 597 x1)) (m3 624 (m3 597 x1)) (m3 625 (m3 597 x1)) m3 (fun r2 m4 => P_X10_judgeName_202 Q x1 m4))) else ∃ nn, P_X10_judgeName_9 Q nn x1 0 m) := h
  refine b_aload_n dX10_judgeName_0 rfl ?_
  refine b_getI dX10_judgeName_1 fk_X10_231 ly_582 ?_
  obtain ⟨g1, h⟩ := h
  refine b_if_lt 132 dX10_judgeName_4 g1 (by decide) (fun c1 => ?_) (fun c1 => ?_)
  · have h := ifT c1 h
    refine b_aload_n dX10_judgeName_132 rfl ?_
    refine b_getR dX10_judgeName_133 fk_X10_127 ly_582 gg_582_23 ?_
    refine b_iload_n dX10_judgeName_136 rfl ?_
    refine b_aload_n dX10_judgeName_137 rfl ?_
    refine b_aload_n dX10_judgeName_138 rfl ?_
    refine b_getR dX10_judgeName_139 fk_X10_152 ly_582 gg_582_31 ?_
    refine b_iload_n dX10_judgeName_142 rfl ?_
    obtain ⟨g2, h⟩ := h
    refine b_lald dX10_judgeName_143 ly_605 g2 ?_
    refine b_cVi (as := [vL (m 605 x1)]) (st := [vI x1, vR 597]) dX10_judgeName_144 mf_X10_variableOf qs138 lk_X10_551 ly_582 rfl (p_X10_variableOf (f := 1) (Nat.le_refl _) _ _ h) (by omega) rfl rfl (Nat.le_of_ble_eq_true rfl) (by decide) rfl (fun _ => rfl) (fun r1 m1 h => ?_) (fun _ h => h)
    refine b_iast dX10_judgeName_147 ly_597 g2 (fun m2 em2 => ?_)
    have h := h m2 em2
    refine b_aload_n dX10_judgeName_148 rfl ?_
    refine b_getR dX10_judgeName_149 fk_X10_124 ly_582 gg_582_22 ?_
    refine b_iload_n dX10_judgeName_152 rfl ?_
    refine b_iconst dX10_judgeName_153 ?_
    refine b_iast dX10_judgeName_154 ly_596 g2 (fun m3 em3 => ?_)
    have h := h m3 em3
    refine b_aload_n dX10_judgeName_155 rfl ?_
    refine b_getR dX10_judgeName_156 fk_X10_127 ly_582 gg_582_23 ?_
    refine b_iload_n dX10_judgeName_159 rfl ?_
    refine b_iald dX10_judgeName_160 ly_597 g2 ?_
    obtain ⟨g3, h⟩ := h
    refine b_if_lt 202 dX10_judgeName_161 g3 (by decide) (fun c2 => ?_) (fun c2 => ?_)
    · have h := ifT c2 h
      exact pl_X10_judgeName_202 hf _ _ h
    · have h := ifF c2 h
      refine b_aload_n dX10_judgeName_164 rfl ?_
      refine b_iload_n dX10_judgeName_165 rfl ?_
      refine b_aload_n dX10_judgeName_166 rfl ?_
      refine b_getR dX10_judgeName_167 fk_X10_206 ly_582 gg_582_52 ?_
      refine b_aload_n dX10_judgeName_170 rfl ?_
      refine b_getR dX10_judgeName_171 fk_X10_127 ly_582 gg_582_23 ?_
      refine b_iload_n dX10_judgeName_174 rfl ?_
      refine b_iald dX10_judgeName_175 ly_597 g2 ?_
      obtain ⟨g4, h⟩ := h
      refine b_iald dX10_judgeName_176 ly_623 g4 ?_
      refine b_aload_n dX10_judgeName_177 rfl ?_
      refine b_getR dX10_judgeName_178 fk_X10_209 ly_582 gg_582_53 ?_
      refine b_aload_n dX10_judgeName_181 rfl ?_
      refine b_getR dX10_judgeName_182 fk_X10_127 ly_582 gg_582_23 ?_
      refine b_iload_n dX10_judgeName_185 rfl ?_
      refine b_iald dX10_judgeName_186 ly_597 g2 ?_
      refine b_iald dX10_judgeName_187 ly_624 g4 ?_
      refine b_aload_n dX10_judgeName_188 rfl ?_
      refine b_getR dX10_judgeName_189 fk_X10_212 ly_582 gg_582_54 ?_
      refine b_aload_n dX10_judgeName_192 rfl ?_
      refine b_getR dX10_judgeName_193 fk_X10_127 ly_582 gg_582_23 ?_
      refine b_iload_n dX10_judgeName_196 rfl ?_
      refine b_iald dX10_judgeName_197 ly_597 g2 ?_
      refine b_iald dX10_judgeName_198 ly_625 g4 ?_
      refine b_cVv (as := [vI x1, vI (m3 623 (m3 597 x1)), vI (m3 624 (m3 597 x1)), vI (m3 625 (m3 597 x1))]) (st := []) dX10_judgeName_199 mf_X10_setRing qs128 lk_X10_482 ly_582 rfl (p_X10_setRing (f := 1) (Nat.le_refl _) _ _ _ _ _ h) (by omega) rfl rfl (Nat.le_of_ble_eq_true rfl) (by decide) rfl (fun _ => rfl) (fun r2 m4 h => ?_) (fun _ h => h)
      exact pl_X10_judgeName_202 hf _ _ h
  · have h := ifF c1 h
    refine b_iconst dX10_judgeName_7 ?_
    refine b_istore_n (ls' := [vR 582, vI x1, vI 0]) dX10_judgeName_8 (Nat.le_of_ble_eq_true rfl) rfl ?_
    obtain ⟨nn, h⟩ := h
    exact pl_X10_judgeName_9 hf nn _ _ _ h
